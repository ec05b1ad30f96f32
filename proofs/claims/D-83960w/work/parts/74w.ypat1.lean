set_option maxRecDepth 100000
/-! THE HOUSE'S PARSER: patterns in brackets and rows (printed by gen/dsl/p74w.py) -/
def gBrT (pl : Int) (s : List Gt) : Gt := match s with
  | [p] => gsb pl p
  | s => gn 41 [[pl]] s
def gBrP (t : List Int) (R : PX) (σ : Ps) : PR := pOpens t σ fun σ1 => pB (if pIs σ1 29 then pR (gl []) σ1 else pB (R 20 [] [] σ1) fun e σ2 => cons1 e (R 14 [34, 20] [] σ2)) fun l σ3 => pCloses t 29 σ3 fun σ4 => pR (gBrT (pc σ).2.1 (gs l)) σ4
def gLiP (t : List Int) (R : PX) (σ : Ps) : PR := pOpens t σ fun σ1 => pB (if pIs σ1 31 then pR (gl []) σ1 else pB (R 20 [] [] σ1) fun e σ2 => cons1 e (R 14 [34, 20] [] σ2)) fun l σ3 => pCloses t 31 σ3 fun σ4 => pR (gn 39 [[((pc σ).2.1 : Int)]] (gs l)) σ4
def gRoP (t : List Int) (R : PX) (σ : Ps) : PR := pOpens t σ fun σ1 => pB (if pIs σ1 33 then pR (gl []) σ1 else R 27 [] [] σ1) fun l σ2 => pCloses t 33 σ2 fun σ3 => pR (gn 35 [[((pc σ).2.1 : Int), (gk l : Int), ((pc σ).2.1 : Int)]] (gs l)) σ3
theorem gk_gsb {b : Int} {τ : Gt} : gk (gsb b τ) = gk τ := rfl
theorem gs_gsb {b : Int} {τ : Gt} : gs (gsb b τ) = gs τ := gs_gn
theorem gbg_gsb {b : Int} {τ : Gt} : gbg (gsb b τ) = b := rfl
theorem gms_gl {b : Bool} {s : List Gt} : gms b [gl s] = gms b s := by rw [gms_1]; exact gmn_tr (by decide)
theorem ho_39 {p : Int} {s : List Gt} : ho (gn 39 [[p]] s) = oO 35 [7500, p] [oF 10501 (oL (s.map ho))] := by
  rw [ho_gn]
  show oO 35 [7500, p] [oF 10501 (oL (hs _))] = _
  rw [hs_map]
theorem ho_41 {p : Int} {s : List Gt} : ho (gn 41 [[p]] s) = oO 25 [7500, p, 7504, 0] [oF 7501 (oL (nlb s.length)), oF 7502 oN, oF 7503 (oL (s.map ho))] := by
  rw [ho_gn]
  show oO 25 [7500, p, 7504, 0] [oF 7501 (oL (nlb (List.map _ _).length)), oF 7502 oN, oF 7503 (oL (hs _))] = _
  rw [hs_map, List.length_map]
theorem ho_35 {p q u : Int} {s : List Gt} : ho (gn 35 [[p, q, u]] s) = oO 25 [7500, p, 7505, u, 7504, q] [oF 7501 (oL (fdL s)), oF 7502 (oL (fdP s)), oF 7503 (oL (s.map ho))] := by
  rw [ho_gn]
  show oO 25 [7500, p, 7505, u, 7504, q] [oF 7501 (oL (hlb _)), oF 7502 (oL (hpl _)), oF 7503 (oL (hs _))] = _
  rw [hlb_map, hpl_map, hs_map]
theorem gmn_gsb {c : Bool} {b : Int} {τ : Gt} (h : gk τ ∉ [50, 37, 80, 70, 71, 72, 73, 74, 75]) : gmn c (gsb b τ) = gms c (gs τ) := gmn_tr h
theorem gmn_br {c : Bool} {k : Nat} {l r : Gt} : gmn c (.branch k l r) = gmn c (gn k (gpl l) (gsp r)) := by
  unfold gmn
  rw [gfold_gn, ← gfoldA_gsp]; rfl
theorem gmn_gsb' {c : Bool} {b : Int} {τ : Gt} (h : (30 ≤ gk τ ∧ gk τ ≤ 41) ∧ gk τ ≠ 37 ∨ (3 ≤ gk τ ∧ gk τ ≤ 20) ∨ (90 ≤ gk τ ∧ gk τ ≤ 92)) : gmn c (gsb b τ) = gmn c τ := by
  cases τ with
  | leaf p =>
    have h : (30 ≤ 0 ∧ 0 ≤ 41) ∧ 0 ≠ 37 ∨ (3 ≤ 0 ∧ 0 ≤ 20) ∨ (90 ≤ 0 ∧ 0 ≤ 92) := h
    omega
  | branch k l r =>
    have h : (30 ≤ k ∧ k ≤ 41) ∧ k ≠ 37 ∨ (3 ≤ k ∧ k ≤ 20) ∨ (90 ≤ k ∧ k ≤ 92) := h
    have hk : k ∉ [50, 37, 80, 70, 71, 72, 73, 74, 75] := by
      simp only [List.mem_cons, List.not_mem_nil, or_false, not_or]
      omega
    rw [gmn_br, gmn_tr hk]
    exact gmn_tr hk
theorem gmn_37 {c : Bool} {p : List (List Int)} {s : List Gt} : gmn c (gn 37 p s) = gms c s.reverse := by
  unfold gmn
  rw [gfold_gn]
  show ((s.map fun x => (x, gfold [] _ x)).reverse.map fun q => q.2).flatten = _
  unfold gms gmn
  rw [← List.map_reverse, List.map_map]; rfl
theorem gmn_gsbP {c : Bool} {b : Int} {τ : Gt} (h : 30 ≤ gk τ ∧ gk τ ≤ 41) : gmn c (gsb b τ) = gmn c τ := by
  by_cases h37 : gk τ = 37
  · cases τ with
    | leaf p => cases h37
    | branch k l r =>
      have h37 : k = 37 := h37
      subst h37
      rw [gmn_br, gmn_37]
      exact gmn_37
  · exact gmn_gsb' (Or.inl ⟨h, h37⟩)
theorem gms_br {c : Bool} {pl : Int} {l : List Gt} (hP : ∀ x ∈ l, 30 ≤ gk x ∧ gk x ≤ 41) : gms c [gBrT pl l] = gms c l := by
  match l with
  | [p] =>
    show gms c [gsb pl p] = _
    rw [gms_1, gms_1, gmn_gsbP (hP p List.mem_cons_self)]
  | [] =>
    show gms c [gn 41 [[pl]] []] = _
    rw [gms_1]
    exact gmn_tr (by decide)
  | x :: y :: l =>
    show gms c [gn 41 [[pl]] (x :: y :: l)] = _
    rw [gms_1]
    exact gmn_tr (by decide)
section YPat1
variable {C : YC} {B P O : Nat → Prop} {X : Nat → Nat} {t : List Int} {Γ : Gm} {H H' : YS} {σ σ1 : Ps} {η η1 : Et} {M : List (Gt × Option Nat)} {g h g' h' : Int} {a e c s d dp n cap : Nat} {F : List (List Int × Int × Int)} {Q : Option (Option ZV) → YS → Prop} {r : (Int × Nat) ⊕ (Gt × Ps)} {f : Ps → PR} {θ τ : Gt} {w : Option Nat} {l : List Gt} {tk : Tok} {R : PX}
/-- a list of one: its part is known by the address -/
theorem SS_un1 (S : SS C B X t Γ H σ η ((oC cap [θ], some a) :: M) g h) : ∃ w, SS C B X t Γ H σ η ((θ, w) :: M) g h ∧ ∀ x, w = some x → SS C B X t Γ H σ η ((oC cap [oA x], some a) :: (θ, some x) :: M) g h := by
  obtain ⟨a', e, xs, F, G, F1, ha, h1, g1, g2, g3, ga, A, ge, hl, q6, g5⟩ := Lv_lst S.2.1
  cases ha
  cases xs with
  | nil => cases hl
  | cons w xs =>
    cases xs with
    | cons _ _ => cases hl
    | nil =>
      obtain ⟨G', F', p1, p2, p3, p4, -⟩ := q6
      refine ⟨w, ⟨S.1, ⟨F, h1, G', F1, fun x q => g1 x (p1 x q).1, g2, fun x q z => g3 x (p1 x q).1 z, p4, g5⟩, S.2.2⟩, ?_⟩
      rintro x rfl
      exact ⟨S.1, ⟨F, h1, fun y => G y ∧ ¬ G' y, fun y => F1 y ∨ G' y, fun y q => g1 y q.1, fun y q => q.elim (g2 y) (fun q => g1 y (p1 y q).1), fun y q z => z.elim (g3 y q.1) q.2, YO_lst ⟨ga, fun q => (p1 a q).2.1 rfl⟩ A (fun q => ⟨ge q, fun z => (p1 e z).2.2 rfl⟩) rfl ⟨fun _ => False, fun _ => False, fun _ q => q.elim, fun _ q => q.elim, fun _ q => q.elim, (show YO C B H (oA x) (fun _ => False) (some x) from YO_oA.mpr rfl), trivial⟩, G', F1, fun y q => Or.inr q, fun y q => Or.inl q, fun y q z => g3 y (p1 y q).1 z, p4, g5⟩, S.2.2⟩
theorem zW_getA {kk : Option Nat → YS → ZR YS} {x : Nat} (hd : 3 ≤ d) (S : SS C B X t Γ H σ η ((oC cap [oA x], some a) :: M) g h) (hk : zW (kk (some x) H) Q) : zW (zQ (ycv (YL C) d [(5, 528)] (some a) [.inl 0] H) kk) Q := by
  obtain ⟨d, rfl⟩ : ∃ e, d = e + 3 := ⟨d - 3, by omega⟩
  obtain ⟨a', e, xs, F, G, F1, ha, h1, g1, g2, g3, ga, A, ge, hl, q6, g5⟩ := Lv_lst S.2.1
  cases ha
  cases xs with
  | nil => cases hl
  | cons w xs =>
    obtain ⟨G', F', p1, p2, p3, p4, -⟩ := q6
    have p4 : YO C B H (oA x) G' w := p4
    have hw : w = some x := YO_oA.mp p4
    rw [ycv_s A.2.1 ⟨by decide, rfl⟩]
    refine zW_Qe (y_get (d := d) (k := 0) A (Nat.succ_pos _)) ?_
    rw [hw]
    exact hk
/-- one in brackets: it begins where the bracket does -/
theorem zW_br1P {b : Int} (hd : 3 ≤ d) (hp : 30 ≤ gk τ ∧ gk τ ≤ 41) (S : SS C B X t Γ H σ η ((oC cap [ho τ], some a) :: M) g h) (hk : ∀ H1 ro, SS C B X t Γ H1 σ η ((ho (gsb b τ), ro) :: M) g h → Q (some (some (.inr (.inr ro)))) H1) : zW (zQ (ycv (YL C) d [(5, 528)] (some a) [.inl 0] H) fun v5 h4 => ycc 10 303 v5 h4 <| ypI 7500 0 v5 b h4 fun h6 => zQ (ycv (YL C) d [(5, 528)] (some a) [.inl 0] h6) fun v8 h7 => ycc 10 303 v8 h7 <| zrQ v8 h7) Q := by
  obtain ⟨w, S1, S2⟩ := SS_un1 S
  obtain ⟨x, kd, i, fs, rfl, k1, e1, e2, k2, -, k3, -, k4⟩ := SS_P0 hp S1
  have S3 := S2 x rfl
  have S4 := SS_pk 2 [1, 0] rfl rfl S3
  have hkd : kd < 100 ∧ kd ≠ 21 ∧ kd ≠ 22 ∧ kd ≠ 26 ∧ kd ≠ 27 ∧ kd ≠ 7 := by omega
  have S4 : SS C B X t Γ H σ η ((ho τ, some x) :: (oC cap [oA x], some a) :: M) g h := S4
  rw [e1] at S4
  have S5 := SS_setI (b := b) hkd k3 S4
  refine zW_getA hd S3 (zW_cc k1 (cc_P k2) (zW_pI k1 ⟨by omega, k4⟩ rfl (zW_getA hd (SS_up 1 S5 rfl) (zW_cc (by exact k1) (cc_P k2) (zW_rQ (hk _ _ ?_))))))
  rw [e2]
  exact SS_drop (SS_up 1 S5 rfl)
theorem zW_br1X {b : Int} (hd : 3 ≤ d) (hp : (3 ≤ gk τ ∧ gk τ ≤ 20) ∨ (90 ≤ gk τ ∧ gk τ ≤ 92)) (S : SS C B X t Γ H σ η ((oC cap [ho τ], some a) :: M) g h) (hk : ∀ H1 ro, SS C B X t Γ H1 σ η ((ho (gsb b τ), ro) :: M) g h → Q (some (some (.inr (.inr ro)))) H1) : zW (zQ (ycv (YL C) d [(5, 528)] (some a) [.inl 0] H) fun v5 h4 => ycc 10 639 v5 h4 <| ypI 11700 0 v5 b h4 fun h6 => zQ (ycv (YL C) d [(5, 528)] (some a) [.inl 0] h6) fun v8 h7 => ycc 10 639 v8 h7 <| zrQ v8 h7) Q := by
  obtain ⟨w, S1, S2⟩ := SS_un1 S
  obtain ⟨x, kd, i, fs, rfl, k1, e1, e2, k2, k3, -, k4⟩ := SS_X0 hp S1
  have S3 := S2 x rfl
  have S4 := SS_pk 2 [1, 0] rfl rfl S3
  have hkd : kd < 100 ∧ kd ≠ 21 ∧ kd ≠ 22 ∧ kd ≠ 26 ∧ kd ≠ 27 ∧ kd ≠ 7 := by omega
  have S4 : SS C B X t Γ H σ η ((ho τ, some x) :: (oC cap [oA x], some a) :: M) g h := S4
  rw [e1] at S4
  have S5 := SS_setI (b := b) hkd k3 S4
  refine zW_getA hd S3 (zW_cc k1 (cc_X k2) (zW_pI k1 ⟨by omega, k4⟩ rfl (zW_getA hd (SS_up 1 S5 rfl) (zW_cc (by exact k1) (cc_X k2) (zW_rQ (hk _ _ ?_))))))
  rw [e2]
  exact SS_drop (SS_up 1 S5 rfl)
theorem y_573 {pl : Int} (hd : 22 ≤ d) (hl : l.length < 1000) (hP : ∀ x ∈ l, 30 ≤ gk x ∧ gk x ≤ 41) (h0 : 0 < pd σ) (hV : (eV η).length ≤ pd σ) (S : SS C B X t Γ H σ η ((oC cap (l.map ho), some a) :: M) g h) (hg : g ≤ 4000) (hh : h ≤ 4000) (he : pCloses t 29 σ (fun σ4 => pR (gBrT pl l) σ4) = some r) (her : ∀ e p H', r = .inl (e, p) → Th C B X t Γ H' e p → Q none H') (hk : ∀ σ1 H1 η1 ro, r = .inr (gBrT pl l, σ1) → SS C B X t Γ H1 σ1 η1 ((ho (gBrT pl l), ro) :: M) (g - 27 + 9 * l.length) (h - 150 + 34 * l.length) → Po t σ σ1 (pd σ - 1) → Et1 η η1 → Q (some (some (.inr (.inr ro)))) H1) : zW (YL C d 573 [zr (X 8), .inl pl, zr a] H) Q := by
  refine yl_Parser_bracketPat_p46 ?_
  unfold yb_Parser_bracketPat_p46
  refine zW_closes 29 117 (by decide) h0 hV (by omega) S hg hh he her (fun _ σ1 H1 η1 S1 p1 w1 he => ?_)
  have hr := (Option.some.inj he).symm
  refine zW_size (by omega) S1 ?_
  rw [List.length_map]
  match l, hr with
  | [p], hr =>
    refine zW_t rfl ?_
    have S1 : SS C B X t Γ H1 σ1 η1 ((oC cap [ho p], some a) :: M) _ _ := S1
    refine zW_br1P (by omega) (hP p List.mem_cons_self) S1 (fun H2 ro S2 => hk σ1 H2 η1 ro hr (SS_mono S2 ?_ ?_) p1 w1)
    · show _ ≤ g - 27 + 9 * ((1 : Nat) : Int); omega
    · show _ ≤ h - 150 + 34 * ((1 : Nat) : Int); omega
  | [], hr =>
    refine zW_f (by decide) ?_
    have S2 := SS_new (kd := 25) (n := 7) (p := []) S1 (by decide) trivial
    refine zW_new ?_
    rw [if_neg (by decide)]
    refine zW_size (by omega) (SS_up 1 S2 rfl) (zW_numbered (n := 0) (by omega) (by omega) S2 (fun H3 b3 S3 => ?_))
    have S4 := SS_no (SS_oL (SS_pk 3 [2, 0, 1] rfl rfl S3))
    have S5 := SS_pk 4 [3, 2, 0, 1] rfl rfl S4
    refine m_RowPat (Or.inl rfl) (by omega) S5 (fun H6 S6 => zW_rQ (hk σ1 H6 η1 _ hr ?_ p1 w1))
    show SS C B X t Γ H6 σ1 η1 ((ho (gn 41 [[pl]] []), _) :: M) _ _
    rw [ho_41]
    exact SS_wk (p := [7500, pl, 7505, pl, 7504, 0]) (p' := [7500, pl, 7504, 0]) (by decide) (fun q => ⟨q.1, q.2.2⟩) (SS_mono S6 (by show _ ≤ g - 27 + 9 * ((0 : Nat) : Int); omega) (by show _ ≤ h - 150 + 34 * ((0 : Nat) : Int); omega))
  | x :: y :: l, hr =>
    have hll : (x :: y :: l).length = l.length + 2 := rfl
    refine zW_f (by rw [hll]; omega) ?_
    have S2 := SS_new (kd := 25) (n := 7) (p := []) S1 (by decide) trivial
    refine zW_new ?_
    rw [if_neg (by decide)]
    refine zW_size (by omega) (SS_up 1 S2 rfl) ?_
    rw [List.length_map]
    refine zW_numbered (by omega) hl S2 (fun H3 b3 S3 => ?_)
    have S4 := SS_no (SS_oL (SS_pk 3 [2, 0, 1] rfl rfl S3))
    have S5 := SS_pk 4 [3, 2, 0, 1] rfl rfl S4
    refine m_RowPat (Or.inl rfl) (by omega) S5 (fun H6 S6 => zW_rQ (hk σ1 H6 η1 _ hr ?_ p1 w1))
    show SS C B X t Γ H6 σ1 η1 ((ho (gn 41 [[pl]] (x :: y :: l)), _) :: M) _ _
    rw [ho_41]
    exact SS_wk (p := [7500, pl, 7505, pl, 7504, 0]) (p' := [7500, pl, 7504, 0]) (by decide) (fun q => ⟨q.1, q.2.2⟩) (SS_mono S6 (by omega) (by omega))
theorem okP_br {σ : Ps} {l : List Gt} (hP : ∀ x ∈ l, 30 ≤ gk x ∧ gk x ≤ 41) (h31 : ∀ x ∈ l, gk x = 31 → gs x = []) : okPa σ (gBrT (pc σ).2.1 l) := by
  match l with
  | [p] =>
    show okPa σ (gsb _ p)
    exact ⟨hP p List.mem_cons_self, fun q => ⟨gs_gsb.trans (h31 p List.mem_cons_self q), rfl⟩⟩
  | [] => exact ⟨⟨(by decide : 30 ≤ 41), (by decide : 41 ≤ 41)⟩, fun q => by cases q⟩
  | _ :: _ :: _ => exact ⟨⟨(by decide : 30 ≤ 41), (by decide : 41 ≤ 41)⟩, fun q => by cases q⟩
theorem y_bracketPat {n : Nat} (hel : ∀ n', n' ≤ n → YCf C B X t (sP t n' 20 [] []) 109 10 ho okPa) (hlen : t.length ≤ 900) : YCf C B X t (nE 28 (gBrP t (sP t n))) 116 5 ho okPa := by
  intro Γ H σ η M g h d Q r S hu hg hh hd he her hk
  have d40 := dep_40 S
  have vl := SS_vl S
  obtain ⟨w, he⟩ := nE_is he
  unfold gBrP at he
  try simp only [pB_pT, pB_ite, pB_pR, pB_pWr, pB_in, pB_ass, pB_pNeed, pB_pOpens, pB_pCloses, pB_pName, pB_pAny, pB_pOpn, pB_pLab, gs_gl, cons1] at he
  refine yl_Parser_bracketPat ?_
  unfold yb_Parser_bracketPat
  have hmu := pmu_le (t := t) (σ := σ)
  refine zW_opens (by omega) S (by have := w.1; omega) (by omega) (by omega) he her (fun lt σ1 H1 η1 S1 p1 w1 he => ?_)
  have q1 : Qx t 1 1 σ σ1 := Qx_to (Qx_o p1) (by omega) (by omega)
  have m1 := q1.2.2.1
  have d1 := dep_op q1 lt
  have v1 := p1.2.1
  have vn1 := congrArg List.length w1.2
  have vd1 := q1.1
  refine zW_let ?_
  refine zW_alnewN (n := 2) (by omega) (by omega) S1 (fun H2 l2 S2 => ?_)
  refine zW_let ?_
  refine zW_tis 29 117 (by decide) (by omega) S2 (fun u3 => ?_) (fun u3 => ?_)
  · rw [if_pos u3] at he
    have S90 : SS C B X t Γ H2 σ1 η1 ((oC 2 (([] : List Gt).map ho), some l2) :: M) _ _ := S2
    refine y_573 (l := []) (by omega) (by decide) (fun x q => by cases q) (by omega) (by have := SS_vl S; rw [w1.2]; omega) S90 (by omega) (by omega) he her (fun σ9 H9 η9 ro9 hr S9 p9 w9 => hk _ σ9 H9 η9 ro9 hr (SS_mono S9 ?_ ?_) (okP_br (l := []) (fun x q => by cases q) (fun x q => by cases q)) (Qx_to (Qx_t q1 (Qx_o p9)) (by omega) (by omega)) (Er_c (gms_br (l := []) (fun x q => by cases q)).symm (gms_br (l := []) (fun x q => by cases q)).symm (Er_e (Er_1 w1) w9)))
    · show _ - 27 + 9 * ((0 : Nat) : Int) ≤ _; omega
    · show _ - 150 + 34 * ((0 : Nat) : Int) ≤ _; omega
  · rw [if_neg u3] at he
    have he : pB (sP t n 20 [] [] σ1) (fun x σ1 => pB (sP t n 14 [((34 : Nat) : Int), ((20 : Nat) : Int)] [] σ1) fun l σ2 => (fun l σ2 => pCloses t 29 σ2 fun σ3 => pR (gBrT (pc σ).2.1 l) σ3) ([] ++ x :: gs l) σ2) = some r := he
    have S90 : SS C B X t Γ H2 σ1 η1 ((oC 2 (([] : List Gt).map ho), some l2) :: M) _ _ := S2
    refine y_sep (k := 20) (mth := 109) (lev := 10) (im := ho) (ok := okPa) (P := fun τ => (30 ≤ gk τ ∧ gk τ ≤ 41) ∧ (gk τ = 31 → gs τ = [])) (fun _ _ o => ⟨okP_G o.1, o.1, fun q => (o.2 q).1⟩) 34 118 (by decide) 572 (fun a => [.inl ((pc σ).2.1 : Int), zr a]) (fun d a H => YL C d 573 [zr (X 8), .inl ((pc σ).2.1 : Int), zr a] H) (fun d H a Q hq => yl_Parser_bracketPat_p27 hq) n hel Γ H2 σ1 η1 _ _ _ d Q r _ _ [] (fun l σ2 => pCloses t 29 σ2 fun σ3 => pR (gBrT (pc σ).2.1 l) σ3) S90 hu (by omega) (by show _ + 8 * 0 ≤ _; omega) (by omega) (by show 0 + _ ≤ _; omega) (by omega) he her (fun l4 σ4 H4 η4 c4 S4 n4 P4 q4 e4 z4 he => ?_)
    simp only [List.length_nil, List.nil_append] at S4 z4
    try simp only [List.nil_append] at he
    have m4 := q4.2.2.1
    have d4 := dep_le q4
    have vn4 := Er_len e4
    have vd4 := q4.1
    have g4 : 1 ≤ l4.length := List.length_pos_iff.mpr n4
    have S91 : SS C B X t Γ H4 σ4 η4 ((oC c4 (l4.map ho), some l2) :: M) _ _ := S4
    have z4 : l4.length + pmu t σ4 ≤ 999 := z4
    refine y_573 (by omega) (by omega) (fun x q => (P4 x q).1) (by omega) (by have := SS_vl S91; omega) S91 (by omega) (by omega) he her (fun σ9 H9 η9 ro9 hr S9 p9 w9 => hk _ σ9 H9 η9 ro9 hr (SS_mono S9 (by omega) (by omega)) (okP_br (fun x q => (P4 x q).1) (fun x q => (P4 x q).2)) (Qx_to (Qx_t (Qx_t q1 q4) (Qx_o p9)) (by omega) (by omega)) (Er_c (gms_br (fun x q => (P4 x q).1)).symm (gms_br (fun x q => (P4 x q).1)).symm (Er_e (Er_o w1 e4) w9)))
theorem y_listPat {n : Nat} (hel : ∀ n', n' ≤ n → YCf C B X t (sP t n' 20 [] []) 109 10 ho okPa) (hlen : t.length ≤ 900) : YCf C B X t (nE 30 (gLiP t (sP t n))) 134 5 ho okPa := by
  intro Γ H σ η M g h d Q r S hu hg hh hd he her hk
  have d40 := dep_40 S
  have vl := SS_vl S
  obtain ⟨w, he⟩ := nE_is he
  unfold gLiP at he
  try simp only [pB_pT, pB_ite, pB_pR, pB_pWr, pB_in, pB_ass, pB_pNeed, pB_pOpens, pB_pCloses, pB_pName, pB_pAny, pB_pOpn, pB_pLab, gs_gl, cons1] at he
  refine yl_Parser_listPat ?_
  unfold yb_Parser_listPat
  have hmu := pmu_le (t := t) (σ := σ)
  refine zW_opens (by omega) S (by have := w.1; omega) (by omega) (by omega) he her (fun lt σ1 H1 η1 S1 p1 w1 he => ?_)
  have q1 : Qx t 1 1 σ σ1 := Qx_to (Qx_o p1) (by omega) (by omega)
  have m1 := q1.2.2.1
  have d1 := dep_op q1 lt
  have v1 := p1.2.1
  have vn1 := congrArg List.length w1.2
  have vd1 := q1.1
  refine zW_let ?_
  refine zW_alnew (by omega) S1 (fun H2 l2 S2 => ?_)
  refine zW_let ?_
  refine zW_tis 31 126 (by decide) (by omega) S2 (fun u3 => ?_) (fun u3 => ?_)
  · rw [if_pos u3] at he
    refine yl_Parser_listPat_p45 ?_
    unfold yb_Parser_listPat_p45
    refine zW_closes 31 126 (by decide) (by omega) (by omega) (by omega) S2 (by omega) (by omega) he her (fun _ σ4 H4 η4 S4 p4 w4 he => ?_)
    have q4 : Qx t (-1) 1 σ1 σ4 := Qx_to (Qx_o p4) (by omega) (by omega)
    have m4 := q4.2.2.1
    have v4 := p4.2.1
    have vn4 := congrArg List.length w4.2
    have vd4 := q4.1
    have S5 := SS_new (kd := 35) (n := 2) (p := []) S4 (by decide) trivial
    refine zW_new ?_
    rw [if_neg (show ¬ (35 : Nat) = 3 by decide)]
    have S6 := SS_pk 2 [1, 0] rfl rfl S5
    have S7 := SS_oL S6
    have S8 := SS_pk 2 [1, 0] rfl rfl S7
    refine m_ListPat (by omega) S8 (fun H9 S9 => ?_)
    refine zW_rQ (hk (gn 39 [[((pc σ).2.1 : Int)]] []) _ _ _ _ (Option.some.inj he).symm ?_ ?_ (Qx_to (Qx_t q1 q4) (by omega) (by omega)) (Er_n (by decide) (Er_1 ⟨w4.1.trans w1.1, w4.2.trans w1.2⟩)))
    · rw [ho_39]; exact SS_mono S9 (by omega) (by omega)
    · exact ⟨⟨(by decide : 30 ≤ 39), (by decide : 39 ≤ 41)⟩, fun q => by cases q⟩
  · rw [if_neg u3] at he
    have he : pB (sP t n 20 [] [] σ1) (fun x σ1 => pB (sP t n 14 [((34 : Nat) : Int), ((20 : Nat) : Int)] [] σ1) fun l σ2 => (fun l σ2 => pCloses t 31 σ2 fun σ3 => pR (gn 39 [[((pc σ).2.1 : Int)]] l) σ3) ([] ++ x :: gs l) σ2) = some r := he
    have S90 : SS C B X t Γ H2 σ1 η1 ((oC 0 (([] : List Gt).map ho), some l2) :: M) _ _ := S2
    refine y_sep (k := 20) (mth := 109) (lev := 10) (im := ho) (ok := okPa) (P := fun τ => 30 ≤ gk τ ∧ gk τ ≤ 41) (fun _ _ o => ⟨okP_G o.1, o.1⟩) 34 118 (by decide) 586 (fun a => [.inl ((pc σ).2.1 : Int), zr a]) (fun d a H => YL C d 587 [zr (X 8), .inl ((pc σ).2.1 : Int), zr a] H) (fun d H a Q hq => yl_Parser_listPat_p26 hq) n hel Γ H2 σ1 η1 _ _ _ d Q r _ _ [] (fun l σ2 => pCloses t 31 σ2 fun σ3 => pR (gn 39 [[((pc σ).2.1 : Int)]] l) σ3) S90 hu (by omega) (by show _ + 8 * 0 ≤ _; omega) (by omega) (by show 0 + _ ≤ _; omega) (by omega) he her (fun l10 σ10 H10 η10 c10 S10 n10 P10 q10 e10 z10 he => ?_)
    simp only [List.length_nil, List.nil_append] at S10 z10
    try simp only [List.nil_append] at he
    have m10 := q10.2.2.1
    have d10 := dep_le q10
    have vn10 := Er_len e10
    have vd10 := q10.1
    have g10 : 1 ≤ l10.length := List.length_pos_iff.mpr n10
    refine yl_Parser_listPat_p45 ?_
    unfold yb_Parser_listPat_p45
    refine zW_closes 31 126 (by decide) (by omega) (by omega) (by omega) S10 (by omega) (by omega) he her (fun _ σ11 H11 η11 S11 p11 w11 he => ?_)
    have q11 : Qx t (-1) 1 σ10 σ11 := Qx_to (Qx_o p11) (by omega) (by omega)
    have m11 := q11.2.2.1
    have v11 := p11.2.1
    have vn11 := congrArg List.length w11.2
    have vd11 := q11.1
    have S12 := SS_new (kd := 35) (n := 2) (p := []) S11 (by decide) trivial
    refine zW_new ?_
    rw [if_neg (show ¬ (35 : Nat) = 3 by decide)]
    have S13 := SS_pk 2 [1, 0] rfl rfl S12
    have S14 := SS_oL S13
    have S15 := SS_pk 2 [1, 0] rfl rfl S14
    refine m_ListPat (by omega) S15 (fun H16 S16 => ?_)
    refine zW_rQ (hk (gn 39 [[((pc σ).2.1 : Int)]] l10) _ _ _ _ (Option.some.inj he).symm ?_ ?_ (Qx_to (Qx_t q1 (Qx_t q10 q11)) (by omega) (by omega)) (Er_n (by decide) (Er_e (Er_o w1 e10) w11)))
    · rw [ho_39]; exact SS_mono S16 (by omega) (by omega)
    · exact ⟨⟨(by decide : 30 ≤ 39), (by decide : 39 ≤ 41)⟩, fun q => by cases q⟩
end YPat1
