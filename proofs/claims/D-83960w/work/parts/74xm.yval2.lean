set_option maxRecDepth 100000
/-! THE HOUSE'S PARSER: val as a whole (printed by gen/dsl/p74xm.py) -/
def YDf (C : YC) (B : Nat → Prop) (X : Nat → Nat) (t : List Int) (fs : Ps → PR) (mth lev : Nat) (im : Gt → Gt) (ok : Ps → Gt → Prop) : Prop :=
  ∀ (Γ : Gm) (H : YS) (σ : Ps) (η : Et) (M : List (Gt × Option Nat)) (g h : Int) (d : Nat) (Q : Option (Option ZV) → YS → Prop) (r : (Int × Nat) ⊕ (Gt × Ps)), SS C B X t Γ H σ η M g h → Γ.2.2.2.2 = 0 → (eV η).length ≤ pd σ → g ≤ 2980 → h ≤ 2900 → dep t σ + lev ≤ d → fs σ = some r →
    (∀ e p H', r = .inl (e, p) → Th C B X t Γ H' e p → Q none H') →
    (∀ τ σ1 H1 η1 ro, r = .inr (τ, σ1) → SS C B X t Γ H1 σ1 η1 ((im τ, ro) :: M) (g - 10) (h - 60) → ok σ τ → Qx t 0 1 σ σ1 → Er η η1 [τ] → Q (some (some (.inr (.inr ro)))) H1) → zW (YL C d mth [zr (X 8)] H) Q
abbrev okDc : Ps → Gt → Prop := fun _ τ => 70 ≤ gk τ ∧ gk τ ≤ 77
def gVal (t : List Int) (R : PX) (σ : Ps) : PR := pT (pPass t σ) fun σ1 => pB (if pIs σ1 23 then pT (pPass t σ1) fun σ2 => pR (gl []) σ2 else pR (gl []) σ1) fun _ σ2 => pB (R 42 [] [] σ2) fun l σ3 => pR (gn (if pIs σ1 23 then 71 else 70) [] (gs l)) σ3
theorem mt_f {l : List Gt} : mt false l = l := rfl
section YVal2
variable {C : YC} {B P O : Nat → Prop} {X : Nat → Nat} {t : List Int} {Γ : Gm} {H H' : YS} {σ σ1 : Ps} {η η1 : Et} {M : List (Gt × Option Nat)} {g h g' h' : Int} {a e c s d dp cap : Nat} {F : List (List Int × Int × Int)} {Q : Option (Option ZV) → YS → Prop} {r : (Int × Nat) ⊕ (Gt × Ps)} {f : Ps → PR} {θ τ : Gt} {w : Option Nat} {l : List Gt} {tk : Tok} {R : PX}
theorem zW_subd {mth lev : Nat} {fs : Ps → PR} {im : Gt → Gt} {ok : Ps → Gt → Prop} {kk : Option Nat → YS → ZR YS} {fK : Gt → Ps → PR} (ih : YDf C B X t fs mth lev im ok) (hd : dep t σ + lev + 1 ≤ d) (S : SS C B X t Γ H σ η M g h) (hu : Γ.2.2.2.2 = 0) (hvl : (eV η).length ≤ pd σ) (hg : g ≤ 2980) (hh : h ≤ 2900) (he : pB (fs σ) fK = some r) (her : ∀ e p H', r = .inl (e, p) → Th C B X t Γ H' e p → Q none H')
    (hk : ∀ τ σ1 H1 η1 ro, SS C B X t Γ H1 σ1 η1 ((im τ, ro) :: M) (g - 10) (h - 60) → ok σ τ → Qx t 0 1 σ σ1 → Er η η1 [τ] → fK τ σ1 = some r → zW (kk ro H1) Q) : zW (zQ (ycv (YL C) d [(6, mth)] (some (X 8)) [] H) kk) Q := by
  obtain ⟨d, rfl⟩ : ∃ e, d = e + 1 := ⟨d - 1, by omega⟩
  rw [ycv_s (SS_8 S) ⟨by decide, rfl⟩]
  cases hR : fs σ with
  | none => rw [hR] at he; cases he
  | some q =>
    rw [hR] at he
    refine zW_Q (P := fun v H1 => ∃ τ σ1 η1, q = .inr (τ, σ1) ∧ SS C B X t Γ H1 σ1 η1 ((im τ, v) :: M) (g - 10) (h - 60) ∧ ok σ τ ∧ Qx t 0 1 σ σ1 ∧ Er η η1 [τ]) (T := fun H1 => ∃ e p, q = .inl (e, p) ∧ Th C B X t Γ H1 e p) (zW_c (ih Γ H σ η M g h d _ q S hu hvl hg hh (by omega) hR (fun e p H1 w T => ⟨e, p, w, T⟩) (fun τ σ1 H1 η1 ro w S1 o1 q1 e1 => ⟨τ, σ1, η1, w, S1, o1, q1, e1⟩))) ?_ ?_
    · rintro v H1 ⟨τ, σ1, η1, rfl, S1, o1, q1, e1⟩
      exact hk τ σ1 H1 η1 v S1 o1 q1 e1 he
    · rintro H1 ⟨e, p, rfl, T⟩
      exact her e p H1 (Option.some.inj he).symm T
variable {v : Ve} {V : List Ve}
theorem SS_pq (S : SS C B X t Γ H σ η M g h) : pq σ ≤ 100000 := by
  have h1 := S.1.2.2.1
  have h2 := S.1.2.2.2.2.2.2
  have h3 := h1.2.2.2.1
  have h4 := h1.2.2.1.1
  omega
/-- what comes back once a val or fun is whole -/
theorem Er_close {η0 η2 : Et} {k : Nat} (hk : k = 70 ∨ k = 71 ∨ k = 72) (h1 : et η2 = et η0) (h0 : et η0 = false) (hc : VR [] (gms true l) (eV η0) (eV η2)) : Er η0 η2 [gn k [] l] := by
  refine ⟨h1, ?_⟩
  rw [gms_1, gms_1, gmn_70 hk, gmn_70 hk, if_neg (by decide), if_pos rfl, mt_nil, h0]
  exact hc
theorem zW_valEnd {k c5 c6 l3 l4 : Nat} {x : Int} (hd : 24 ≤ d) (S : SS C B X t Γ H σ η ((oC c5 (l.map bP), some l3) :: (oC c6 (l.map bE), some l4) :: M) g h) (hV : eV η = v :: V) (h1 : v.2.1 = (24, [7206, x], [oF 7204 (oA l3), oF 7205 (oA l4)])) (h3 : v.2.2.1.1 = gms false l) (h4 : v.2.2.1.2 = gms true l) (hn : v.2.2.2.2.2 = ynx Γ.1) (hkx : (k = 70 ∧ x = 0) ∨ (k = 71 ∧ x = 1)) (hk : ∀ H1 η1, SS C B X t Γ H1 σ η1 ((ho (gn k [] l), some v.1) :: M) g h → et η1 = et η → VR [] (gms true l) V (eV η1) → Q (some (some (.inr (.inr (some v.1))))) H1) : zW (zV (ycv (YL C) d [(6, 157)] (some (X 8)) [] H) fun h14 => zrQ (some v.1) h14) Q := by
  refine zW_close hd hV hn (by rw [h4]; exact gms_oM) (SS_pq S) S (fun H1 η1 S1 t1 c1 => zW_rQ (hk H1 η1 ?_ t1 (by rw [← h4]; exact c1)))
  rw [h1, h3, h4] at S1
  have S2 := SS_oL (SS_pk 2 [1, 0] rfl rfl S1)
  have S3 := SS_oL (SS_pk 3 [2, 0, 1] rfl rfl S2)
  have S4 := SS_pk 3 [2, 1, 0] rfl rfl S3
  have S5 := SS_nest [oF 7200 (oL (gms false l)), oF 7201 (oL (gms true l))] (show (24 : Nat) < 100 by decide) S4
  have S6 := SS_nest [oF 7200 (oL (gms false l)), oF 7201 (oL (gms true l)), oF 7204 (oL (l.map bP))] (show (24 : Nat) < 100 by decide) S5
  rw [ho_70 (by omega)]
  rcases hkx with ⟨rfl, rfl⟩ | ⟨rfl, rfl⟩
  · exact S6
  · exact S6
theorem y_value {n : Nat} (h20 : ∀ n', n' < n → YCf C B X t (sP t n' 20 [] []) 109 10 ho okPa) (h0 : ∀ n', n' < n → YCf C B X t (sP t n' 0 [] []) 140 10 ho okEx) (hlen : t.length ≤ 900) : YDf C B X t (nE 26 (gVal t (sP t n))) 105 14 ho okDc := by
  intro Γ H σ η M g h d Q r S hu hvl hg hh hd he her hk
  have d40 := dep_40 S
  have vl := SS_vl S
  have e0 := SS_et0 S hu
  have hmu := pmu_le (t := t) (σ := σ)
  obtain ⟨w, he⟩ := nE_is he
  unfold gVal at he
  try simp only [pB_pT, pB_ite, pB_pR, pB_pWr, pB_in, pB_ass, pB_pNeed, pB_pOpens, pB_pCloses, pB_pName, pB_pAny, pB_pOpn, pB_pLab, gs_gl, cons1] at he
  refine yl_Parser_value ?_
  unfold yb_Parser_value
  refine zW_pass (by omega) S (by have := w.1; omega) (by omega) (by omega) he her (fun σ1 H1 η1 S1 p1 w1 he => ?_)
  have q1 := Qx_p p1
  have m1 := q1.2.2.1
  have d1 := dep_le q1
  have vn1 := congrArg List.length w1.2
  have vd1 := q1.1
  have S2 := SS_new (kd := 24) (n := 7) (p := []) S1 (by decide) trivial
  refine zW_new ?_
  rw [if_neg (show ¬ (24 : Nat) = 3 by decide)]
  refine m_ValDec (by omega) S2 (fun H3 l1 l2 l3 l4 S3 => ?_)
  refine zW_let ?_
  refine zW_open (fs := [oF 7204 (oA l3), oF 7205 (oA l4)]) (by omega) (Or.inl rfl) (by omega) S3 (fun H4 O4 cap4 S4 => ?_)
  have tt : et η1 = false := w1.1.trans e0
  refine zW_takesK 23 111 (by decide) (by omega) S4 (by omega) (by omega) he her (fun u5 he => ?_) (fun u5 σ5 H5 η5 S5 p5 w5 he => ?_)
  · refine zW_pV (f := 7206) (ty := 1) (p' := [7206, 0]) rfl ⟨(show (24 : Nat) < 72 by decide), (show yokF 7206 24 = true by decide)⟩ (by exact rfl) (fun H q => ⟨yput_at, trivial⟩) S4 (fun H6 O6 S6 => ?_)
    simp only [if_neg u5] at he
    refine y_bindLoop n (fun n' q => h20 n' q) (fun n' q => h0 n' q) Γ H6 σ1 _ M _ _ d Q r 1 1 l3 l4 ((ynx H1), (24, [7206, 0], [oF 7204 (oA l3), oF 7205 (oA l4)]), ([], []), (0, 0), (l1, l2), ynx Γ.1) (eV η1) [] (fun l σ2 => pR (gn 70 [] l) σ2) S6 hu rfl rfl rfl (by omega) (by show _ + 16 * ((0 : Nat) : Int) ≤ _; omega) ⟨by omega, by omega⟩ (by show 0 + _ ≤ _; omega) (by omega) he her (fun l σ95 H95 η95 c5 c6 S95 n95 q95 e95 he95 => ?_)
    simp only [List.length_nil, List.nil_append] at S95 he95
    have hl1 : 1 ≤ l.length := List.length_pos_iff.mpr n95
    obtain ⟨v1, hV1, z1, z2, z3, z4, z5⟩ := Er_top e95 rfl
    have tt9 : et η95 = false := e95.1.trans (tt)
    have z3 : v1.2.2.1.1 = gms false l := by rw [z3]; show [] ++ mt (et _) _ = _; rw [show et _ = false from tt]; rfl
    have z4 : v1.2.2.1.2 = gms true l := by rw [z4]; show [] ++ mt (et _) _ = _; rw [show et _ = false from tt]; rfl
    rw [← z1]
    refine zW_valEnd (k := 70) (x := 0) (by omega) S95 hV1 z2 z3 z4 (by rw [z5]) (by omega) (fun H96 η96 S96 t96 c96 => ?_)
    refine hk (gn 70 [] l) σ95 H96 η96 _ (Option.some.inj he95).symm (SS_mono S96 (by omega) (by omega)) ⟨(by decide : 70 ≤ 70), (by decide : 70 ≤ 77)⟩ (Qx_to (Qx_t q1 q95) (by omega) (by omega)) (Er_close (by decide) ((t96.trans tt9).trans e0.symm) e0 ?_)
    rw [← w1.2]
    exact c96
  · have q5 := Qx_p p5
    have m5 := q5.2.2.1
    have d5 := dep_le q5
    have vn5 := congrArg List.length w5.2
    have vd5 := q5.1
    refine zW_pV (f := 7206) (ty := 1) (p' := [7206, 1]) w5.2 ⟨(show (24 : Nat) < 72 by decide), (show yokF 7206 24 = true by decide)⟩ (by exact rfl) (fun H q => ⟨yput_at, trivial⟩) S5 (fun H7 O7 S7 => ?_)
    simp only [if_pos u5] at he
    refine y_bindLoop n (fun n' q => h20 n' q) (fun n' q => h0 n' q) Γ H7 σ5 _ M _ _ d Q r 1 1 l3 l4 ((ynx H1), (24, [7206, 1], [oF 7204 (oA l3), oF 7205 (oA l4)]), ([], []), (0, 0), (l1, l2), ynx Γ.1) (eV η1) [] (fun l σ2 => pR (gn 71 [] l) σ2) S7 hu rfl rfl rfl (by omega) (by show _ + 16 * ((0 : Nat) : Int) ≤ _; omega) ⟨by omega, by omega⟩ (by show 0 + _ ≤ _; omega) (by omega) he her (fun l σ95 H95 η95 c5 c6 S95 n95 q95 e95 he95 => ?_)
    simp only [List.length_nil, List.nil_append] at S95 he95
    have hl1 : 1 ≤ l.length := List.length_pos_iff.mpr n95
    obtain ⟨v1, hV1, z1, z2, z3, z4, z5⟩ := Er_top e95 rfl
    have tt9 : et η95 = false := e95.1.trans (w5.1.trans tt)
    have z3 : v1.2.2.1.1 = gms false l := by rw [z3]; show [] ++ mt (et _) _ = _; rw [show et _ = false from w5.1.trans tt]; rfl
    have z4 : v1.2.2.1.2 = gms true l := by rw [z4]; show [] ++ mt (et _) _ = _; rw [show et _ = false from w5.1.trans tt]; rfl
    rw [← z1]
    refine zW_valEnd (k := 71) (x := 1) (by omega) S95 hV1 z2 z3 z4 (by rw [z5]) (by omega) (fun H96 η96 S96 t96 c96 => ?_)
    refine hk (gn 71 [] l) σ95 H96 η96 _ (Option.some.inj he95).symm (SS_mono S96 (by omega) (by omega)) ⟨(by decide : 70 ≤ 71), (by decide : 71 ≤ 77)⟩ (Qx_to (Qx_t (Qx_t q1 q5) q95) (by omega) (by omega)) (Er_close (by decide) ((t96.trans tt9).trans e0.symm) e0 ?_)
    rw [← w1.2]
    exact c96
end YVal2
