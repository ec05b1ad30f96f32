set_option maxRecDepth 100000
/-! THE HOUSE'S PARSER: val (printed by gen/dsl/p74xl.py) -/
def bP (τ : Gt) : Gt := (gs (ho τ)).getD 0 oN
def bE (τ : Gt) : Gt := (gs (ho τ)).getD 1 oN
theorem ho_78 {p e : Gt} : ho (gn 78 [] [p, e]) = gn 0 [] [ho p, ho e] := by rw [ho_gn]; rfl
theorem bP_78 {p e : Gt} : bP (gn 78 [] [p, e]) = ho p := by unfold bP; rw [ho_78, gs_gn]; rfl
theorem bE_78 {p e : Gt} : bE (gn 78 [] [p, e]) = ho e := by unfold bE; rw [ho_78, gs_gn]; rfl
theorem ho_70 {k : Nat} {s : List Gt} (hk : k = 70 ∨ k = 71) : ho (gn k [] s) = oO 24 [7206, if k = 70 then 0 else 1] [oF 7200 (oL (gms false s)), oF 7201 (oL (gms true s)), oF 7204 (oL (s.map bP)), oF 7205 (oL (s.map bE))] := by
  have e1 : (s.map fun x => (x, ho x)).map (fun q => q.1) = s := by rw [List.map_map]; exact List.map_id _
  have e2 : (s.map fun x => (x, ho x)).map (fun q => (gs q.2).getD 0 oN) = s.map bP := by rw [List.map_map]; rfl
  have e3 : (s.map fun x => (x, ho x)).map (fun q => (gs q.2).getD 1 oN) = s.map bE := by rw [List.map_map]; rfl
  rw [ho_gn]
  rcases hk with rfl | rfl
  · show oO 24 [7206, 0] [oF 7200 (oL (gms false (List.map _ _))), oF 7201 (oL (gms true (List.map _ _))), oF 7204 (oL (List.map _ _)), oF 7205 (oL (List.map _ _))] = _
    rw [e1, e2, e3]; rfl
  · show oO 24 [7206, 1] [oF 7200 (oL (gms false (List.map _ _))), oF 7201 (oL (gms true (List.map _ _))), oF 7204 (oL (List.map _ _)), oF 7205 (oL (List.map _ _))] = _
    rw [e1, e2, e3]; rfl
theorem Er_top {η η1 : Et} {l : List Gt} {v : Ve} {V : List Ve} (h : Er η η1 l) (hV : eV η = v :: V) : ∃ v1, eV η1 = v1 :: V ∧ v1.1 = v.1 ∧ v1.2.1 = v.2.1 ∧ v1.2.2.1.1 = v.2.2.1.1 ++ mt (et η) (gms false l) ∧ v1.2.2.1.2 = v.2.2.1.2 ++ mt (et η) (gms true l) ∧ v1.2.2.2.2 = v.2.2.2.2 := by
  have h2 := h.2
  rw [hV] at h2
  cases hV1 : eV η1 with
  | nil => rw [hV1] at h2; exact h2.elim
  | cons v1 V1 =>
    rw [hV1] at h2
    obtain ⟨q1, q2, q3, q4, q5, rfl⟩ := h2
    exact ⟨v1, rfl, q1, q2, q3, q4, q5⟩
theorem gBinds_gl {t : List Int} {R : PX} {σ : Ps} : pB (gBinds t R σ) (fun l σ2 => pR (gl (gs l)) σ2) = gBinds t R σ := by
  unfold gBinds
  simp only [pB_pT, pB_ite, pB_pR, pB_pWr, pB_in, pB_ass, pB_pNeed, pB_pOpens, pB_pCloses, pB_pName, pB_pAny, pB_pOpn, pB_pLab, gs_gl, cons1]
section YVal
variable {C : YC} {B P O : Nat → Prop} {X : Nat → Nat} {t : List Int} {Γ : Gm} {H H' : YS} {σ σ1 : Ps} {η η1 : Et} {M : List (Gt × Option Nat)} {g h g' h' : Int} {a e c s d dp cap : Nat} {F : List (List Int × Int × Int)} {Q : Option (Option ZV) → YS → Prop} {r : (Int × Nat) ⊕ (Gt × Ps)} {f : Ps → PR} {θ τ : Gt} {w : Option Nat} {l : List Gt} {tk : Tok} {R : PX}
variable {v : Ve} {V : List Ve}
theorem y_bindLoop : ∀ (n : Nat), (∀ n', n' < n → YCf C B X t (sP t n' 20 [] []) 109 10 ho okPa) → (∀ n', n' < n → YCf C B X t (sP t n' 0 [] []) 140 10 ho okEx) → ∀ (Γ : Gm) (H : YS) (σ : Ps) (η : Et) (M : List (Gt × Option Nat)) (g h : Int) (d : Nat) (Q : Option (Option ZV) → YS → Prop) (r : (Int × Nat) ⊕ (Gt × Ps)) (c3 c4 l3 l4 : Nat) (v : Ve) (V : List Ve) (τs : List Gt) (fT : List Gt → Ps → PR), SS C B X t Γ H σ η ((oC c3 (τs.map bP), some l3) :: (oC c4 (τs.map bE), some l4) :: M) g h → Γ.2.2.2.2 = 0 → eV η = v :: V → v.2.1.1 = 24 → v.2.1.2.2 = [oF 7204 (oA l3), oF 7205 (oA l4)] → g ≤ 3000 → h + 16 * τs.length ≤ 2900 + 4 * c3 + 4 * c4 → c3 ≤ 10 + 2 * τs.length ∧ c4 ≤ 10 + 2 * τs.length → τs.length + pmu t σ ≤ 999 → dep t σ + 13 ≤ d → pB (sP t n 42 [] [] σ) (fun l σ2 => fT (τs ++ gs l) σ2) = some r →
      (∀ e p H', r = .inl (e, p) → Th C B X t Γ H' e p → Q none H') →
      (∀ l σ2 H2 η2 c5 c6, SS C B X t Γ H2 σ2 η2 ((oC c5 ((τs ++ l).map bP), some l3) :: (oC c6 ((τs ++ l).map bE), some l4) :: M) (g - 40 * l.length) (h + 80 + 16 * τs.length - 4 * c3 - 4 * c4 - 200 * l.length) → l ≠ [] → Qx t 0 1 σ σ2 → Er η η2 l → fT (τs ++ l) σ2 = some r → zW (zV (ycv (YL C) d [(6, 157)] (some (X 8)) [] H2) fun h14 => zrQ (some v.1) h14) Q) → zW (YL C d 564 [zr (X 8), zr v.1] H) Q := by
  intro n
  induction n with
  | zero =>
    intro _ _ Γ H σ η M g h d Q r c3 c4 l3 l4 v V τs fT S hu hV hv1 hv2 hg hh hc hl hd he
    cases he
  | succ n ih =>
    intro h20 h0 Γ H σ η M g h d Q r c3 c4 l3 l4 v V τs fT S hu hV hv1 hv2 hg hh hc hl hd he her hT
    have d40 := dep_40 S
    have vl := SS_vl S
    have hmp : (τs.map bP).length = τs.length := List.length_map _
    have hme : (τs.map bE).length = τs.length := List.length_map _
    have he : pB (gBinds t (sP t n) σ) (fun l σ2 => fT (τs ++ gs l) σ2) = some r := he
    unfold gBinds at he
    simp only [pB_pT, pB_ite, pB_pR, pB_pWr, pB_in, pB_ass, pB_pNeed, pB_pOpens, pB_pCloses, pB_pName, pB_pAny, pB_pOpn, pB_pLab, gs_gl, cons1] at he
    refine yl_Parser_value_p27 ?_
    unfold yb_Parser_value_p27
    refine zW_gV (s1 := []) hV (by rw [hv1]; decide) hv2 S ?_
    refine zW_sub (h20 n (by omega)) (by omega) S hu (by omega) (by omega) he her (fun t1 σ1 H1 η1 ro1 S1 o1 q1 e1 he => ?_)
    have m1 := q1.2.2.1
    have d1 := dep_le q1
    have vn1 := Er_len e1
    have vd1 := q1.1
    have S3 := SS_pk 2 [1, 0] rfl rfl S1
    refine zW_add (by omega) (by omega) (okP_G o1.1) S3 (fun H2 c2 S2 f2 f2' => ?_)
    refine zW_need 40 1 (by decide) (by omega) S2 (by omega) (by omega) he her (fun _ σ4 H4 η4 S4 p4 w4 he => ?_)
    have q4 := Qx_p p4
    have m4 := q4.2.2.1
    have d4 := dep_le q4
    have vn4 := congrArg List.length w4.2
    have vd4 := q4.1
    obtain ⟨v2, hV2, y1, y2, -⟩ := Er_top (Er_e e1 w4) hV
    rw [← y1]
    refine zW_gV (s1 := [oF 7204 (oA l3)]) hV2 (by rw [y2, hv1]; decide) (by rw [y2]; exact hv2) S4 ?_
    rw [y1]
    refine zW_sub (h0 n (by omega)) (by omega) S4 hu (by omega) (by omega) he her (fun t5 σ5 H5 η5 ro5 S5 o5 q5 e5 he => ?_)
    have m5 := q5.2.2.1
    have d5 := dep_le q5
    have vn5 := Er_len e5
    have vd5 := q5.1
    have S7 := SS_pk 3 [2, 0, 1] rfl rfl S5
    refine zW_add (by omega) (by omega) (okX_G o5) S7 (fun H6 c6 S6 f6 f6' => ?_)
    refine zW_takes 0 146 (by decide) (by omega) S6 (by omega) (by omega) he her (fun u8 he => ?_) (fun u8 σ8 H8 η8 S8 p8 w8 he => ?_)
    · have S9 := SS_pk 2 [1, 0] rfl rfl S6
      have hbp : (τs ++ [gn 78 [] [t1, t5]]).map bP = τs.map bP ++ [ho t1] := by rw [List.map_append]; show _ ++ [bP (gn 78 [] [t1, t5])] = _; rw [bP_78]
      have hbe : (τs ++ [gn 78 [] [t1, t5]]).map bE = τs.map bE ++ [ho t5] := by rw [List.map_append]; show _ ++ [bE (gn 78 [] [t1, t5])] = _; rw [bE_78]
      have S90 := S9
      rw [← hbp, ← hbe] at S90
      have hln2 : (τs ++ [gn 78 [] [t1, t5]]).length = τs.length + 1 := by rw [List.length_append]; rfl
      have e60 : Er η η5 [gn 78 [] [t1, t5]] := Er_n (by decide) (Er_t (Er_e e1 w4) e5)
      exact hT [gn 78 [] [t1, t5]] σ5 H6 η5 _ _ (SS_mono S90 (by show _ ≤ g - 40 * ((1 : Nat) : Int); omega) (by show _ ≤ h + 80 + 16 * (τs.length : Int) - 4 * c3 - 4 * c4 - 200 * ((1 : Nat) : Int); omega)) (fun q => by cases q) (Qx_to (Qx_t q1 (Qx_t q4 q5)) (by omega) (by omega)) e60 he
    · have q8 := Qx_p p8
      have m8 := q8.2.2.1
      have d8 := dep_le q8
      have vn8 := congrArg List.length w8.2
      have vd8 := q8.1
      have S10 := SS_pk 2 [1, 0] rfl rfl S8
      have hbp : (τs ++ [gn 78 [] [t1, t5]]).map bP = τs.map bP ++ [ho t1] := by rw [List.map_append]; show _ ++ [bP (gn 78 [] [t1, t5])] = _; rw [bP_78]
      have hbe : (τs ++ [gn 78 [] [t1, t5]]).map bE = τs.map bE ++ [ho t5] := by rw [List.map_append]; show _ ++ [bE (gn 78 [] [t1, t5])] = _; rw [bE_78]
      have S90 := S10
      rw [← hbp, ← hbe] at S90
      have hln2 : (τs ++ [gn 78 [] [t1, t5]]).length = τs.length + 1 := by rw [List.length_append]; rfl
      have e60 : Er η η8 [gn 78 [] [t1, t5]] := Er_n (by decide) (Er_e (Er_t (Er_e e1 w4) e5) w8)
      obtain ⟨v3, hV3, x1, x2, -⟩ := Er_top e60 hV
      rw [← x1]
      refine ih (fun n' hn' => h20 n' (by omega)) (fun n' hn' => h0 n' (by omega)) Γ H8 σ8 η8 M _ _ d Q r _ _ l3 l4 v3 V (τs ++ [gn 78 [] [t1, t5]]) fT S90 hu hV3 (by rw [x2]; exact hv1) (by rw [x2]; exact hv2) (by omega) (by rw [hln2]; omega) (by rw [hln2]; omega) (by rw [hln2]; omega) (by omega) (by simp only [List.append_assoc]; exact he) her (fun l σ95 H95 η95 c95 c96 S95 _ q95 e95 he95 => ?_)
      have hcons : (τs ++ [gn 78 [] [t1, t5]]) ++ l = τs ++ gn 78 [] [t1, t5] :: l := by rw [List.append_assoc]; rfl
      rw [hcons, hln2] at S95
      rw [hcons] at he95
      rw [x1]
      exact hT (gn 78 [] [t1, t5] :: l) σ95 H95 η95 c95 c96 (SS_mono S95 (by rw [List.length_cons]; omega) (by rw [List.length_cons]; omega)) (fun q => by cases q) (Qx_to (Qx_t (Qx_t q1 (Qx_t q4 (Qx_t q5 q8))) q95) (by omega) (by omega)) (Er_t e60 e95) he95
end YVal
