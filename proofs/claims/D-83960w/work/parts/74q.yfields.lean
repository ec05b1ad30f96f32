set_option maxRecDepth 100000
/-! THE HOUSE'S PARSER: fields of rows; types at last -/
def gFldG (t : List Int) (m0 k kk : Nat) (R : PX) (σ : Ps) : PR := pLab t σ fun l σ1 => pNeed t m0 σ1 fun σ2 => pB (R k [] [] σ2) fun e σ3 => if pIs σ3 34 then pT (pPass t σ3) fun σ4 => cons1 (gn 60 [[((pc σ).2.1 : Int)], l] [e]) (R kk [] [] σ4) else pR (gl [gn 60 [[((pc σ).2.1 : Int)], l] [e]]) σ3
def fdL (s : List Gt) : List Gt := s.map fun f => oS (hnm (gp f))
def fdP (s : List Gt) : List Gt := s.map fun f => oE (hq (gp f) 0)
theorem hlb_map {s : List Gt} : hlb (s.map fun x => (x, ho x)) = fdL s := by unfold hlb fdL; rw [List.map_map]; rfl
theorem hpl_map {s : List Gt} : hpl (s.map fun x => (x, ho x)) = fdP s := by unfold hpl fdP; rw [List.map_map]; rfl
theorem fd_len {s : List Gt} : (fdL s).length = s.length ∧ (fdP s).length = s.length := ⟨List.length_map _, List.length_map _⟩
theorem ho_60 {p : List (List Int)} {x : Gt} : ho (gn 60 p [x]) = ho x := by rw [ho_gn]; rfl
section YFld
variable {C : YC} {B : Nat → Prop} {X : Nat → Nat} {t : List Int} {R : PX} {p0 : Int}
theorem y_fld {k kk mth lev m0 j0 : Nat} {ok : Ps → Gt → Prop} (hok : ∀ σ τ, ok σ τ → okG (ho τ)) (hj0 : j0 ∈ cstrs ∧ cstr j0 = kwd m0) (hsp : ∀ n σ, sP t (n + 1) kk [] [] σ = gFldG t m0 k kk (sP t n) σ) (Bk : Nat) (p0 : Int) (TAIL : Nat → Nat → Nat → Nat → YS → ZR YS)
    (hbody : ∀ d H al ap at' Q, zW (ygR 1804 (some (X 8)) H fun v1 => ygI 6601 v1 H fun v2 => zQ (zc (YL C) d 747 [.inl v2] H) fun v4 h3 => zI (ycv (YL C) d [(5, 505)] (some ap) [.inr (.inr v4)] h3) fun _ h5 => zQ (ycv (YL C) d [(6, 123)] (some (X 8)) [] h5) fun v8 h7 => zI (ycv (YL C) d [(5, 505)] (some al) [.inr (.inr v8)] h7) fun _ h9 => zV (ycv (YL C) d [(6, 119)] (some (X 8)) [.inr (.inr (some (C.1 j0)))] h9) fun h11 => zQ (ycv (YL C) d [(6, mth)] (some (X 8)) [] h11) fun v13 h12 => zI (ycv (YL C) d [(5, 505)] (some at') [.inr (.inr v13)] h12) fun _ h14 => zI (ycv (YL C) d [(6, 108)] (some (X 8)) [.inr (.inr (some (C.1 118)))] h14) fun v17 h16 => if v17 = 0 then TAIL d al ap at' h16 else YL C d Bk [zr (X 8), .inl p0, zr al, zr ap, zr at'] h16) Q → zW (YL C d Bk [zr (X 8), .inl p0, zr al, zr ap, zr at'] H) Q) :
    ∀ (n : Nat), (∀ n', n' ≤ n → YCf C B X t (sP t n' k [] []) mth lev ho ok) → ∀ (Γ : Gm) (H : YS) (σ : Ps) (η : Et) (M : List (Gt × Option Nat)) (g h : Int) (d : Nat) (Q : Option (Option ZV) → YS → Prop) (r : (Int × Nat) ⊕ (Gt × Ps)) (cl cp ct al ap at' : Nat) (τs : List Gt) (fT : List Gt → Ps → PR), SS C B X t Γ H σ η ((oC ct (τs.map ho), some at') :: (oC cp (fdP τs), some ap) :: (oC cl (fdL τs), some al) :: M) g h → hU mth Γ → g ≤ 3000 → h + 24 * τs.length ≤ 2880 + 4 * ct + 4 * cp + 4 * cl → (cl ≤ 10 + 2 * τs.length ∧ cp ≤ 10 + 2 * τs.length ∧ ct ≤ 10 + 2 * τs.length) → τs.length + pmu t σ ≤ 999 → dep t σ + lev + 1 ≤ d → pB (sP t n kk [] [] σ) (fun l σ2 => fT (τs ++ gs l) σ2) = some r →
      (∀ e p H', r = .inl (e, p) → Th C B X t Γ H' e p → Q none H') →
      (∀ l σ2 H2 η2 cl2 cp2 ct2, SS C B X t Γ H2 σ2 η2 ((oC ct2 ((τs ++ l).map ho), some at') :: (oC cp2 (fdP (τs ++ l)), some ap) :: (oC cl2 (fdL (τs ++ l)), some al) :: M) (g - 26 - 30 * l.length) (h - 65 + 24 * τs.length - 4 * ct - 4 * cp - 4 * cl - 200 * l.length) → l ≠ [] → Qx t 0 1 σ σ2 → Er η η2 l → fT (τs ++ l) σ2 = some r → zW (TAIL d al ap at' H2) Q) → zW (YL C d Bk [zr (X 8), .inl p0, zr al, zr ap, zr at'] H) Q := by
  intro n
  induction n with
  | zero =>
    intro _ Γ H σ η M g h d Q r cl cp ct al ap at' τs fT S hu hg hh hc hl hd he
    cases he
  | succ n ih =>
    intro hel Γ H σ η M g h d Q r cl cp ct al ap at' τs fT S hu hg hh hc hl hd he her hT
    have d40 := dep_40 S
    have hlt : (pc σ).2.1 < 2147483648 := by
      have h1 := S.1.2.2.1
      have h2 := S.1.2.2.2.2.2.2
      have h3 := h1.2.2.2.1
      have h4 := h1.2.2.1.1
      omega
    rw [hsp] at he
    unfold gFldG at he
    simp only [pB_pLab, pB_pNeed, pB_ass] at he
    refine hbody d H al ap at' Q (zW_plc S ?_)
    refine zW_int (by omega) hlt S (fun H1 s S1 => ?_)
    have S1a := SS_pk 4 [2, 0, 1, 3] rfl rfl S1
    refine zW_add (by omega) (by omega) okE S1a (fun H2 cp1 S2 c1 c2 => ?_)
    refine zW_label (by omega) S2 (by omega) (by have := fd_len (s := τs); omega) he her (fun lb s2 σ1 H3 η1 S3 p1 w1 z1 he1 => ?_)
    clear z1
    have q1 := Qx_p p1
    have m1 := q1.2.2.1
    have dl1 := dep_le q1
    have S3a := SS_pk 4 [3, 0, 1, 2] rfl rfl S3
    refine zW_add (by omega) (by omega) okS S3a (fun H4 cl1 S4 c3 c4 => ?_)
    have fl := fd_len (s := τs)
    rw [fl.1] at c4
    rw [fl.2] at c2
    refine zW_need m0 j0 hj0 (by omega) S4 (by omega) (by omega) he1 her (fun _ σ2 H5 η2 S5 p2 w2 he2 => ?_)
    have q2 := Qx_p p2
    have m2 := q2.2.2.1
    have dl2 := dep_le q2
    refine zW_sub (hel n (by omega)) (by omega) S5 hu (by omega) (by omega) he2 her (fun x σ3 H6 η3 ro S6 o3 q3 e3 he3 => ?_)
    have m3 := q3.2.2.1
    have dl3 := dep_le q3
    have hmp : (τs.map ho).length = τs.length := List.length_map _
    have S6a := SS_pk 4 [3, 0, 1, 2] rfl rfl S6
    refine zW_add (by omega) (by omega) (hok _ _ o3) S6a (fun H7 ct1 S7 c5 c6 => ?_)
    rw [hmp] at c6
    have S7a := SS_pk 3 [0, 2, 1] rfl rfl S7
    have hx : τs.map ho ++ [ho x] = (τs ++ [gn 60 [[((pc σ).2.1 : Int)], lb] [x]]).map ho := by rw [List.map_append]; show _ = _ ++ [ho (gn 60 _ _)]; rw [ho_60]
    have hp : fdP τs ++ [oE ((pc σ).2.1 : Int)] = fdP (τs ++ [gn 60 [[((pc σ).2.1 : Int)], lb] [x]]) := by unfold fdP; rw [List.map_append]; rfl
    have hlb : fdL τs ++ [oS lb] = fdL (τs ++ [gn 60 [[((pc σ).2.1 : Int)], lb] [x]]) := by unfold fdL; rw [List.map_append]; rfl
    have S7b : SS C B X t Γ H7 σ3 η3 ((oC ct1 (τs.map ho ++ [ho x]), some at') :: (oC cp1 (fdP τs ++ [oE ((pc σ).2.1 : Int)]), some ap) :: (oC cl1 (fdL τs ++ [oS lb]), some al) :: M) _ _ := S7a
    rw [hx, hp, hlb] at S7b
    have hln2 : (τs ++ [gn 60 [[((pc σ).2.1 : Int)], lb] [x]]).length = τs.length + 1 := by rw [List.length_append]; rfl
    have e60 : Er η η3 [gn 60 [[((pc σ).2.1 : Int)], lb] [x]] := Er_n (by decide) (Er_o ⟨w2.1.trans w1.1, w2.2.trans w1.2⟩ e3)
    by_cases w : pIs σ3 34
    · rw [if_pos w] at he3
      have he4 : pT (pPass t σ3) (fun σ4 => pB (sP t n kk [] [] σ4) fun l σ5 => fT ((τs ++ [gn 60 [[((pc σ).2.1 : Int)], lb] [x]]) ++ gs l) σ5) = some r := by
        rw [← he3]
        cases pPass t σ3 with
        | inl e => rfl
        | inr σ4 =>
          show _ = pB (pB (sP t n kk [] [] σ4) fun l σ => pR (gl (gn 60 _ _ :: gs l)) σ) _
          rw [pB_ass]
          show pB _ _ = pB _ _
          congr 1
          funext l σ5
          show _ = fT (τs ++ gs (gl (gn 60 _ _ :: gs l))) σ5
          rw [gs_gl, List.append_assoc]; rfl
      refine zW_takesK (e0 := none) 34 118 (by decide) (by omega) S7b (by omega) (by omega) (by rw [if_pos w]; exact he4) her (fun q => absurd w q) (fun _ σ4 H8 η4 S8 p4 w4 he5 => zW_f (by decide) ?_)
      have q4 := Qx_p p4
      have dl4 := dep_le q4
      have m4 := q4.2.2.1
      refine ih (fun n' hn' => hel n' (by omega)) Γ H8 σ4 η4 M _ _ d Q r cl1 cp1 ct1 al ap at' _ fT S8 hu (by omega) (by rw [hln2]; omega) (by rw [hln2]; omega) (by rw [hln2]; omega) (by omega) he5 her (fun l σ5 H9 η5 cl3 cp3 ct3 S9 hne q5 e5 he6 => ?_)
      have hcons : (τs ++ [gn 60 [[((pc σ).2.1 : Int)], lb] [x]]) ++ l = τs ++ gn 60 [[((pc σ).2.1 : Int)], lb] [x] :: l := by rw [List.append_assoc]; rfl
      rw [hcons, hln2] at S9
      rw [hcons] at he6
      exact hT (gn 60 [[((pc σ).2.1 : Int)], lb] [x] :: l) σ5 H9 η5 cl3 cp3 ct3 (SS_mono S9 (by rw [List.length_cons]; omega) (by rw [List.length_cons]; omega)) (fun q => by cases q) (Qx_to (Qx_t q1 (Qx_t q2 (Qx_t q3 (Qx_t q4 q5)))) (by omega) (by omega)) (Er_t (Er_e e60 w4) e5) he6
    · rw [if_neg w] at he3
      have he4 : fT (τs ++ [gn 60 [[((pc σ).2.1 : Int)], lb] [x]]) σ3 = some r := by
        rw [← he3]
        show _ = fT (τs ++ gs (gl [gn 60 _ _])) σ3
        rw [gs_gl]
      refine zW_takesK (f := fun _ => none) (e0 := some r) 34 118 (by decide) (by omega) S7b (by omega) (by omega) (by rw [if_neg w]) her (fun _ _ => zW_t rfl ?_) (fun q => absurd q w)
      exact hT [gn 60 [[((pc σ).2.1 : Int)], lb] [x]] σ3 H7 η3 cl1 cp1 ct1 (SS_mono S7b (by show _ ≤ g - 26 - 30 * ((1 : Nat) : Int); omega) (by show _ ≤ h - 65 + 24 * (τs.length : Int) - 4 * ct - 4 * cp - 4 * cl - 200 * ((1 : Nat) : Int); omega)) (fun q => by cases q) (Qx_to (Qx_t q1 (Qx_t q2 q3)) (by omega) (by omega)) e60 he4
end YFld
