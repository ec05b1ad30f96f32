set_option maxRecDepth 100000
/-! THE HOUSE'S PARSER: names of types behind, brackets, rows of types -/
/-- a loop on what was read so far -/
def YLo (C : YC) (B : Nat → Prop) (X : Nat → Nat) (t : List Int) (fs : Gt → Ps → PR) (lev mth : Nat) (ok : Int → Gt → Prop) : Prop :=
  ∀ (Γ : Gm) (H : YS) (σ : Ps) (η : Et) (M : List (Gt × Option Nat)) (g h : Int) (d : Nat) (Q : Option (Option ZV) → YS → Prop) (r : (Int × Nat) ⊕ (Gt × Ps)) (a : Gt) (ra : Option Nat) (b : Int), SS C B X t Γ H σ η ((ho a, ra) :: M) g h → hU mth Γ → g ≤ 3000 → h ≤ 3000 → dep t σ + lev ≤ d → ok b a → fs a σ = some r →
    (∀ e p H', r = .inl (e, p) → Th C B X t Γ H' e p → Q none H') →
    (∀ τ σ1 H1 η1 ro l, r = .inr (τ, σ1) → SS C B X t Γ H1 σ1 η1 ((ho τ, ro) :: M) g h → ok b τ → Qx t 0 0 σ σ1 → Er η η1 l → (∀ c, gmn c τ = gmn c a ++ gms c l) → Q (some (some (.inr (.inr ro)))) H1) → zW (YL C d mth [zr (X 8), .inr (.inr ra)] H) Q
section YTy3
variable {C : YC} {B : Nat → Prop} {X : Nat → Nat} {t : List Int} {R : PX} {p0 : Int} {d : Nat} {Γ : Gm} {H H' : YS} {σ σ1 σ2 : Ps} {η η1 η2 : Et} {M : List (Gt × Option Nat)} {g h : Int} {Q : Option (Option ZV) → YS → Prop} {r : (Int × Nat) ⊕ (Gt × Ps)}
theorem ho_51 {p : Int} {b : List Int} {s : List Gt} : ho (gn 51 [[p], b] s) = oO 30 [8400, p] [oF 9001 (oS b), oF 9002 (oL (s.map ho))] := by
  rw [ho_gn]
  show oO 30 [8400, p] [oF 9001 (oS b), oF 9002 (oL (hs _))] = _
  rw [hs_map]
theorem zW_named {kk : Option Nat → YS → ZR YS} {f : Ps → PR} {cap a : Nat} {s : List Gt} (hd : 18 ≤ d) (S : SS C B X t Γ H σ η ((oC cap (s.map ho), some a) :: M) g h) (hg : g ≤ 3900) (hh : h ≤ 3900) (he : (if tTyn (pc σ) then pT (pPass t σ) f else pWr σ) = some r) (her : ∀ e p H', r = .inl (e, p) → Th C B X t Γ H' e p → Q none H') (hk : tTyn (pc σ) → ∀ σ1 H1 η1 ro, SS C B X t Γ H1 σ1 η1 ((ho (gn 51 [[((pc σ).2.1 : Int)], (pc σ).2.2.1] s), ro) :: M) (g - 29) (h - 197) → Pn t σ σ1 → Et1 η η1 → f σ1 = some r → zW (kk ro H1) Q) : zW (zQ (ycv (YL C) d [(6, 132)] (some (X 8)) [.inr (.inr (some a))] H) kk) Q := by
  obtain ⟨d, rfl⟩ : ∃ e, d = e + 1 := ⟨d - 1, by omega⟩
  rw [ycv_s (SS_8 S) ⟨by decide, rfl⟩]
  refine zW_Q (P := fun ro H1 => tTyn (pc σ) ∧ ∃ σ1 η1, SS C B X t Γ H1 σ1 η1 ((ho (gn 51 [[((pc σ).2.1 : Int)], (pc σ).2.2.1] s), ro) :: M) (g - 29) (h - 197) ∧ Pn t σ σ1 ∧ Et1 η η1 ∧ f σ1 = some r) (T := fun H1 => Q none H1) (zW_c (yl_Parser_named ?_)) (fun ro H1 ⟨q, σ1, η1, S1, p, w, e⟩ => hk q σ1 H1 η1 ro S1 p w e) (fun _ q => q)
  unfold yb_Parser_named
  refine zW_isTyn (by omega) S (fun w => zW_f (by decide) ?_) (fun w => zW_t rfl ?_)
  · rw [if_pos w] at he
    refine zW_plc S (zW_let (zW_new ?_))
    rw [if_neg (by decide)]
    have S1 := SS_new (kd := 30) (n := 3) (p := []) S (by decide) trivial
    refine zW_name (f := fun _ => f) (by omega) S1 (by omega) (by omega) (by unfold pName; rw [if_pos w.1]; exact he) her (fun k1 s1 σ1 H1 η1 S2 p w1 e => ?_)
    have S3 := SS_pk 3 [2, 0, 1] rfl rfl S2
    have S4 := SS_oL S3
    have S5 := SS_pk 3 [2, 1, 0] rfl rfl S4
    refine m_NamedTy (by omega) S5 (fun H2 S6 => zW_rQ ⟨w, σ1, η1, ?_, p, w1, e⟩)
    rw [ho_51]
    exact SS_mono S6 (by omega) (by omega)
  · rw [if_neg w] at he
    exact zW_wr (by omega) S (by omega) (by omega) he her
abbrev okB : Int → Gt → Prop := fun _ τ => 50 ≤ gk τ ∧ gk τ ≤ 54
theorem okB_51 {b p : Int} {n : List Int} {s : List Gt} : okB b (gn 51 [[p], n] s) := ⟨(by decide : 50 ≤ 51), (by decide : 51 ≤ 54)⟩
theorem y_sufLoop (hL : YLo C B X t (fun a => R 35 [] [a]) 2 580 okB) : YLo C B X t (fun a => gSufR t R a) 2 580 okB := by
  intro Γ H σ η M g h d Q r a ra b S hu hg hh hd ok he her hk
  have d40 := dep_40 S
  refine yl_Parser_suffix_p5 ?_
  unfold yb_Parser_suffix_p5
  have he : gSufR t R a σ = some r := he
  unfold gSufR at he
  refine zW_isTyn (by omega) S (fun w => zW_f (by decide) ?_) (fun w => zW_t rfl ?_)
  · refine zW_alnew (by omega) S (fun H1 la S1 => zW_let ?_)
    refine zW_add (by omega) (by omega) (okT_G ok) S1 (fun H2 cap1 S2 c1 c2 => ?_)
    have c3 : cap1 ≤ 10 := c2.1
    refine zW_named (s := [a]) (by omega) S2 (by omega) (by omega) (by rw [if_pos w] at he ⊢; exact he) her (fun _ σ1 H3 η1 ro S3 p w1 he => zW_let ?_)
    have q1 := Qx_p p
    have dl := dep_le q1
    refine hL Γ H3 σ1 η1 M _ _ d Q r _ ro b S3 hu (by omega) (by omega) (by omega) okB_51 he her (fun τ σ2 H4 η2 ro2 l w2 S4 o2 q2 e2 m2 => hk τ σ2 H4 η2 ro2 l w2 (SS_mono S4 (by omega) (by omega)) o2 (Qx_to (Qx_t q1 q2) (by omega) (by omega)) (Er_o w1 e2) (fun c => ?_))
    rw [m2 c, gmn_tr (by decide), gms_1]
  · rw [if_neg w] at he
    exact zW_rQ (hk a σ H η ra [] (Option.some.inj he).symm S ok Qx_0 (Er_1 ⟨rfl, rfl⟩) (fun c => (List.append_nil _).symm))
theorem y_suffix (h36 : YCf C B X t (R 36 [] []) 129 1 ho okO') (hL : YLo C B X t (fun a => R 35 [] [a]) 2 580 okB) : YCf C B X t (gSuf R) 128 2 ho okO' := by
  intro Γ H σ η M g h d Q r S hu hg hh hd he her hk
  have d40 := dep_40 S
  refine yl_Parser_suffix ?_
  unfold yb_Parser_suffix
  unfold gSuf at he
  refine zW_sub h36 (by omega) S hu hg hh he her (fun a σ1 H1 η1 ro S1 o1 q1 e1 he => zW_let ?_)
  have dl := dep_le q1
  refine hL Γ H1 σ1 η1 M _ _ d Q r a ro 0 S1 hu (by omega) (by omega) (by omega) o1 he her (fun τ σ2 H4 η2 ro2 l w2 S4 o2 q2 e2 m2 => hk τ σ2 H4 η2 ro2 w2 S4 o2 (Qx_to (Qx_t q1 q2) (by omega) (by omega)) (Er_c ?_ ?_ (Er_t e1 e2)))
  · rw [gms_app, gms_1, gms_1, m2]
  · rw [gms_app, gms_1, gms_1, m2]
theorem pB_ass {x : PR} {f g : Gt → Ps → PR} : pB (pB x f) g = pB x fun τ σ => pB (f τ σ) g := by
  rcases x with _ | _ | ⟨_, _⟩ <;> rfl
/-- part k, sign m, part k .. into a list: block Bk, behind it TAIL -/
theorem y_sep {k mth lev : Nat} {im : Gt → Gt} {ok : Ps → Gt → Prop} {P : Gt → Prop} (hok : ∀ σ τ, ok σ τ → okG (im τ) ∧ P τ) (m j : Nat) (hj : j ∈ cstrs ∧ cstr j = kwd m) (Bk : Nat) (as : Nat → List ZV) (TAIL : Nat → Nat → YS → ZR YS)
    (hbody : ∀ d H a Q, zW (zQ (ycv (YL C) d [(6, mth)] (some (X 8)) [] H) fun v h1 => zI (ycv (YL C) d [(5, 505)] (some a) [.inr (.inr v)] h1) fun _ h3 => zI (ycv (YL C) d [(6, 108)] (some (X 8)) [.inr (.inr (some (C.1 j)))] h3) fun v6 h5 => if v6 = 0 then TAIL d a h5 else YL C d Bk (zr (X 8) :: as a) h5) Q → zW (YL C d Bk (zr (X 8) :: as a) H) Q) :
    ∀ (n : Nat), (∀ n', n' ≤ n → YCf C B X t (sP t n' k [] []) mth lev im ok) → ∀ (Γ : Gm) (H : YS) (σ : Ps) (η : Et) (M : List (Gt × Option Nat)) (g h : Int) (d : Nat) (Q : Option (Option ZV) → YS → Prop) (r : (Int × Nat) ⊕ (Gt × Ps)) (cap a : Nat) (τs : List Gt) (fT : List Gt → Ps → PR), SS C B X t Γ H σ η ((oC cap (τs.map im), some a) :: M) g h → hU mth Γ → g ≤ 3000 → h + 8 * τs.length ≤ 2960 + 4 * cap → cap ≤ 10 + 2 * τs.length → τs.length + pmu t σ ≤ 999 → dep t σ + lev + 1 ≤ d → pB (sP t n k [] [] σ) (fun x σ1 => pB (sP t n 14 [(m : Int), (k : Int)] [] σ1) fun l σ2 => fT (τs ++ x :: gs l) σ2) = some r →
      (∀ e p H', r = .inl (e, p) → Th C B X t Γ H' e p → Q none H') →
      (∀ l σ2 H2 η2 cap2, SS C B X t Γ H2 σ2 η2 ((oC cap2 ((τs ++ l).map im), some a) :: M) (g + 21 - 30 * l.length) (h + 188 + 8 * τs.length - 4 * cap - 200 * l.length) → l ≠ [] → (∀ x ∈ l, P x) → Qx t 0 1 σ σ2 → Er η η2 l → (τs ++ l).length + pmu t σ2 ≤ 999 → fT (τs ++ l) σ2 = some r → zW (TAIL d a H2) Q) → zW (YL C d Bk (zr (X 8) :: as a) H) Q := by
  intro n
  induction n with
  | zero =>
    intro _ Γ H σ η M g h d Q r cap a τs fT S hu hg hh hc hl hd he
    cases he
  | succ n ih =>
    intro hel Γ H σ η M g h d Q r cap a τs fT S hu hg hh hc hl hd he her hT
    have d40 := dep_40 S
    refine hbody d H a Q ?_
    refine zW_sub (hel (n + 1) (Nat.le_refl _)) (by omega) S hu hg (by omega) he her (fun x σ1 H1 η1 ro S1 o1 q1 e1 he => ?_)
    have ox := hok _ _ o1
    have m1 := q1.2.2.1
    have dl := dep_le q1
    refine zW_add (by omega) (by omega) ox.1 (SS_up 1 S1 rfl) (fun H2 cap1 S2 c1 c2 => ?_)
    have hln : (τs.map im).length = τs.length := List.length_map _
    rw [hln] at c2
    have hmp : τs.map im ++ [im x] = (τs ++ [x]).map im := by rw [List.map_append]; rfl
    rw [hmp] at S2
    have hln2 : (τs ++ [x]).length = τs.length + 1 := by rw [List.length_append]; rfl
    have he : pB (gSeq t m k (sP t n) σ1) (fun l σ2 => fT (τs ++ x :: gs l) σ2) = some r := he
    unfold gSeq at he
    by_cases w : pIs σ1 m
    · rw [if_pos w] at he
      have he2 : pT (pPass t σ1) (fun σ3 => pB (sP t n k [] [] σ3) fun x2 σ4 => pB (sP t n 14 [(m : Int), (k : Int)] [] σ4) fun l σ5 => fT ((τs ++ [x]) ++ x2 :: gs l) σ5) = some r := by
        rw [← he]
        cases pPass t σ1 with
        | inl e => rfl
        | inr σ3 =>
          show _ = pB (pB (sP t n k [] [] σ3) fun e σ2 => cons1 e (sP t n 14 [(m : Int), (k : Int)] [] σ2)) _
          rw [pB_ass]
          show pB _ _ = pB _ _
          congr 1
          funext x2 σ4
          unfold cons1
          rw [pB_ass]
          congr 1
          funext l σ5
          show _ = fT (τs ++ x :: gs (gl (x2 :: gs l))) σ5
          rw [gs_gl, List.append_assoc]; rfl
      refine zW_takesK (e0 := none) m j hj (by omega) S2 (by omega) (by omega) (by rw [if_pos w]; exact he2) her (fun q => absurd w q) (fun _ σ3 H3 η3 S3 p3 w3 he3 => zW_f (by decide) ?_)
      have q3 := Qx_p p3
      have dl3 := dep_le q3
      have m3 := q3.2.2.1
      refine ih (fun n' hn' => hel n' (by omega)) Γ H3 σ3 η3 M _ _ d Q r cap1 a (τs ++ [x]) fT S3 hu (by omega) (by rw [hln2]; omega) (by rw [hln2]; omega) (by rw [hln2]; omega) (by omega) he3 her (fun l σ4 H4 η4 cap4 S4 hne hP q4 e4 hl4 he4 => ?_)
      have hcons : (τs ++ [x]) ++ l = τs ++ x :: l := by rw [List.append_assoc]; rfl
      rw [hcons, hln2] at S4
      rw [hcons] at hl4 he4
      refine hT (x :: l) σ4 H4 η4 cap4 (SS_mono S4 (by rw [List.length_cons]; omega) (by rw [List.length_cons]; omega)) (fun q => by cases q) (fun y hy => ?_) (Qx_to (Qx_t q1 (Qx_t q3 q4)) (by omega) (by omega)) (Er_t (Er_e e1 w3) e4) hl4 he4
      rcases List.mem_cons.mp hy with rfl | hy
      · exact ox.2
      · exact hP y hy
    · rw [if_neg w] at he
      have he2 : fT (τs ++ [x]) σ1 = some r := by
        rw [← he]
        show _ = fT (τs ++ x :: gs (gl [])) σ1
        rw [gs_gl]
      refine zW_takesK (f := fun _ => none) (e0 := some r) m j hj (by omega) S2 (by omega) (by omega) (by rw [if_neg w]) her (fun _ _ => zW_t rfl ?_) (fun q => absurd q w)
      exact hT [x] σ1 H2 η1 cap1 (SS_mono S2 (by show _ ≤ g + 21 - 30 * ((1 : Nat) : Int); omega) (by show _ ≤ h + 188 + 8 * (τs.length : Int) - 4 * cap - 200 * ((1 : Nat) : Int); omega)) (fun q => by cases q) (fun y hy => by rw [List.mem_singleton.mp hy]; exact ox.2) q1 e1 (by rw [hln2]; omega) he2
end YTy3
