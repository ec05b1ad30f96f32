set_option maxRecDepth 100000
/-! THE HOUSE'S PARSER: patterns, the rest (printed by gen/dsl/p74x.py) -/
theorem ho_31 {p q z : Int} {b : List Int} : ho (gn 31 [[p, q, z], b] []) = oO 33 [7500, p, 9902, q, 9903, z] [oF 9901 (oS b)] := by rw [ho_gn]; rfl
theorem tIs_con {c : Tok} {m : Nat} (h : tIs c m) : ¬ tCon c := by
  have := h.1
  rintro (q | q | q) <;> omega
theorem tIs_k {c : Tok} {m k : Nat} (h : c.1 = k) (hk : k ≠ 0) : ¬ tIs c m := fun q => hk (h.symm.trans q.1)
theorem tNm_con {c : Tok} (h : c.1 = 1) : ¬ tCon c := by rintro (q | q | q) <;> omega
theorem tAtP_nm {F : List (List Int × Int × Int)} {c : Tok} (h : tAtP F c) (k : c.1 = 1) : tNf F c := by
  rcases h with z | z | z | z | z | z
  · exact absurd z (tIs_k k (by decide))
  · exact absurd z (tNm_con k)
  · exact z
  · exact absurd z (tIs_k k (by decide))
  · exact absurd z (tIs_k k (by decide))
  · exact absurd z (tIs_k k (by decide))
section YPat2
variable {C : YC} {B P O : Nat → Prop} {X : Nat → Nat} {t : List Int} {Γ : Gm} {H H' : YS} {σ σ1 : Ps} {η η1 : Et} {M : List (Gt × Option Nat)} {g h g' h' : Int} {a e c s d dp cap : Nat} {F : List (List Int × Int × Int)} {Q : Option (Option ZV) → YS → Prop} {r : (Int × Nat) ⊕ (Gt × Ps)} {f : Ps → PR} {θ τ : Gt} {w : Option Nat} {l : List Gt} {tk : Tok} {R : PX}
theorem zW_isNmB {k : Int → YS → ZR YS} (hd : 2 ≤ d) (S : SS C B X t Γ H σ η M g h) (hk : ∀ b : Int, ((pc σ).1 = 1 ∧ b = 1) ∨ ((pc σ).1 ≠ 1 ∧ b = 0) → zW (k b H) Q) : zW (ygR 1804 (some (X 8)) H fun v => zI (ycv (YL C) d [(22, 317)] v [] H) k) Q := zW_isNm (by omega) S (fun u => hk 1 (Or.inl ⟨u, rfl⟩)) (fun u => hk 0 (Or.inr ⟨u, rfl⟩))
theorem zW_isDcB {k : Int → YS → ZR YS} (hd : 5 ≤ d) (S : SS C B X t Γ H σ η M g h) (hk : ∀ b : Int, (tDec (pc σ) ∧ b = 1) ∨ (¬ tDec (pc σ) ∧ b = 0) → zW (k b H) Q) : zW (ygR 1804 (some (X 8)) H fun v => zI (zc (YL C) d 102 [.inr (.inr v)] H) k) Q := zW_isDc hd S (fun u => hk 1 (Or.inl ⟨u, rfl⟩)) (fun u => hk 0 (Or.inr ⟨u, rfl⟩))
theorem SS_dupS {b : List Int} (S : SS C B X t Γ H σ η ((oS b, w) :: M) g h) : SS C B X t Γ H σ η ((oS b, w) :: (oS b, w) :: M) g h := by
  obtain ⟨F, h1, G, F1, g1, g2, g3, g4, g5⟩ := S.2.1
  have g4 : YO C B H (gn 101 [b] []) G w := g4
  obtain ⟨s, rfl, hs⟩ := YO_im (Or.inl rfl) g4
  exact SS_im (Or.inl rfl) hs S
theorem SS_S (S : SS C B X t Γ H σ η ((oS tk.2.2.1, w) :: M) g h) : ∃ s, w = some s := by
  obtain ⟨F, h1, G, F1, g1, g2, g3, g4, g5⟩ := S.2.1
  have g4 : YO C B H (gn 101 [tk.2.2.1] []) G w := g4
  obtain ⟨s, e, -⟩ := YO_im (Or.inl rfl) g4
  exact ⟨s, e⟩
/-- a NamePat, read -/
theorem zW_nm1 {k : Option Nat → ZR YS} {p q z : Int} {b : List Int} {x : Nat} (S : SS C B X t Γ H σ η ((oO 33 [7500, p, 9902, q, 9903, z] [oF 9901 (oS b)], some x) :: M) g h) (hk : ∀ s, SS C B X t Γ H σ η ((oS b, some s) :: (oO 33 [7500, p, 9902, q, 9903, z] [oF 9901 (oS b)], some x) :: M) g h → zW (k (some s)) Q) : zW (ygR 9901 (some x) H k) Q := by
  have S0 := S
  obtain ⟨F, h1, G, F1, g1, g2, g3, g4, g5⟩ := S.2.1
  have g4 : YO C B H (gn 33 [[7500, p, 9902, q, 9903, z]] [oF 9901 (oS b)]) G (some x) := g4
  rw [YO_gn] at g4
  unfold hoA at g4
  rw [if_pos (by decide)] at g4
  obtain ⟨a, ha, q1, q2, q3, q4, A1, A2, r1, r2, r3, r4, -⟩ := g4
  cases ha
  have r4 : YO C B H (oF 9901 (oS b)) A1 (yR H 9901 x) := r4
  have r5 : YO C B H (gn 101 [b] []) A1 (yR H 9901 x) := YO_oF.mp r4
  obtain ⟨s, e, hs⟩ := YO_im (Or.inl rfl) r5
  refine zW_gR q3 rfl ?_
  rw [e]
  exact hk s (SS_im (Or.inl rfl) hs S0)
theorem SS_nm (k : Nat) {p q z : Int} {b : List Int} {x : Option Nat} (S : SS C B X t Γ H σ η ((oO 33 [7500, p, 9902, q, 9903, z] [oF 9901 (oS b)], x) :: M) g h) : ∃ y, x = some y ∧ yK H y = 33 ∧ yI H 7500 y = p ∧ yI H 9902 y = q := by
  obtain ⟨y, q0, q1, q2, q3, q4, q5⟩ := Lv_at (by decide) S.2.1
  exact ⟨y, q0, q2, q5.1, q5.2.1⟩
theorem zW_nm2 {k : Int → ZR YS} {p q z : Int} {b : List Int} {x : Nat} (S : SS C B X t Γ H σ η ((oO 33 [7500, p, 9902, q, 9903, z] [oF 9901 (oS b)], some x) :: M) g h) (hk : zW (k q) Q) : zW (ygI 9902 (some x) H k) Q := by
  obtain ⟨y, e, k1, k2, k3⟩ := SS_nm 0 S
  cases e
  refine zW_gI k1 rfl ?_
  rw [k3]; exact hk
theorem zW_nm3 {k : Int → ZR YS} {p q z : Int} {b : List Int} {x : Nat} (S : SS C B X t Γ H σ η ((oO 33 [7500, p, 9902, q, 9903, z] [oF 9901 (oS b)], some x) :: M) g h) (hk : zW (k p) Q) : zW (ygIk 33 7500 (some x) H k) Q := by
  obtain ⟨y, e, k1, k2, k3⟩ := SS_nm 0 S
  cases e
  refine zW_gIk k1 ?_
  rw [k2]; exact hk
theorem ho_con {c : Tok} {p : Int} (h : tCon c) : ho (gn (32 + (c.1 - 3)) [[p, c.2.2.2], c.2.2.1] []) = oO 37 [7500, p] [oF 11101 (oT c.1 c.2.2.2 c.2.2.1)] ∧ (32 ≤ 32 + (c.1 - 3) ∧ 32 + (c.1 - 3) ≤ 34) := by
  rw [ho_gn]
  rcases h with h | h | h <;> rw [h] <;> exact ⟨rfl, by decide, by decide⟩
theorem gAtP_nm (h : tNf (pF σ) (pc σ)) : gAtP t R σ = pOpn t σ fun q b σ1 => pR (gn 31 [[((pc σ).2.1 : Int), (q : Int), 0], b] []) σ1 := by
  unfold gAtP
  have hA : tAtP (pF σ) (pc σ) := Or.inr (Or.inr (Or.inl h))
  rw [if_neg (fun z => z hA)]
  rcases h with h | h
  · rw [if_neg (fun z => tIs_ne (by decide) h z), if_neg (tIs_con h), if_neg (fun z => tIs_ne (by decide) h z), if_neg (fun z => tIs_ne (by decide) h z), if_neg (fun z => tIs_ne (by decide) h z)]
  · have k1 := h.1
    rw [if_neg (tIs_k k1 (by decide)), if_neg (tNm_con k1), if_neg (tIs_k k1 (by decide)), if_neg (tIs_k k1 (by decide)), if_neg (tIs_k k1 (by decide))]
abbrev okNm : Ps → Gt → Prop := fun σ τ => ∃ (q : Nat) (b : List Int), τ = gn 31 [[((pc σ).2.1 : Int), (q : Int), 0], b] []
theorem pOpn_res {f : Nat → List Int → Gt} {τ : Gt} (h : pOpn t σ (fun q b σ1 => pR (f q b) σ1) = some (.inr (τ, σ1))) : ∃ q b, τ = f q b := by
  have one : ∀ (σ : Ps) (g : List Int → Gt), pName t σ (fun b σ1 => pR (g b) σ1) = some (.inr (τ, σ1)) → ∃ b, τ = g b := by
    intro σ g h
    unfold pName at h
    split at h
    · cases hp : pPass t σ with
      | inl e => rw [hp] at h; cases h
      | inr σ2 => rw [hp] at h; cases h; exact ⟨_, rfl⟩
    · cases h
  unfold pOpn at h
  split at h
  · cases hp : pPass t σ with
    | inl e => rw [hp] at h; cases h
    | inr σ2 =>
      rw [hp] at h
      have h : pAny t σ2 (fun b σ1 => pR (f (pc σ2).2.1 b) σ1) = some (.inr (τ, σ1)) := h
      unfold pAny at h
      split at h
      · cases hp : pPass t σ2 with
        | inl e => rw [hp] at h; cases h
        | inr σ3 => rw [hp] at h; cases h; exact ⟨_, _, rfl⟩
      · cases h
  · obtain ⟨b, e⟩ := one σ (f (pc σ).2.1) h
    exact ⟨_, b, e⟩
def gNmN (t : List Int) (σ : Ps) : PR := if tNf (pF σ) (pc σ) then pOpn t σ fun q b σ1 => pR (gn 31 [[((pc σ).2.1 : Int), (q : Int), 0], b] []) σ1 else none
theorem YCf_weak {fs fs' : Ps → PR} {mth lev : Nat} {im : Gt → Gt} {ok ok' : Ps → Gt → Prop} (h : YCf C B X t fs mth lev im ok) (hf : ∀ σ r, fs' σ = some r → fs σ = some r ∧ ∀ τ σ1, r = .inr (τ, σ1) → ok' σ τ) : YCf C B X t fs' mth lev im ok' := by
  intro Γ H σ η M g h' d Q r S hu hg hh hd he her hk
  obtain ⟨h1, h2⟩ := hf σ r he
  exact h Γ H σ η M g h' d Q r S hu hg hh hd h1 her (fun τ σ1 H1 η1 ro e1 S1 _ q1 e2 => hk τ σ1 H1 η1 ro e1 S1 (h2 τ σ1 e1) q1 e2)
theorem y_nmN (h : YCf C B X t (gAtP t R) 113 7 ho okPa) : YCf C B X t (gNmN t) 113 7 ho okNm := YCf_weak h (fun σ r he => by
  unfold gNmN at he
  split at he
  · next hn => exact ⟨by rw [gAtP_nm hn]; exact he, fun τ σ1 e => by rw [e] at he; exact pOpn_res he⟩
  · cases he)
theorem pName_any {f : List Int → Ps → PR} (hn : (pc σ).1 = 1) (he : pName t σ f = some r) : pAny t σ f = some r := by
  unfold pName at he
  unfold pAny
  rw [if_pos hn] at he
  rw [if_pos (Or.inl hn)]
  exact he
theorem y_atPat {n : Nat} (hbr : YCf C B X t (nE 28 (gBrP t (sP t n))) 116 5 ho okPa) (hro : YCf C B X t (nE 32 (gRoP t (sP t n))) 122 5 ho okPa) (hli : YCf C B X t (nE 30 (gLiP t (sP t n))) 134 5 ho okPa) : YCf C B X t (gAtP t (sP t n)) 113 7 ho okPa := by
  intro Γ H σ η M g h d Q r S hu hg hh hd he her hk
  have d40 := dep_40 S
  have vl := SS_vl S
  unfold gAtP at he
  have b569 : ∀ (H : YS) {g' h' : Int}, SS C B X t Γ H σ η M g' h' → pOpn t σ (fun q b σ1 => pR (gn 31 [[((pc σ).2.1 : Int), (q : Int), 0], b] []) σ1) = some r → g' ≤ g → h' ≤ h → tNf (pF σ) (pc σ) → zW (yb_Parser_atPat_p119 C (YL C) d (some (X 8)) ((pc σ).2.1 : Int) H) Q := by
    intro H g' h' S he hg1 hh1 hnf
    unfold yb_Parser_atPat_p119
    unfold pOpn at he
    refine zW_takesK 20 112 (by decide) (by omega) S (by omega) (by omega) he her (fun u201 he => ?_) (fun u201 σ201 H201 η201 S201 p201 w201 he => ?_)
    · have hnm : (pc σ).1 = 1 := by
        rcases hnf with z | z
        · exact absurd z u201
        · exact z.1
      have he : pAny t σ (fun b σ1 => pR (gn 31 [[((pc σ).2.1 : Int), ((pc σ).2.1 : Int), 0], b] []) σ1) = some r := pName_any hnm he
      refine zW_plc S ?_
      refine zW_let ?_
      have S202 := SS_new (kd := 33) (n := 6) (p := []) S (by decide) trivial
      refine zW_new ?_
      rw [if_neg (show ¬ (33 : Nat) = 3 by decide)]
      refine zW_any (by omega) S202 (by omega) (by omega) he her (fun k203 x203 σ203 H203 η203 S203 p203 w203 he => ?_)
      have q203 := Qx_p p203
      have m203 := q203.2.2.1
      have d203 := dep_le q203
      have vn203 := congrArg List.length w203.2
      have vd203 := q203.1
      have S204 := SS_pk 2 [1, 0] rfl rfl S203
      refine m_NamePat (by omega) (by omega) S204 (fun H205 S205 => ?_)
      refine zW_rQ (hk (gn 31 [[((pc σ).2.1 : Int), ((pc σ).2.1 : Int), 0], (pc σ).2.2.1] []) _ _ _ _ (Option.some.inj he).symm ?_ ?_ (Qx_to q203 (by omega) (by omega)) (Er_n (by decide) (Er_1 w203)))
      · rw [ho_gn]; exact SS_mono S205 (by omega) (by omega)
      · exact ⟨⟨(by decide : 30 ≤ 31), (by decide : 31 ≤ 41)⟩, fun _ => ⟨gs_gn, rfl⟩⟩
    · have q201 := Qx_p p201
      have m201 := q201.2.2.1
      have d201 := dep_le q201
      have vn201 := congrArg List.length w201.2
      have vd201 := q201.1
      refine zW_plc S201 ?_
      refine zW_let ?_
      have S206 := SS_new (kd := 33) (n := 6) (p := []) S201 (by decide) trivial
      refine zW_new ?_
      rw [if_neg (show ¬ (33 : Nat) = 3 by decide)]
      refine zW_any (by omega) S206 (by omega) (by omega) he her (fun k207 x207 σ207 H207 η207 S207 p207 w207 he => ?_)
      have q207 := Qx_p p207
      have m207 := q207.2.2.1
      have d207 := dep_le q207
      have vn207 := congrArg List.length w207.2
      have vd207 := q207.1
      have S208 := SS_pk 2 [1, 0] rfl rfl S207
      refine m_NamePat (by omega) (by omega) S208 (fun H209 S209 => ?_)
      refine zW_rQ (hk (gn 31 [[((pc σ).2.1 : Int), ((pc σ201).2.1 : Int), 0], (pc σ201).2.2.1] []) _ _ _ _ (Option.some.inj he).symm ?_ ?_ (Qx_to (Qx_t q201 q207) (by omega) (by omega)) (Er_n (by decide) (Er_1 ⟨w207.1.trans w201.1, w207.2.trans w201.2⟩)))
      · rw [ho_gn]; exact SS_mono S209 (by omega) (by omega)
      · exact ⟨⟨(by decide : 30 ≤ 31), (by decide : 31 ≤ 41)⟩, fun _ => ⟨gs_gn, rfl⟩⟩
  refine yl_Parser_atPat ?_
  unfold yb_Parser_atPat
  have hmu := pmu_le (t := t) (σ := σ)
  refine zW_isAtP (by omega) S (fun u1 => ?_) (fun u1 => ?_)
  · refine zW_f (by decide) ?_
    rw [if_neg (fun z => z u1)] at he
    refine zW_plc S ?_
    refine zW_let ?_
    refine zW_tis 28 115 (by decide) (by omega) S (fun u2 => ?_) (fun u2 => ?_)
    · rw [if_neg (fun z => tIs_ne (by decide) z u2), if_neg (tIs_con u2), if_pos u2] at he
      have he := nE_he (f := gBrP t (sP t n)) u2 he
      refine zW_sub hbr (by omega) S hu (by omega) (by omega) he her (fun t3 σ3 H3 η3 ro3 S3 o3 q3 e3 he => ?_)
      have m3 := q3.2.2.1
      have d3 := dep_le q3
      have vn3 := Er_len e3
      have vd3 := q3.1
      exact zW_rQ (hk _ _ _ _ _ (Option.some.inj he).symm (SS_mono S3 (by omega) (by omega)) o3 (Qx_to q3 (by omega) (by omega)) e3)
    · skip
      refine zW_tis 32 114 (by decide) (by omega) S (fun u4 => ?_) (fun u4 => ?_)
      · rw [if_neg (fun z => tIs_ne (by decide) z u4), if_neg (tIs_con u4), if_neg u2, if_pos u4] at he
        have he := nE_he (f := gRoP t (sP t n)) u4 he
        refine zW_sub hro (by omega) S hu (by omega) (by omega) he her (fun t5 σ5 H5 η5 ro5 S5 o5 q5 e5 he => ?_)
        have m5 := q5.2.2.1
        have d5 := dep_le q5
        have vn5 := Er_len e5
        have vd5 := q5.1
        exact zW_rQ (hk _ _ _ _ _ (Option.some.inj he).symm (SS_mono S5 (by omega) (by omega)) o5 (Qx_to q5 (by omega) (by omega)) e5)
      · skip
        refine zW_tis 30 116 (by decide) (by omega) S (fun u6 => ?_) (fun u6 => ?_)
        · rw [if_neg (fun z => tIs_ne (by decide) z u6), if_neg (tIs_con u6), if_neg u2, if_neg u4, if_pos u6] at he
          have he := nE_he (f := gLiP t (sP t n)) u6 he
          refine zW_sub hli (by omega) S hu (by omega) (by omega) he her (fun t7 σ7 H7 η7 ro7 S7 o7 q7 e7 he => ?_)
          have m7 := q7.2.2.1
          have d7 := dep_le q7
          have vn7 := Er_len e7
          have vd7 := q7.1
          exact zW_rQ (hk _ _ _ _ _ (Option.some.inj he).symm (SS_mono S7 (by omega) (by omega)) o7 (Qx_to q7 (by omega) (by omega)) e7)
        · skip
          refine zW_takes 37 113 (by decide) (by omega) S (by omega) (by omega) he her (fun u8 he => ?_) (fun u8 σ8 H8 η8 S8 p8 w8 he => ?_)
          · refine zW_kd 1 9 (by decide) rfl S (fun u9 => ?_) (fun u9 => ?_)
            · rw [if_neg (tNm_con u9), if_neg u2, if_neg u4, if_neg u6] at he
              refine yl_Parser_atPat_p119 ?_
              unfold yb_Parser_atPat_p119
              exact b569 H S he (by omega) (by omega) (tAtP_nm u1 u9)
            · refine zW_tis 20 112 (by decide) (by omega) S (fun u10 => ?_) (fun u10 => ?_)
              · rw [if_neg (tIs_con u10), if_neg u2, if_neg u4, if_neg u6] at he
                refine yl_Parser_atPat_p119 ?_
                unfold yb_Parser_atPat_p119
                exact b569 H S he (by omega) (by omega) (Or.inl u10)
              · have hc : tCon (pc σ) := by
                  rcases u1 with z | z | (z | z) | z | z | z
                  · exact absurd z u8
                  · exact z
                  · exact absurd z u10
                  · exact absurd z.1 u9
                  · exact absurd z u4
                  · exact absurd z u2
                  · exact absurd z u6
                rw [if_pos hc] at he
                unfold gConst at he
                have S11 := SS_new (kd := 37) (n := 2) (p := []) S (by decide) trivial
                refine zW_new ?_
                rw [if_neg (show ¬ (37 : Nat) = 3 by decide)]
                refine zW_tokv S11 (fun x12 hx12 S12 => ?_)
                have S13 := SS_pk 2 [1, 0] rfl rfl S12
                refine m_ConstantPat hx12 (by omega) S13 (fun H14 S14 => ?_)
                refine zW_let ?_
                refine zW_pass (by omega) S14 (by rcases hc with z | z | z <;> omega) (by omega) (by omega) he her (fun σ15 H15 η15 S15 p15 w15 he => ?_)
                have q15 := Qx_p p15
                have m15 := q15.2.2.1
                have d15 := dep_le q15
                have vn15 := congrArg List.length w15.2
                have vd15 := q15.1
                refine zW_rQ (hk (gn (32 + ((pc σ).1 - 3)) [[((pc σ).2.1 : Int), (pc σ).2.2.2], (pc σ).2.2.1] []) _ _ _ _ (Option.some.inj he).symm ?_ ?_ (Qx_to q15 (by omega) (by omega)) (Er_n (by have k3 := (ho_con (p := 0) hc).2; simp only [List.mem_cons, List.not_mem_nil, or_false, not_or]; omega) (Er_1 w15)))
                · rw [(ho_con hc).1]; exact SS_mono S15 (by omega) (by omega)
                · have k3 := (ho_con (p := 0) hc).2; exact ⟨⟨by show 30 ≤ 32 + _; omega, by show 32 + _ ≤ 41; omega⟩, fun q => by have q : 32 + ((pc σ).1 - 3) = 31 := q; omega⟩
          · have q8 := Qx_p p8
            have m8 := q8.2.2.1
            have d8 := dep_le q8
            have vn8 := congrArg List.length w8.2
            have vd8 := q8.1
            have S16 := SS_new (kd := 36) (n := 1) (p := []) S8 (by decide) trivial
            refine zW_new ?_
            rw [if_neg (show ¬ (36 : Nat) = 3 by decide)]
            refine m_AnyPat (by omega) S16 (fun H17 S17 => ?_)
            refine zW_rQ (hk (gn 30 [[((pc σ).2.1 : Int)]] []) _ _ _ _ (Option.some.inj he).symm ?_ ?_ (Qx_to q8 (by omega) (by omega)) (Er_n (by decide) (Er_1 w8)))
            · rw [ho_gn]; exact SS_mono S17 (by omega) (by omega)
            · exact ⟨⟨(by decide : 30 ≤ 30), (by decide : 30 ≤ 41)⟩, fun q => by cases q⟩
  · refine zW_t rfl ?_
    rw [if_pos u1] at he
    exact zW_wr (by omega) S (by omega) (by omega) he her
theorem okNm_P {σ : Ps} {τ : Gt} (h : okNm σ τ) : okPa σ τ := by
  obtain ⟨q, b, rfl⟩ := h
  exact ⟨⟨(by decide : 30 ≤ 31), (by decide : 31 ≤ 41)⟩, fun _ => ⟨gs_gn, rfl⟩⟩
theorem gms_nm {p : List (List Int)} {x : Gt} (b : Bool) : gms b ([gn 31 p []] ++ [x]) = gms b [x] := by
  rw [gms_app, gms_1, gmn_tr (by decide)]; rfl
theorem y_appPat (h25 : YCf C B X t (R 25 [] []) 113 7 ho okPa) (hN : YCf C B X t (gNmN t) 113 7 ho okNm) : YCf C B X t (gAppP t R) 112 8 ho okPa := by
  intro Γ H σ η M g h d Q r S hu hg hh hd he her hk
  have d40 := dep_40 S
  have vl := SS_vl S
  unfold gAppP at he
  have k0 : ¬ tNf (pF σ) (pc σ) → zW (YL C d 568 [zr (X 8), .inl 0] H) Q := by
    intro hn
    rw [if_neg hn] at he
    have he : pB (R 25 [] [] σ) pR = some r := by rw [pB_id]; exact he
    refine yl_Parser_appPat_p39 ?_
    unfold yb_Parser_appPat_p39
    refine zW_let ?_
    refine zW_sub h25 (by omega) S hu (by omega) (by omega) he her (fun t1 σ1 H1 η1 ro1 S1 o1 q1 e1 he => ?_)
    have m1 := q1.2.2.1
    have d1 := dep_le q1
    have vn1 := Er_len e1
    have vd1 := q1.1
    refine zW_let ?_
    refine zW_t rfl ?_
    exact zW_rQ (hk _ _ _ _ _ (Option.some.inj he).symm (SS_mono S1 (by omega) (by omega)) o1 (Qx_to q1 (by omega) (by omega)) e1)
  have k1 : tNf (pF σ) (pc σ) → zW (YL C d 568 [zr (X 8), .inl 1] H) Q := by
    intro hn
    rw [if_pos hn] at he
    have he : pB (gNmN t σ) (fun p σ1 => if tAtP (pF σ1) (pc σ1) then pB (R 25 [] [] σ1) fun x σ2 => pR (gn 36 [[gbg p, hq (gp p) 1], hnm (gp p)] [x]) σ2 else pR p σ1) = some r := by
      unfold gNmN
      rw [if_pos hn]
      simp only [pB_pOpn, pB_pR]
      exact he
    refine yl_Parser_appPat_p39 ?_
    unfold yb_Parser_appPat_p39
    refine zW_let ?_
    refine zW_sub hN (by omega) S hu (by omega) (by omega) he her (fun t1 σ1 H1 η1 ro1 S1 o1 q1 e1 he => ?_)
    have m1 := q1.2.2.1
    have d1 := dep_le q1
    have vn1 := Er_len e1
    have vd1 := q1.1
    refine zW_let ?_
    refine zW_f (by decide) ?_
    refine zW_isAtP (by omega) S1 (fun u2 => ?_) (fun u2 => ?_)
    · refine zW_f (by decide) ?_
      rw [if_pos u2] at he
      obtain ⟨qn, nb, rfl⟩ := o1
      have e31 : ho (gn 31 [[((pc σ).2.1 : Int), (qn : Int), 0], nb] []) = _ := ho_31
      have S90 := S1
      rw [e31] at S90
      obtain ⟨xn, rfl, kn, -⟩ := SS_nm 0 S90
      refine zW_cc kn (by decide +kernel) ?_
      refine zW_let ?_
      have S3 := SS_new (kd := 38) (n := 6) (p := []) S90 (by decide) trivial
      refine zW_new ?_
      rw [if_neg (show ¬ (38 : Nat) = 3 by decide)]
      refine zW_nm1 (SS_up 1 S3 rfl) (fun x4 S4 => ?_)
      refine zW_nm2 (SS_up 1 S4 rfl) ?_
      refine zW_nm3 (SS_up 1 S4 rfl) ?_
      refine zW_sub h25 (by omega) S4 hu (by omega) (by omega) he her (fun t5 σ5 H5 η5 ro5 S5 o5 q5 e5 he => ?_)
      have m5 := q5.2.2.1
      have d5 := dep_le q5
      have vn5 := Er_len e5
      have vd5 := q5.1
      have S6 := SS_pk 4 [3, 1, 0, 2] rfl rfl S5
      refine m_ConPat (by omega) (by omega) S6 (fun H7 S7 => ?_)
      have S8 := SS_pk 2 [1, 0] rfl rfl S7
      have S9 := SS_drop S8
      refine zW_rQ (hk (gn 36 [[((pc σ).2.1 : Int), (qn : Int)], nb] [t5]) _ _ _ _ (Option.some.inj he).symm ?_ ?_ (Qx_to (Qx_t q1 q5) (by omega) (by omega)) (Er_n (by decide) (Er_c (gms_nm false) (gms_nm true) (Er_t e1 e5))))
      · rw [ho_gn]; exact SS_mono S9 (by omega) (by omega)
      · exact ⟨⟨(by decide : 30 ≤ 36), (by decide : 36 ≤ 41)⟩, fun q => by cases q⟩
    · refine zW_t rfl ?_
      rw [if_neg u2] at he
      exact zW_rQ (hk _ _ _ _ _ (Option.some.inj he).symm (SS_mono S1 (by omega) (by omega)) (okNm_P o1) (Qx_to q1 (by omega) (by omega)) e1)
  refine yl_Parser_appPat ?_
  unfold yb_Parser_appPat
  refine zW_tis 20 112 (by decide) (by omega) S (fun u1 => ?_) (fun u1 => ?_)
  · skip
    exact k1 (Or.inl u1)
  · skip
    refine zW_isNm (by omega) S (fun u2 => ?_) (fun u2 => ?_)
    · refine zW_f (by decide) ?_
      refine zW_str (by omega) S (fun u3 => ?_) (fun u3 => ?_)
      · exact k1 (Or.inr ⟨u2, u3⟩)
      · exact k0 (fun z => z.elim u1 (fun z => u3 z.2))
    · refine zW_t rfl ?_
      exact k0 (fun z => z.elim u1 (fun z => u2 z.1))
end YPat2
