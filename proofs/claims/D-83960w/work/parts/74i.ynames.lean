set_option maxRecDepth 100000
/-! THE HOUSE'S PARSER: tests of the token at hand; names, labels -/
section YNm
variable {C : YC} {B P O : Nat → Prop} {X : Nat → Nat} {t : List Int} {Γ : Gm} {H H' : YS} {σ σ1 : Ps} {η η1 : Et} {M : List (Gt × Option Nat)} {g h g' h' : Int} {a e c s d dp n tag : Nat} {Q : Option (Option ZV) → YS → Prop} {r : (Int × Nat) ⊕ (Gt × Ps)} {p : Prop}
theorem zW_test {k : Int → YS → ZR YS} (hd : 1 ≤ d) (S : SS C B X t Γ H σ η M g h) (ht : ∀ Q : Option (Option ZV) → YS → Prop, (p → Q (some (some (.inl 1))) H) → (¬ p → Q (some (some (.inl 0))) H) → zW (YL C (d - 1) tag [zr (X 8)] H) Q) (h1 : p → zW (k 1 H) Q) (h0 : ¬ p → zW (k 0 H) Q) : zW (zI (ycv (YL C) d [(6, tag)] (some (X 8)) [] H) k) Q := by
  obtain ⟨d, rfl⟩ : ∃ e, d = e + 1 := ⟨d - 1, by omega⟩
  rw [ycv_s (SS_8 S) ⟨by decide, rfl⟩]
  refine zW_I (P := fun v H1 => H1 = H ∧ ((v = 1 ∧ p) ∨ (v = 0 ∧ ¬ p))) (T := fun _ => False) (zW_c (ht _ (fun q => ⟨rfl, Or.inl ⟨rfl, q⟩⟩) (fun q => ⟨rfl, Or.inr ⟨rfl, q⟩⟩))) ?_ (fun _ q => q.elim)
  rintro v H1 ⟨rfl, ⟨rfl, q⟩ | ⟨rfl, q⟩⟩
  · exact h1 q
  · exact h0 q
theorem zW_str {A D : YS → ZR YS} (hd : 6 ≤ d) (S : SS C B X t Γ H σ η M g h) (h1 : pSt (pF σ) (pc σ) = none → zW (A H) Q) (h0 : pSt (pF σ) (pc σ) ≠ none → zW (D H) Q) : zW (ygR 1804 (some (X 8)) H fun v => zQ (ycv (YL C) d [(6, 110)] (some (X 8)) [.inr (.inr v)] H) fun v2 h2 => ynull v2 (A h2) (D h2)) Q := by
  obtain ⟨d, rfl⟩ : ∃ e, d = e + 6 := ⟨d - 6, by omega⟩
  obtain ⟨a, e, tk⟩ := SS_c S
  have hk := SS_tk S
  refine zW_gR (SS_8 S) rfl ?_
  rw [e, ycv_s (SS_8 S) ⟨by decide, rfl⟩]
  obtain ⟨w, e1, e2⟩ := y_strength (d := d) (SS_D S) (SS_W S) S.1 tk ⟨hk.1, hk.2.2.1⟩
  refine zW_Qe e1 ?_
  rcases e2 with ⟨rfl, q⟩ | ⟨s, q, rfl, q1, _⟩
  · exact zW_n0 (h1 q)
  · exact zW_nn (h0 (by rw [q1]; exact fun z => by cases z))
theorem zW_isWide {k : Int → YS → ZR YS} (hd : 5 ≤ d) (S : SS C B X t Γ H σ η M g h) (h1 : tWide (pc σ) → zW (k 1 H) Q) (h0 : ¬ tWide (pc σ) → zW (k 0 H) Q) : zW (zI (ycv (YL C) d [(6, 141)] (some (X 8)) [] H) k) Q := by
  refine zW_test (by omega) S (fun Q q1 q0 => yl_Parser_isWide ?_) h1 h0
  unfold yb_Parser_isWide
  refine zW_tis 22 127 (by decide) (by omega) S (fun w => zW_rN rfl (q1 (Or.inl w))) (fun w1 => ?_)
  refine zW_tis 12 128 (by decide) (by omega) S (fun w => zW_rN rfl (q1 (Or.inr (Or.inl w)))) (fun w2 => ?_)
  refine zW_tis 27 129 (by decide) (by omega) S (fun w => zW_rN rfl (q1 (Or.inr (Or.inr (Or.inl w))))) (fun w3 => ?_)
  refine zW_tis 3 130 (by decide) (by omega) S (fun w => zW_rN rfl (q1 (Or.inr (Or.inr (Or.inr (Or.inl w)))))) (fun w4 => ?_)
  refine zW_tis 9 131 (by decide) (by omega) S (fun w => zW_rN rfl (q1 (Or.inr (Or.inr (Or.inr (Or.inr w)))))) (fun w5 => zW_rN rfl (q0 ?_))
  rintro (w | w | w | w | w)
  · exact w1 w
  · exact w2 w
  · exact w3 w
  · exact w4 w
  · exact w5 w
theorem zW_isNmS {k : Int → YS → ZR YS} {b : List Int} (j : Nat) (hj : j ∈ cstrs ∧ cstr j = b) (hd : 3 ≤ d) (S : SS C B X t Γ H σ η M g h) (h1 : (pc σ).1 = 1 ∧ (pc σ).2.2.1 = b → zW (k 1 H) Q) (h0 : ¬ ((pc σ).1 = 1 ∧ (pc σ).2.2.1 = b) → zW (k 0 H) Q) : zW (ygR 1804 (some (X 8)) H fun v => zI (ycv (YL C) d [(22, 318)] v [.inr (.inr (some (C.1 j)))] H) k) Q := by
  obtain ⟨d, rfl⟩ : ∃ e, d = e + 3 := ⟨d - 3, by omega⟩
  obtain ⟨a, e, tk⟩ := SS_c S
  have hk := SS_tk S
  refine zW_gR (SS_8 S) rfl ?_
  rw [e, ycv_s tk.2.1 ⟨by decide, rfl⟩]
  refine zW_Ie (y_isName2 (d := d) (SS_D S) (SS_W S) tk ⟨hk.1, hk.2.2.1⟩ ((SS_F S).2 j hj.1)) ?_
  rw [hj.2]
  by_cases q : (pc σ).1 = 1 ∧ (pc σ).2.2.1 = b
  · rw [if_pos q]; exact h1 q
  · rw [if_neg q]; exact h0 q
theorem zW_isTyn {k : Int → YS → ZR YS} (hd : 5 ≤ d) (S : SS C B X t Γ H σ η M g h) (h1 : tTyn (pc σ) → zW (k 1 H) Q) (h0 : ¬ tTyn (pc σ) → zW (k 0 H) Q) : zW (zI (ycv (YL C) d [(6, 133)] (some (X 8)) [] H) k) Q := by
  refine zW_test (by omega) S (fun Q q1 q0 => yl_Parser_isTypeName ?_) h1 h0
  unfold yb_Parser_isTypeName
  refine zW_isNm (by omega) S (fun w => zW_f (by decide) ?_) (fun w => zW_t rfl (zW_rN rfl (q0 (fun q => w q.1))))
  refine zW_isNmS 123 ⟨by decide, rfl⟩ (by omega) S (fun w2 => zW_f (by decide) (zW_rN rfl (q0 (fun q => q.2 (w2.2.trans (by decide)))))) (fun w2 => zW_t rfl (zW_rN rfl (q1 ⟨w, fun q => w2 ⟨w, q.trans (by decide)⟩⟩)))
theorem zW_isAt {k : Int → YS → ZR YS} (hd : 8 ≤ d) (S : SS C B X t Γ H σ η M g h) (h1 : tAt (pF σ) (pc σ) → zW (k 1 H) Q) (h0 : ¬ tAt (pF σ) (pc σ) → zW (k 0 H) Q) : zW (zI (ycv (YL C) d [(6, 150)] (some (X 8)) [] H) k) Q := by
  refine zW_test (by omega) S (fun Q q1 q0 => yl_Parser_isAt ?_) h1 h0
  unfold yb_Parser_isAt
  refine zW_kd 3 12 (by decide) rfl S (fun w => zW_rN rfl (q1 (Or.inl (Or.inl w)))) (fun w1 => ?_)
  refine zW_kd 4 13 (by decide) rfl S (fun w => zW_rN rfl (q1 (Or.inl (Or.inr (Or.inl w))))) (fun w2 => ?_)
  refine zW_kd 5 14 (by decide) rfl S (fun w => zW_rN rfl (q1 (Or.inl (Or.inr (Or.inr w))))) (fun w3 => ?_)
  have rest : ¬ tNm (pF σ) (pc σ) → zW (YL C (d - 1) 600 [zr (X 8)] H) Q := by
    intro w4
    refine yl_Parser_isAt_p60 ?_
    unfold yb_Parser_isAt_p60
    refine zW_tis 20 112 (by decide) (by omega) S (fun w => zW_rN rfl (q1 (Or.inr (Or.inr (Or.inl w))))) (fun w5 => ?_)
    refine zW_tis 43 138 (by decide) (by omega) S (fun w => zW_rN rfl (q1 (Or.inr (Or.inr (Or.inr (Or.inl w)))))) (fun w6 => ?_)
    refine zW_tis 32 114 (by decide) (by omega) S (fun w => zW_rN rfl (q1 (Or.inr (Or.inr (Or.inr (Or.inr (Or.inl w))))))) (fun w7 => ?_)
    refine zW_tis 28 115 (by decide) (by omega) S (fun w => zW_rN rfl (q1 (Or.inr (Or.inr (Or.inr (Or.inr (Or.inr (Or.inl w)))))))) (fun w8 => ?_)
    refine zW_tis 30 116 (by decide) (by omega) S (fun w => zW_rN rfl (q1 (Or.inr (Or.inr (Or.inr (Or.inr (Or.inr (Or.inr (Or.inl w))))))))) (fun w9 => ?_)
    refine zW_tis 16 139 (by decide) (by omega) S (fun w => zW_rN rfl (q1 (Or.inr (Or.inr (Or.inr (Or.inr (Or.inr (Or.inr (Or.inr w))))))))) (fun wa => zW_rN rfl (q0 ?_))
    rintro ((w | w | w) | w | w | w | w | w | w | w)
    · exact w1 w
    · exact w2 w
    · exact w3 w
    · exact w4 w
    · exact w5 w
    · exact w6 w
    · exact w7 w
    · exact w8 w
    · exact w9 w
    · exact wa w
  refine zW_isNm (by omega) S (fun w => zW_f (by decide) ?_) (fun w => zW_t rfl (rest (fun q => w q.1)))
  exact zW_str (by omega) S (fun w2 => zW_rN rfl (q1 (Or.inr (Or.inl ⟨w, w2⟩)))) (fun w2 => rest (fun q => w2 q.2))
theorem zW_isAtP {k : Int → YS → ZR YS} (hd : 8 ≤ d) (S : SS C B X t Γ H σ η M g h) (h1 : tAtP (pF σ) (pc σ) → zW (k 1 H) Q) (h0 : ¬ tAtP (pF σ) (pc σ) → zW (k 0 H) Q) : zW (zI (ycv (YL C) d [(6, 114)] (some (X 8)) [] H) k) Q := by
  refine zW_test (by omega) S (fun Q q1 q0 => yl_Parser_isAtPat ?_) h1 h0
  unfold yb_Parser_isAtPat
  refine zW_tis 37 113 (by decide) (by omega) S (fun w => zW_rN rfl (q1 (Or.inl w))) (fun w0 => ?_)
  refine zW_kd 3 12 (by decide) rfl S (fun w => zW_rN rfl (q1 (Or.inr (Or.inl (Or.inl w))))) (fun w1 => ?_)
  refine zW_kd 4 13 (by decide) rfl S (fun w => zW_rN rfl (q1 (Or.inr (Or.inl (Or.inr (Or.inl w)))))) (fun w2 => ?_)
  refine zW_kd 5 14 (by decide) rfl S (fun w => zW_rN rfl (q1 (Or.inr (Or.inl (Or.inr (Or.inr w)))))) (fun w3 => ?_)
  refine zW_tis 20 112 (by decide) (by omega) S (fun w => zW_rN rfl (q1 (Or.inr (Or.inr (Or.inl (Or.inl w)))))) (fun w5 => ?_)
  have rest : ¬ tNm (pF σ) (pc σ) → zW (YL C (d - 1) 570 [zr (X 8)] H) Q := by
    intro w4
    refine yl_Parser_isAtPat_p86 ?_
    unfold yb_Parser_isAtPat_p86
    refine zW_tis 32 114 (by decide) (by omega) S (fun w => zW_rN rfl (q1 (Or.inr (Or.inr (Or.inr (Or.inl w)))))) (fun w7 => ?_)
    refine zW_tis 28 115 (by decide) (by omega) S (fun w => zW_rN rfl (q1 (Or.inr (Or.inr (Or.inr (Or.inr (Or.inl w))))))) (fun w8 => ?_)
    refine zW_tis 30 116 (by decide) (by omega) S (fun w => zW_rN rfl (q1 (Or.inr (Or.inr (Or.inr (Or.inr (Or.inr w))))))) (fun w9 => zW_rN rfl (q0 ?_))
    rintro (w | (w | w | w) | (w | w) | w | w | w)
    · exact w0 w
    · exact w1 w
    · exact w2 w
    · exact w3 w
    · exact w5 w
    · exact w4 w
    · exact w7 w
    · exact w8 w
    · exact w9 w
  refine zW_isNm (by omega) S (fun w => zW_f (by decide) ?_) (fun w => zW_t rfl (rest (fun q => w q.1)))
  exact zW_str (by omega) S (fun w2 => zW_rN rfl (q1 (Or.inr (Or.inr (Or.inl (Or.inr ⟨w, w2⟩)))))) (fun w2 => rest (fun q => w2 q.2))
/-! names -/
theorem zW_name {k : Option Nat → YS → ZR YS} {f : List Int → Ps → PR} (hd : 15 ≤ d) (S : SS C B X t Γ H σ η M g h) (hg : g ≤ 4000) (hh : h ≤ 4000) (he : pName t σ f = some r) (her : ∀ e p H', r = .inl (e, p) → Th C B X t Γ H' e p → Q none H') (hk : (pc σ).1 = 1 → ∀ s σ1 H1 η1, SS C B X t Γ H1 σ1 η1 ((oS (pc σ).2.2.1, some s) :: M) (g - 30) (h - 200) → Pn t σ σ1 → Et1 η η1 → f (pc σ).2.2.1 σ1 = some r → zW (k (some s) H1) Q) : zW (zQ (ycv (YL C) d [(6, 124)] (some (X 8)) [] H) k) Q := by
  obtain ⟨d, rfl⟩ : ∃ e, d = e + 1 := ⟨d - 1, by omega⟩
  rw [ycv_s (SS_8 S) ⟨by decide, rfl⟩]
  unfold pName at he
  refine zW_Q (P := fun v H1 => (pc σ).1 = 1 ∧ ∃ s σ1 η1, v = some s ∧ SS C B X t Γ H1 σ1 η1 ((oS (pc σ).2.2.1, some s) :: M) (g - 30) (h - 200) ∧ Pn t σ σ1 ∧ Et1 η η1 ∧ f (pc σ).2.2.1 σ1 = some r) (T := fun H1 => Q none H1) (zW_c (yl_Parser_name ?_)) (fun v H1 ⟨q, s, σ1, η1, e, S1, p, w, e2⟩ => by rw [e]; exact hk q s σ1 H1 η1 S1 p w e2) (fun _ q => q)
  unfold yb_Parser_name
  refine zW_isNm (by omega) S (fun w => ?_) (fun w => zW_t rfl ?_)
  · rw [if_pos w] at he
    refine zW_f (by decide) (zW_txt S (fun s hs S1 => zW_let ?_))
    exact zW_pass (by omega) S1 (by omega) hg hh he her (fun σ1 H1 η1 S2 p w2 e => zW_rQ ⟨w, s, σ1, η1, rfl, S2, p, w2, e⟩)
  · rw [if_neg w] at he
    exact zW_wr (by omega) S hg hh he her
theorem zW_any {k : Option Nat → YS → ZR YS} {f : List Int → Ps → PR} (hd : 15 ≤ d) (S : SS C B X t Γ H σ η M g h) (hg : g ≤ 4000) (hh : h ≤ 4000) (he : pAny t σ f = some r) (her : ∀ e p H', r = .inl (e, p) → Th C B X t Γ H' e p → Q none H') (hk : (pc σ).1 ≠ 6 → ∀ s σ1 H1 η1, SS C B X t Γ H1 σ1 η1 ((oS (pc σ).2.2.1, some s) :: M) (g - 30) (h - 200) → Pn t σ σ1 → Et1 η η1 → f (pc σ).2.2.1 σ1 = some r → zW (k (some s) H1) Q) : zW (zQ (ycv (YL C) d [(6, 135)] (some (X 8)) [] H) k) Q := by
  obtain ⟨d, rfl⟩ : ∃ e, d = e + 1 := ⟨d - 1, by omega⟩
  rw [ycv_s (SS_8 S) ⟨by decide, rfl⟩]
  unfold pAny at he
  refine zW_Q (P := fun v H1 => (pc σ).1 ≠ 6 ∧ ∃ s σ1 η1, v = some s ∧ SS C B X t Γ H1 σ1 η1 ((oS (pc σ).2.2.1, some s) :: M) (g - 30) (h - 200) ∧ Pn t σ σ1 ∧ Et1 η η1 ∧ f (pc σ).2.2.1 σ1 = some r) (T := fun H1 => Q none H1) (zW_c (yl_Parser_opName ?_)) (fun v H1 ⟨q, s, σ1, η1, e, S1, p, w, e2⟩ => by rw [e]; exact hk q s σ1 H1 η1 S1 p w e2) (fun _ q => q)
  have yes : (pc σ).1 = 1 ∨ pIs σ 40 → zW (YL C d 588 [zr (X 8)] H) (oQ (fun v H1 => (pc σ).1 ≠ 6 ∧ ∃ s σ1 η1, v = some s ∧ SS C B X t Γ H1 σ1 η1 ((oS (pc σ).2.2.1, some s) :: M) (g - 30) (h - 200) ∧ Pn t σ σ1 ∧ Et1 η η1 ∧ f (pc σ).2.2.1 σ1 = some r) (fun H1 => Q none H1)) := by
    intro w
    have h6 : (pc σ).1 ≠ 6 := by
      rcases w with w | w
      · omega
      · have := w.1; omega
    rw [if_pos w] at he
    refine yl_Parser_opName_p27 ?_
    unfold yb_Parser_opName_p27
    refine zW_txt S (fun s hs S1 => zW_let ?_)
    exact zW_pass (by omega) S1 h6 hg hh he her (fun σ1 H1 η1 S2 p w2 e => zW_rQ ⟨h6, s, σ1, η1, rfl, S2, p, w2, e⟩)
  unfold yb_Parser_opName
  refine zW_isNm (by omega) S (fun w => zW_f (by decide) (yes (Or.inl w))) (fun w => zW_t rfl ?_)
  refine zW_tis 40 1 (by decide) (by omega) S (fun w2 => yes (Or.inr w2)) (fun w2 => ?_)
  rw [if_neg (fun q => q.elim w w2)] at he
  exact zW_wr (by omega) S hg hh he her
end YNm
