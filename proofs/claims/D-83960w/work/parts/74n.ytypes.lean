set_option maxRecDepth 100000
/-! THE HOUSE'S PARSER: types -/
abbrev okO' : Ps → Gt → Prop := fun _ τ => 50 ≤ gk τ ∧ gk τ ≤ 54
theorem ho_br {k : Nat} {l r : Gt} : ho (.branch k l r) = hoG k (gpl l) ((gsp r).map fun x => (x, ho x)) := by
  show hoG k (gpl l) (gfoldA oN hoG r).2 = _
  rw [gfoldA_gsp]; rfl
theorem ho_T {τ : Gt} (h : 50 ≤ gk τ ∧ gk τ ≤ 54) : 28 ≤ gk (ho τ) ∧ gk (ho τ) ≤ 31 ∧ ∃ p s, ho τ = gn (gk (ho τ)) p s := by
  cases τ with
  | leaf p => exact absurd h.1 (by show ¬ 50 ≤ 0; decide)
  | branch k l r =>
    have h : 50 ≤ k ∧ k ≤ 54 := h
    rw [ho_br]
    have hk : k = 50 ∨ k = 51 ∨ k = 52 ∨ k = 53 ∨ k = 54 := by omega
    rcases hk with rfl | rfl | rfl | rfl | rfl
    · exact ⟨(by decide : 28 ≤ 28), (by decide : 28 ≤ 31), _, _, rfl⟩
    · exact ⟨(by decide : 28 ≤ 30), (by decide : 30 ≤ 31), _, _, rfl⟩
    · exact ⟨(by decide : 28 ≤ 29), (by decide : 29 ≤ 31), _, _, rfl⟩
    · exact ⟨(by decide : 28 ≤ 31), (by decide : 31 ≤ 31), _, _, rfl⟩
    · exact ⟨(by decide : 28 ≤ 29), (by decide : 29 ≤ 31), _, _, rfl⟩
theorem okT_G {τ : Gt} (h : 50 ≤ gk τ ∧ gk τ ≤ 54) : okG (ho τ) := Or.inl (by have := ho_T h; omega)
/-- what stands behind: nothing, unless c -/
def YSt (fs : Ps → PR) (c : Ps → Prop) : Prop := (∀ σ r, fs σ = some r → ¬ c σ → r = .inr (gl [], σ)) ∧ ∀ σ τ σ1, fs σ = some (.inr (τ, σ1)) → c σ → gs τ ≠ []
/-- a loop of method mth on a list: the object that comes at its end -/
def YLp (C : YC) (B : Nat → Prop) (X : Nat → Nat) (t : List Int) (fs : Ps → PR) (lev : Nat) (mth : Nat) (as : Nat → List ZV) (im : List Gt → Gt) (kg kh ug uh : Int) : Prop :=
  ∀ (Γ : Gm) (H : YS) (σ : Ps) (η : Et) (M : List (Gt × Option Nat)) (g h : Int) (d : Nat) (Q : Option (Option ZV) → YS → Prop) (r : (Int × Nat) ⊕ (Gt × Ps)) (cap a : Nat) (l : List Gt), SS C B X t Γ H σ η ((oC cap l, some a) :: M) g h → hU mth Γ → g ≤ 3000 → h + 8 * l.length ≤ 3000 + 4 * cap → cap ≤ 10 + 2 * l.length → l.length + pmu t σ ≤ 999 → dep t σ + lev ≤ d → fs σ = some r →
    (∀ e p H', r = .inl (e, p) → Th C B X t Γ H' e p → Q none H') →
    (∀ τ σ1 H1 η1 ro, r = .inr (τ, σ1) → SS C B X t Γ H1 σ1 η1 ((im (l ++ (gs τ).map ho), ro) :: M) (g + 5 + kg * l.length - ug * (gs τ).length) (h + 110 + kh * l.length - 4 * cap - uh * (gs τ).length) → Qx t 0 0 σ σ1 → Er η η1 (gs τ) → Q (some (some (.inr (.inr ro)))) H1) → zW (YL C d mth (zr (X 8) :: as a) H) Q
theorem pB_c {x : PR} {f : Gt → Ps → PR} {r : (Int × Nat) ⊕ (Gt × Ps)} (h : pB x f = some r) : ∃ q, x = some q ∧ ((∃ e, q = .inl e ∧ r = .inl e) ∨ ∃ τ σ, q = .inr (τ, σ) ∧ f τ σ = some r) := by
  unfold pB at h
  split at h
  · exact ⟨_, rfl, Or.inr ⟨_, _, rfl, h⟩⟩
  · exact ⟨_, rfl, Or.inl ⟨_, rfl, (Option.some.inj h).symm⟩⟩
  · cases h
theorem pB_e {x : PR} {f : Gt → Ps → PR} {r : (Int × Nat) ⊕ (Gt × Ps)} (h : pB x f = some r) : ∃ q, x = some q ∧ (∀ e, q = .inl e → r = .inl e) ∧ ∀ τ σ, q = .inr (τ, σ) → f τ σ = some r := by
  obtain ⟨q, hq, h⟩ := pB_c h
  refine ⟨q, hq, fun e w => ?_, fun τ σ w => ?_⟩
  · rcases h with ⟨e', w3, w4⟩ | ⟨τ, σ', w3, w4⟩
    · rw [w] at w3; cases w3; exact w4
    · rw [w] at w3; cases w3
  · rcases h with ⟨e', w3, w4⟩ | ⟨τ', σ', w3, w4⟩
    · rw [w] at w3; cases w3
    · rw [w] at w3; cases w3; exact w4
section YTy
variable {C : YC} {B : Nat → Prop} {X : Nat → Nat} {t : List Int} {R : PX} {p0 : Int}
theorem gs_gl {s : List Gt} : gs (gl s) = s := gs_gn
theorem hs_map {s : List Gt} : hs (s.map fun x => (x, ho x)) = s.map ho := by unfold hs; rw [List.map_map]; rfl
theorem dep_le {σ σ1 : Ps} {m : Nat} (h : Qx t 0 m σ σ1) : dep t σ1 + 2 * m ≤ dep t σ := by
  have h1 := h.1
  have h2 := h.2.2.1
  have : pd σ1 = pd σ := by omega
  unfold dep
  rw [this]
  omega
theorem dep_40 {Γ : Gm} {H : YS} {σ : Ps} {η : Et} {M : List (Gt × Option Nat)} {g h : Int} (S : SS C B X t Γ H σ η M g h) : 40 ≤ dep t σ := by
  have := S.1.1.2.2.2.1.2.1.1
  unfold dep
  omega
theorem dep_op {σ σ1 : Ps} {m : Nat} (h : Qx t 1 m σ σ1) (hp : pd σ < 40) : dep t σ1 + 40 + 2 * m ≤ dep t σ := by
  have h1 := h.1
  have h2 := h.2.2.1
  have : pd σ1 = pd σ + 1 := by omega
  unfold dep
  rw [this]
  omega
theorem y_ty (h32 : YCf C B X t (R 32 [] []) 127 3 ho okO') (hL : ∀ p : Int, YLp C B X t (R 31 [] []) 4 578 (fun a => [.inl p, zr a]) (fun l => oO 31 [] [oF 9301 (oL l)]) 0 8 30 200) (hS : YSt (R 31 [] []) (pIs · 42)) (hlen : t.length ≤ 900) : YCf C B X t (gTy R) 126 4 ho okO' := by
  intro Γ H σ η M g h d Q r S hu hg hh hd he her hk
  have d40 := dep_40 S
  refine yl_Parser_ty ?_
  unfold yb_Parser_ty
  unfold gTy at he
  refine zW_plc S (zW_let ?_)
  refine zW_sub h32 (by omega) S hu hg hh he her (fun a σ1 H1 η1 ro S1 o1 q1 e1 he => zW_let ?_)
  have dl := dep_le q1
  obtain ⟨q, hq, he⟩ := pB_c he
  refine zW_tis 42 124 (by decide) (by omega) S1 (fun w => ?_) (fun w => ?_)
  · refine zW_alnew (by omega) S1 (fun H2 la S2 => zW_let ?_)
    refine zW_add (by omega) (by omega) (okT_G o1) S2 (fun H3 cap1 S3 c1 c2 => ?_)
    have c3 : cap1 ≤ 10 := c2.1
    have hmu : pmu t σ1 ≤ 902 := by
      unfold pmu
      split
      · omega
      · split <;> omega
    refine hL _ Γ H3 σ1 η1 M _ _ d Q q cap1 la [ho a] S3 hu (by omega) (by show _ + 8 * 1 ≤ _; omega) (by show _ ≤ 10 + 2 * 1; omega) (by show 1 + _ ≤ _; omega) (by omega) hq (fun e p H' w2 T => ?_) (fun τ σ2 H4 η2 ro S4 S4' q2 e2 => ?_)
    · rcases he with ⟨e', w3, w4⟩ | ⟨τ, σ', w3, w4⟩
      · rw [w2] at w3; cases w3
        exact her e p H' w4 T
      · rw [w2] at w3; cases w3
    · rcases he with ⟨e', w3, w4⟩ | ⟨τ', σ', w3, w4⟩
      · rw [S4] at w3; cases w3
      · rw [S4] at w3; cases w3
        have hne := hS.2 σ1 τ σ2 (by rw [hq, S4]) w
        rw [if_neg hne] at w4
        have hl1 : 1 ≤ (gs τ).length := List.length_pos_iff.mpr hne
        have e53 : ho (gn 53 [] (a :: gs τ)) = oO 31 [] [oF 9301 (oL ([ho a] ++ (gs τ).map ho))] := by
          rw [ho_gn]
          show oO 31 [] [oF 9301 (oL (hs _))] = _
          rw [hs_map]; rfl
        refine hk (gn 53 [] (a :: gs τ)) σ2 H4 η2 ro (Option.some.inj w4).symm ?_ ⟨(by decide : 50 ≤ 53), (by decide : 53 ≤ 54)⟩ (Qx_to (Qx_t q1 q2) (by omega) (by omega)) (Er_n (by decide) (Er_t e1 e2))
        rw [e53]
        exact SS_mono S4' (by show _ + 5 + 0 * 1 - _ ≤ _; omega) (by show _ + 110 + 8 * 1 - _ - _ ≤ _; omega)
  · have h0 := hS.1 σ1 q hq w
    rcases he with ⟨e', w3, w4⟩ | ⟨τ', σ', w3, w4⟩
    · rw [h0] at w3; cases w3
    · rw [h0] at w3; cases w3
      rw [if_pos gs_gl] at w4
      exact zW_rQ (hk a σ1 H1 η1 ro (Option.some.inj w4).symm S1 o1 q1 e1)
/-- -> and one more, again and again -/
theorem y_tyLoop {R' : PX} (h32 : YCf C B X t (R (32) [] []) 127 3 ho okO') (hL : ∀ p : Int, YLp C B X t (R 31 [] []) 4 578 (fun a => [.inl p, zr a]) (fun l => oO 31 [] [oF 9301 (oL l)]) 0 8 30 200) (p : Int) : YLp C B X t (gArrR t R) 4 578 (fun a => [.inl p, zr a]) (fun l => oO 31 [] [oF 9301 (oL l)]) 0 8 30 200 := by
  intro Γ H σ η M g h d Q r cap a l S hu hg hh hc hl hd he her hk
  have d40 := dep_40 S
  refine yl_Parser_ty_p42 ?_
  unfold yb_Parser_ty_p42
  unfold gArrR at he
  refine zW_takes 42 124 (by decide) (by omega) S (by omega) (by omega) he her (fun w he => ?_) (fun w σ1 H1 η1 S1 p1 w1 he => ?_)
  · have S2 := SS_oL S
    have S3 := SS_new (kd := 31) (n := 2) (p := []) S2 (by decide) trivial
    refine zW_new ?_
    rw [if_neg (by decide)]
    refine m_ArrowTy (by omega) S3 (fun H4 S4 => zW_rQ (hk (gl []) σ H4 η _ (Option.some.inj he).symm ?_ Qx_0 (Er_1 ⟨rfl, rfl⟩)))
    rw [gs_gl]
    show SS C B X t Γ H4 σ η ((oO 31 [] [oF 9301 (oL (l ++ []))], _) :: M) (g + 5 + 0 * l.length - 30 * ((0 : Nat) : Int)) (h + 110 + 8 * l.length - 4 * cap - 200 * ((0 : Nat) : Int))
    rw [List.append_nil]
    exact SS_mono S4 (by omega) (by omega)
  · have q1 := Qx_p p1
    have dl := dep_le q1
    refine zW_sub h32 (by omega) S1 hu (by omega) (by omega) he her (fun b σ2 H2 η2 ro S2 o1 q2 e2 he => ?_)
    have dl2 := dep_le q2
    refine zW_add (by omega) (by omega) (okT_G o1) (SS_up 1 S2 rfl) (fun H3 cap1 S3 c1 c2 => ?_)
    unfold cons1 at he
    obtain ⟨q, hq, he⟩ := pB_c he
    have hln : (l ++ [ho b]).length = l.length + 1 := by rw [List.length_append]; rfl
    have m1 := q1.2.2.1
    have m2 := q2.2.2.1
    refine hL p Γ H3 σ2 η2 M _ _ d Q q cap1 a (l ++ [ho b]) S3 hu (by omega) (by rw [hln]; omega) (by rw [hln]; omega) (by rw [hln]; omega) (by omega) hq (fun e p H' w2 T => ?_) (fun τ σ3 H4 η3 ro w2 S4 q3 e3 => ?_)
    · rcases he with ⟨e', w3, w4⟩ | ⟨τ, σ', w3, w4⟩
      · rw [w2] at w3; cases w3
        exact her e p H' w4 T
      · rw [w2] at w3; cases w3
    · rcases he with ⟨e', w3, w4⟩ | ⟨τ', σ', w3, w4⟩
      · rw [w2] at w3; cases w3
      · rw [w2] at w3; cases w3
        refine hk _ σ3 H4 η3 ro (Option.some.inj w4).symm ?_ (Qx_to (Qx_t q1 (Qx_t q2 q3)) (by omega) (by omega)) ?_
        · rw [gs_gl]
          show SS C B X t Γ H4 σ3 η3 ((oO 31 [] [oF 9301 (oL (l ++ (ho b :: (gs τ).map ho)))], _) :: M) _ _
          rw [List.append_assoc] at S4
          rw [hln] at S4
          exact SS_mono S4 (by rw [List.length_cons]; omega) (by rw [List.length_cons]; omega)
        · rw [gs_gl]
          exact Er_t (Er_o w1 e2) e3
end YTy
