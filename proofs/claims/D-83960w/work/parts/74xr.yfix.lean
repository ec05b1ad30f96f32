set_option maxRecDepth 100000
/-! THE HOUSE'S PARSER: infix names told (printed by gen/dsl/p74xr.py) -/
/-- what is read by the way; infix names may be added -/
def Qy (t : List Int) (k : Int) (m : Nat) (σ σ1 : Ps) : Prop := (pd σ1 : Int) = pd σ + k ∧ (∃ G, pF σ1 = G ++ pF σ) ∧ pmu t σ1 + m ≤ pmu t σ ∧ pq σ ≤ pq σ1
theorem Qy_x {t : List Int} {k : Int} {m : Nat} {σ σ1 : Ps} (h : Qx t k m σ σ1) : Qy t k m σ σ1 := ⟨h.1, ⟨[], h.2.1⟩, h.2.2⟩
theorem Qy_t {t : List Int} {k k' : Int} {m m' : Nat} {σ σ1 σ2 : Ps} (h : Qy t k m σ σ1) (h' : Qy t k' m' σ1 σ2) : Qy t (k + k') (m + m') σ σ2 := by
  obtain ⟨a1, ⟨G, a2⟩, a3, a4⟩ := h
  obtain ⟨b1, ⟨G', b2⟩, b3, b4⟩ := h'
  exact ⟨by omega, ⟨G' ++ G, by rw [b2, a2, List.append_assoc]⟩, by omega, by omega⟩
theorem Qy_to {t : List Int} {k k' : Int} {m m' : Nat} {σ σ1 : Ps} (h : Qy t k m σ σ1) (hk : k = k') (hm : m' ≤ m) : Qy t k' m' σ σ1 := ⟨by rw [← hk]; exact h.1, h.2.1, by have := h.2.2.1; omega, h.2.2.2⟩
theorem Qy_F {t : List Int} {k : Int} {m : Nat} {σ σ1 : Ps} {x : List Int × Int × Int} (h : Qx t k m σ σ1) : Qy t k m σ (psF σ1 (x :: pF σ1)) := ⟨h.1, ⟨[x], by show x :: pF σ1 = _; rw [h.2.1]; rfl⟩, h.2.2⟩
theorem dep_y {t : List Int} {σ σ1 : Ps} {m : Nat} (h : Qy t 0 m σ σ1) : dep t σ1 + 2 * m ≤ dep t σ := by
  have h1 := h.1
  have h2 := h.2.2.1
  unfold dep
  omega
theorem pPass_pq {t : List Int} {σ σ1 : Ps} (h : pPass t σ = .inr σ1) : pq σ < pq σ1 := by
  unfold pPass at h
  split at h
  · cases h
    show pq σ < pq σ + (if (pc σ).1 = 2 then 3 else 1)
    split <;> omega
  · split at h
    · cases h
    · cases h
      show pq σ < pq σ + (if (pc σ).1 = 2 then 3 else 1)
      split <;> omega
theorem pName_pq {t : List Int} {σ : Ps} {f : List Int → Ps → PR} : pName t σ f = pName t σ (fun b σ1 => if pq σ < pq σ1 then f b σ1 else none) := by
  unfold pName
  split
  · cases hp : pPass t σ with
    | inl e => rfl
    | inr σ1 =>
      show f _ σ1 = if _ then _ else _
      rw [if_pos (pPass_pq hp)]
  · rfl
theorem Et1_t {η η1 η2 : Et} (h : Et1 η η1) (h' : Et1 η1 η2) : Et1 η η2 := ⟨h'.1.trans h.1, h'.2.trans h.2⟩
def gFxD (t : List Int) (R : PX) (σ : Ps) : PR := pT (pPass t σ) fun σ1 => if pIs σ 18 then R 51 [-1, 0] [] σ1 else if (pc σ1).1 = 3 then (if (pc σ1).2.2.1 = [126] ∨ 9 < (pc σ1).2.2.2 then pWr σ1 else pT (pPass t σ1) fun σ2 => R 51 [(pc σ1).2.2.2, if pIs σ 15 then 1 else 0] [] σ2) else R 51 [0, if pIs σ 15 then 1 else 0] [] σ1
section YFix
variable {C : YC} {B P O : Nat → Prop} {X : Nat → Nat} {t : List Int} {Γ : Gm} {H H' : YS} {σ σ1 : Ps} {η η1 : Et} {M : List (Gt × Option Nat)} {g h g' h' : Int} {a e c s d dp cap : Nat} {F : List (List Int × Int × Int)} {Q : Option (Option ZV) → YS → Prop} {r : (Int × Nat) ⊕ (Gt × Ps)} {f : Ps → PR} {θ τ : Gt} {w : Option Nat} {l : List Gt} {tk : Tok} {R : PX}

theorem zW_st9 {k : Option Nat → ZR YS} (S : SS C B X t Γ H σ η M g h) (hk : zW (k (some (X 9))) Q) : zW (ygR 1802 (some (X 8)) H k) Q := by
  refine zW_gR (SS_8 S) rfl ?_
  rw [S.1.1.2.2.1.2.2.2.2.1]; exact hk
theorem zW_fsize {k : Int → YS → ZR YS} (hd : 1 ≤ d) (S : SS C B X t Γ H σ η M g h) (hk : zW (k ((pF σ).length : Int) H) Q) : zW (ygR 1802 (some (X 8)) H fun v => zI (ycv (YL C) d [(5, 506)] v [] H) k) Q := by
  obtain ⟨d, rfl⟩ : ∃ e, d = e + 1 := ⟨d - 1, by omega⟩
  obtain ⟨e, xs, A, hl⟩ := SS_fx S
  refine zW_st9 S ?_
  rw [ycv_s A.2.1 ⟨by decide, rfl⟩]
  refine zW_Ie (y_size A) ?_
  rw [hl]; exact hk
theorem zW_eq7 {A D : YS → ZR YS} {s : Nat} {b : List Int} (hd : 2 ≤ d) (hs : StrY B H s b) (hb : b.length ≤ 200) (S : SS C B X t Γ H σ η M g h) (h1 : b = [126] → zW (D H) Q) (h0 : b ≠ [126] → zW (A H) Q) : zW (zI (ycv (YL C) d [(21, 576)] (some s) [.inr (.inr (some (C.1 121)))] H) fun v h => if v = 0 then A h else D h) Q := by
  obtain ⟨d, rfl⟩ : ∃ e, d = e + 2 := ⟨d - 2, by omega⟩
  have e121 : cstr 121 = [126] := by decide
  rw [ycv_str hs.2.1]
  refine zW_Ie (y_equals (d := d) (SS_W S) hs ((SS_F S).2 121 (by decide)) (by omega)) ?_
  rw [e121]
  by_cases c1 : b = [126]
  · rw [if_pos c1]; exact zW_f (by decide) (h1 c1)
  · rw [if_neg c1]; exact zW_t rfl (h0 c1)
theorem y_fixLoop : ∀ (n : Nat) (Γ : Gm) (H : YS) (σ : Ps) (η : Et) (M : List (Gt × Option Nat)) (g h : Int) (d : Nat) (Q : Option (Option ZV) → YS → Prop) (r : (Int × Nat) ⊕ (Gt × Ps)) (z3 z2 : Int), SS C B X t Γ H σ η M g h → z2 = 0 ∨ z2 = 1 → g ≤ 3000 → h ≤ 3000 → dep t σ + 16 ≤ d → sP t n 51 [z3, z2] [] σ = some r →
      (∀ e p H', r = .inl (e, p) → Th C B X t Γ H' e p → Q none H') →
      (∀ σ1 H1 η1, r = .inr (gn 83 [] [], σ1) → SS C B X t Γ H1 σ1 η1 M (g - 28) (h - 190) → Qy t 0 1 σ σ1 → Et1 η η1 → Q (some none) H1) → zW (YL C d 810 [zr (X 8), .inl z2, .inl z3] H) Q := by
  intro n
  induction n with
  | zero =>
    intro Γ H σ η M g h d Q r z3 z2 S hy hg hh hd he
    cases he
  | succ n ih =>
    intro Γ H σ η M g h d Q r z3 z2 S hy hg hh hd he her hT
    have d40 := dep_40 S
    have vl := SS_vl S
    have he : gFixR t z3 z2 (sP t n) σ = some r := he
    unfold gFixR at he
    rw [pName_pq] at he
    refine yl_Parser_fixity_p96 ?_
    unfold yb_Parser_fixity_p96
    refine zW_st9 S ?_
    have S1 := SS_new (kd := 7) (n := 3) (p := []) S (by decide) trivial
    refine zW_new ?_
    rw [if_neg (show ¬ (7 : Nat) = 3 by decide)]
    have S2 := SS_addN (f := 2100) (by decide) (by rw [ymk_R, if_pos rfl]) S1
    refine zW_name (by omega) S2 (by omega) (by omega) he her (fun k3 x3 σ3 H3 η3 S3 p3 w3 he => ?_)
    have q3 := Qx_p p3
    have m3 := q3.2.2.1
    have d3 := dep_le q3
    have vn3 := congrArg List.length w3.2
    have vd3 := q3.1
    have hpq : pq σ < pq σ3 := Decidable.byContradiction fun z => by rw [if_neg z] at he; cases he
    rw [if_pos hpq] at he
    have S4 := SS_pk 2 [1, 0] rfl rfl S3
    refine zW_strength (by omega) hy S4 (fun H5 im5 S5 => ?_)
    have hF0 := S.1.2.2.2.2.2.2.2
    have hF1 : (pF σ3).length = (pF σ).length := by rw [q3.2.1]
    refine zW_fixadd (by omega) (SS_tk S).2.2.1 (by omega) (SS_pq S5) im5 S5 (fun H6 η6 S6 w6 => ?_)
    refine zW_isNm (by omega) S6 (fun u7 => ?_) (fun u7 => ?_)
    · refine zW_f (by decide) ?_
      have u9 :  (pc σ3).1 = 1 := u7
      rw [if_pos u9] at he
      refine ih Γ H6 (psF σ3 (((pc σ).2.2.1, z3, z2) :: pF σ3)) η6 M _ _ d Q r z3 z2 S6 hy (by omega) (by omega) (by show dep t (psF σ3 _) + 16 ≤ d; have : dep t (psF σ3 (((pc σ).2.2.1, z3, z2) :: pF σ3)) = dep t σ3 := rfl; omega) he her (fun σ5 H5 η5 e5 S5 q5 w5 => ?_)
      exact hT σ5 H5 η5 e5 (SS_mono S5 (by omega) (by omega)) (Qy_to (Qy_t (Qy_F q3) q5) (by omega) (by omega)) (Et1_t ⟨w6.1.trans w3.1, w6.2.trans w3.2⟩ w5)
    · refine zW_t rfl ?_
      have u9 : ¬ (pc σ3).1 = 1 := u7
      rw [if_neg u9] at he
      exact zW_rV (hT (psF σ3 (((pc σ).2.2.1, z3, z2) :: pF σ3)) H6 η6 (Option.some.inj he).symm (SS_mono S6 (by omega) (by omega)) (Qy_F q3) ⟨w6.1.trans w3.1, w6.2.trans w3.2⟩)
def YFx (C : YC) (B : Nat → Prop) (X : Nat → Nat) (t : List Int) (fs : Ps → PR) : Prop :=
  ∀ (Γ : Gm) (H : YS) (σ : Ps) (η : Et) (M : List (Gt × Option Nat)) (g h : Int) (d : Nat) (Q : Option (Option ZV) → YS → Prop) (r : (Int × Nat) ⊕ (Gt × Ps)), SS C B X t Γ H σ η M g h → g ≤ 2980 → h ≤ 2900 → dep t σ + 18 ≤ d → fs σ = some r →
    (∀ e p H', r = .inl (e, p) → Th C B X t Γ H' e p → Q none H') →
    (∀ τ σ1 H1 η1, r = .inr (τ, σ1) → SS C B X t Γ H1 σ1 η1 M (g - 28) (h - 190) → τ = gn 83 [] [] → Qy t 0 1 σ σ1 → Et1 η η1 → Q (some none) H1) → zW (YL C d 166 [zr (X 8)] H) Q
theorem y_fixity {n : Nat} : YFx C B X t (fun σ => if (pc σ).1 ≠ 6 then gFxD t (sP t n) σ else none) := by
  intro Γ H σ η M g h d Q r S hg hh hd he her hk
  have d40 := dep_40 S
  have vl := SS_vl S
  have hw6 : (pc σ).1 ≠ 6 := Decidable.byContradiction fun z => by simp only [if_neg z] at he; cases he
  simp only [if_pos hw6] at he
  unfold gFxD at he
  refine yl_Parser_fixity ?_
  unfold yb_Parser_fixity
  refine zW_tisK 18 110 (by decide) (by omega) S (fun u1 => ?_) (fun u1 => ?_)
  · refine zW_let ?_
    refine zW_tisK 15 109 (by decide) (by omega) S (fun u2 => (tIs_ne (by decide) u1 u2).elim) (fun u2 => ?_)
    refine zW_let ?_
    refine zW_pass (by omega) S hw6 (by omega) (by omega) he her (fun σ3 H3 η3 S3 p3 w3 he => ?_)
    have q3 := Qx_p p3
    have m3 := q3.2.2.1
    have d3 := dep_le q3
    have vn3 := congrArg List.length w3.2
    have vd3 := q3.1
    rw [if_pos u1] at he
    refine zW_f (by decide) ?_
    refine yl_Parser_fixity_p33 ?_
    unfold yb_Parser_fixity_p33
    refine zW_let ?_
    refine zW_f (by decide) ?_
    refine y_fixLoop n Γ H3 σ3 η3 M _ _ d Q r (-1) 0 S3 (by decide) (by omega) (by omega) (by omega) (by exact he) her (fun σ95 H95 η95 e95 S95 q95 w95 => ?_)
    exact hk _ σ95 H95 η95 e95 (SS_mono S95 (by omega) (by omega)) rfl (Qy_to (Qy_t (Qy_x q3) q95) (by omega) (by omega)) (Et1_t w3 w95)
  · refine zW_let ?_
    refine zW_tisK 15 109 (by decide) (by omega) S (fun u4 => ?_) (fun u4 => ?_)
    · refine zW_let ?_
      refine zW_pass (by omega) S hw6 (by omega) (by omega) he her (fun σ5 H5 η5 S5 p5 w5 he => ?_)
      have q5 := Qx_p p5
      have m5 := q5.2.2.1
      have d5 := dep_le q5
      have vn5 := congrArg List.length w5.2
      have vd5 := q5.1
      rw [if_neg u1] at he
      refine zW_t rfl ?_
      refine yl_Parser_fixity_p33 ?_
      unfold yb_Parser_fixity_p33
      refine zW_let ?_
      refine zW_t rfl ?_
      refine zW_kd 3 12 (by decide) rfl S5 (fun u6 => ?_) (fun u6 => ?_)
      · rw [if_pos u6] at he
        refine zW_txt S5 (fun x7 hx7 S7 => ?_)
        refine zW_eq7 (by omega) hx7 (SS_tk S7).2.2.1 S7 (fun u8 => ?_) (fun u8 => ?_)
        · rw [if_pos (Or.inl u8)] at he
          exact zW_wr (by omega) S7 (by omega) (by omega) he her
        · skip
          refine zW_val S7 ?_
          refine zW_if (fun y9 => ?_) (fun y9 => ?_)
          · rw [if_neg (fun z => z.elim u8 (fun z => by omega)), if_pos u4] at he
            refine zW_val S7 ?_
            refine zW_let ?_
            refine zW_pass (by omega) S7 (by have := u6; omega) (by omega) (by omega) he her (fun σ9 H9 η9 S9 p9 w9 he => ?_)
            have q9 := Qx_p p9
            have m9 := q9.2.2.1
            have d9 := dep_le q9
            have vn9 := congrArg List.length w9.2
            have vd9 := q9.1
            have S10 := SS_drop S9
            refine y_fixLoop n Γ H9 σ9 η9 M _ _ d Q r ((pc σ5).2.2.2) 1 S10 (by decide) (by omega) (by omega) (by omega) (by exact he) her (fun σ95 H95 η95 e95 S95 q95 w95 => ?_)
            exact hk _ σ95 H95 η95 e95 (SS_mono S95 (by omega) (by omega)) rfl (Qy_to (Qy_t (Qy_x (Qx_t q5 q9)) q95) (by omega) (by omega)) (Et1_t ⟨w9.1.trans w5.1, w9.2.trans w5.2⟩ w95)
          · rw [if_pos (Or.inr (by omega))] at he
            exact zW_wr (by omega) S7 (by omega) (by omega) he her
      · rw [if_neg u6, if_pos u4] at he
        refine y_fixLoop n Γ H5 σ5 η5 M _ _ d Q r (0) 1 S5 (by decide) (by omega) (by omega) (by omega) (by exact he) her (fun σ95 H95 η95 e95 S95 q95 w95 => ?_)
        exact hk _ σ95 H95 η95 e95 (SS_mono S95 (by omega) (by omega)) rfl (Qy_to (Qy_t (Qy_x q5) q95) (by omega) (by omega)) (Et1_t w5 w95)
    · refine zW_let ?_
      refine zW_pass (by omega) S hw6 (by omega) (by omega) he her (fun σ11 H11 η11 S11 p11 w11 he => ?_)
      have q11 := Qx_p p11
      have m11 := q11.2.2.1
      have d11 := dep_le q11
      have vn11 := congrArg List.length w11.2
      have vd11 := q11.1
      rw [if_neg u1] at he
      refine zW_t rfl ?_
      refine yl_Parser_fixity_p33 ?_
      unfold yb_Parser_fixity_p33
      refine zW_let ?_
      refine zW_t rfl ?_
      refine zW_kd 3 12 (by decide) rfl S11 (fun u12 => ?_) (fun u12 => ?_)
      · rw [if_pos u12] at he
        refine zW_txt S11 (fun x13 hx13 S13 => ?_)
        refine zW_eq7 (by omega) hx13 (SS_tk S13).2.2.1 S13 (fun u14 => ?_) (fun u14 => ?_)
        · rw [if_pos (Or.inl u14)] at he
          exact zW_wr (by omega) S13 (by omega) (by omega) he her
        · skip
          refine zW_val S13 ?_
          refine zW_if (fun y9 => ?_) (fun y9 => ?_)
          · rw [if_neg (fun z => z.elim u14 (fun z => by omega)), if_neg u4] at he
            refine zW_val S13 ?_
            refine zW_let ?_
            refine zW_pass (by omega) S13 (by have := u12; omega) (by omega) (by omega) he her (fun σ15 H15 η15 S15 p15 w15 he => ?_)
            have q15 := Qx_p p15
            have m15 := q15.2.2.1
            have d15 := dep_le q15
            have vn15 := congrArg List.length w15.2
            have vd15 := q15.1
            have S16 := SS_drop S15
            refine y_fixLoop n Γ H15 σ15 η15 M _ _ d Q r ((pc σ11).2.2.2) 0 S16 (by decide) (by omega) (by omega) (by omega) (by exact he) her (fun σ95 H95 η95 e95 S95 q95 w95 => ?_)
            exact hk _ σ95 H95 η95 e95 (SS_mono S95 (by omega) (by omega)) rfl (Qy_to (Qy_t (Qy_x (Qx_t q11 q15)) q95) (by omega) (by omega)) (Et1_t ⟨w15.1.trans w11.1, w15.2.trans w11.2⟩ w95)
          · rw [if_pos (Or.inr (by omega))] at he
            exact zW_wr (by omega) S13 (by omega) (by omega) he her
      · rw [if_neg u12, if_neg u4] at he
        refine y_fixLoop n Γ H11 σ11 η11 M _ _ d Q r (0) 0 S11 (by decide) (by omega) (by omega) (by omega) (by exact he) her (fun σ95 H95 η95 e95 S95 q95 w95 => ?_)
        exact hk _ σ95 H95 η95 e95 (SS_mono S95 (by omega) (by omega)) rfl (Qy_to (Qy_t (Qy_x q11) q95) (by omega) (by omega)) (Et1_t w11 w95)
end YFix
