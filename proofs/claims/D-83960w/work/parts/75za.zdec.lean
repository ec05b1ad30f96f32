set_option maxRecDepth 100000
/-! THE REFERENCE'S PARSER: declarations -/
/-- one declaration -/
def ZD1 (t : List Int) (fs : Ps → PR) (tag : Nat) (as : List ZV) (lev : Nat) (ok : Ps → Prop) : Prop :=
  ∀ (Γ : Zg) (S : ZS) (σ : Ps) (W : List (List Int)) (M : Zm) (g : Int) (d : Nat) (Q : Option (Option ZV) → ZS → Prop) (r : (Int × Nat) ⊕ (Gt × Ps)), ZZ t Γ S σ W M g → ok σ → g ≤ 150 → dep t σ + lev ≤ d → fs σ = some r →
    (∀ e p S', r = .inl (e, p) → ThZ t Γ S' e p → Q none S') →
    (∀ τ σ1 S1 W1 a, r = .inr (τ, σ1) → ZZ t Γ S1 σ1 W1 (([τ], a, a) :: M.1, M.2) (g - 2) → Qy t 0 1 σ σ1 → Q (some (some (.inl a))) S1) → zW (ZL d tag as S) Q
section ZDec
variable {t : List Int} {Γ : Zg} {S S' S1 : ZS} {σ σ1 : Ps} {W W' W1 : List (List Int)} {M : Zm} {g g' G : Int} {d n tag m : Nat} {Q : Option (Option ZV) → ZS → Prop} {r : (Int × Nat) ⊕ (Gt × Ps)} {I J : List Zi} {A A' : List Int × List (Int × Int × Int)} {K K' : List Zk} {x y z p s r' w : Int} {b : List Int} {R R' : PX} {F : Fx} {cs : List Gt}
theorem zword (Z : ZZ t Γ S σ W M g) (h0 : (pc σ).1 = 0) (hm : m < 44) : S.1 19 = (m : Int) ↔ pIs σ m := by
  have hk : sKept.length = 44 := by decide
  have hl := Z.1.2.1.2.1.length_le
  have h1 : zname W (m : Int) (kwd m) := ⟨m, by omega, rfl, getD_pre Z.1.2.1.2.1 (by omega)⟩
  rw [zname_inj Z (ZZ_nm Z (by omega)) h1]
  exact ⟨fun q => ⟨h0, q⟩, fun q => q.2⟩
abbrev gIfx (m : Nat) (R : PX) : Ps → PR := fun σ1 => if m = 18 then R 51 [-1, 0] [] σ1 else if (pc σ1).1 = 3 then (if (pc σ1).2.2.1 = [126] ∨ 9 < (pc σ1).2.2.2 then pWr σ1 else pT (pPass t σ1) fun σ2 => R 51 [(pc σ1).2.2.2, if m = 15 then 1 else 0] [] σ2) else R 51 [0, if m = 15 then 1 else 0] [] σ1
theorem zr_ifx (hm : m = 14 ∨ m = 15 ∨ m = 18) (h51 : ∀ (s r' : Int) σ, PLe (R 51 [s, r'] [] σ) (gFixR t s r' R' σ)) (hL : ∀ s, -1 ≤ s → s ≤ 9 → ZL719 t (gFixR t s (if m = 15 then 1 else 0) R') (m : Int) s) : ZD1 t (gIfx (t := t) m R) 106 [.inl p, .inl (m : Int)] 2 (fun _ => True) := by
  intro Γ S σ W M g d Q r Z _ hg hd he her hk
  obtain ⟨I, A, K⟩ := M
  have d40 := dep_40z Z
  have e17 := ZZ_c Z
  have he : gIfx (t := t) m R σ = some r := he
  unfold gIfx at he
  have go614 : ∀ (s : Int) σ' S' W' g', -1 ≤ s → s ≤ 9 → ZZ t Γ S' σ' W' (I, A, K) g' → g' ≤ g → dep t σ' ≤ dep t σ → Qx t 0 0 σ σ' → gFixR t s (if m = 15 then 1 else 0) R' σ' = some r → zW (ZL d 614 [.inl p, .inl (m : Int), .inl s] S') Q := by
    intro s σ' S' W' g' s1 s2 Z' hg' hd' q' he
    have e' := ZZ_c Z'
    refine zl_infixes_p63 ?_
    unfold zb_infixes_p63
    refine zW_if (fun h => ?_) (fun h => ?_)
    · exact hL s s1 s2 Γ S' σ' W' p I A K g' d Q r Z' (by omega) (by omega) (by omega) he her (fun τ σ7 S7 W7 a hr Z7 q7 => hk τ σ7 S7 W7 a hr (ZZ_mono Z7 (by omega)) (Qy_to (Qy_t (Qy_x q') q7) (by omega) (by omega)))
    · unfold gFixR pName at he
      rw [if_neg (by omega)] at he
      rw [e'.2]
      exact zW_thr (her _ _ _ (Option.some.inj he).symm (ThZ_th Z' (by omega)))
  refine zl_infixes ?_
  unfold zb_infixes
  by_cases h18 : m = 18
  · have hr0 : (if m = 15 then (1 : Int) else 0) = 0 := if_neg (by omega)
    rw [if_pos h18] at he
    replace he := h51 _ _ _ _ he
    rw [← hr0] at he
    refine zW_t (by omega) (zl_infixes_p11 ?_)
    unfold zb_infixes_p11
    exact zW_let (zW_t (by omega) (go614 (-1) σ S W g (by omega) (by omega) Z (Int.le_refl _) (Nat.le_refl _) Qx_0 he))
  · rw [if_neg h18] at he
    refine zW_f (by omega) (zl_infixes_p11 ?_)
    unfold zb_infixes_p11
    refine zW_let (zW_f (by omega) (zW_if (fun w3 => ?_) (fun w3 => ?_)))
    · have h3 : (pc σ).1 = 3 := by omega
      rw [if_pos h3] at he
      obtain ⟨e19, e21⟩ := Z.1.2.2.1.2.2.2.1 h3
      have tq := Z.1.2.2.2.2.1.1.2.2 h3
      have thr : ((pc σ).2.2.1 = [126] ∨ 9 < (pc σ).2.2.2) → zW (zthrow 2 (S.1 18) S) Q := by
        intro hw
        rw [if_pos hw] at he
        rw [e17.2]
        exact zW_thr (her _ _ _ (Option.some.inj he).symm (ThZ_th Z (by omega)))
      refine zW_if (fun w0 => thr (Or.inl ?_)) (fun w0 => zW_if (fun w9 => zW_if (fun w1 => zW_let ?_) (fun w1 => thr (Or.inl ?_))) (fun w9 => thr (Or.inr (by omega))))
      · rcases tq with z | z
        · omega
        · exact z.1
      · have hb : ¬ ((pc σ).2.2.1 = [126] ∨ 9 < (pc σ).2.2.2) := by
          rintro (z | z)
          · rw [e21, if_neg (by rw [z]; decide)] at w1; omega
          · omega
        rw [if_neg hb] at he
        refine zW_stepZ (by omega) Z (by omega) (by omega) he her (fun σ2 S2 W2 Z2 p2 he => ?_)
        replace he := h51 _ _ _ _ he
        rw [e19]
        have dl2 := dep_le (Qx_p p2)
        exact go614 _ σ2 S2 W2 _ (by omega) (by omega) Z2 (by omega) (by omega) (Qx_to (Qx_p p2) rfl (by omega)) he
      · rcases tq with z | z
        · rw [e21, if_pos z.1] at w1; omega
        · exact z.1
    · rw [if_neg (by omega)] at he
      replace he := h51 _ _ _ _ he
      exact go614 0 σ S W g (by omega) (by omega) Z (Int.le_refl _) (Nat.le_refl _) Qx_0 he
/-- declarations, or none -/
theorem zW_decs0 {KK : Int → ZS → ZR ZS} {fK : Gt → Ps → PR} (hD : ZDf t (R 40 [0] []) 46 [.inl 0] 20) (hd : dep t σ + 21 ≤ d) (Z : ZZ t Γ S σ W (I, A, K) g) (hg : g ≤ 150) (he : pB (gDecs0 R σ) fK = some r) (her : ∀ e p S', r = .inl (e, p) → ThZ t Γ S' e p → Q none S') (hk : ∀ ds σ1 S1 W1 a y, ZZ t Γ S1 σ1 W1 ((gs ds, a, y) :: I, A, K) g → Qy t 0 0 σ σ1 → fK ds σ1 = some r → zW (KK a S1) Q) : zW (zI (zc ZL d 44 [] S) fun v4 S3 => if v4 = 0 then KK (-1) S3 else zI (zc ZL d 46 [.inl 0] S3) fun v6 S5 => KK v6 S5) Q := by
  obtain ⟨d, rfl⟩ : ∃ e, d = e + 2 := ⟨d - 2, by omega⟩
  unfold gDecs0 at he
  refine zW_tst (d := d + 1) (z_begDec Z) (fun w => zW_f (by decide) ?_) (fun w => zW_t rfl ?_)
  · rw [if_pos w] at he
    obtain ⟨u, hu, h1, h2⟩ := pB_e he
    exact zW_I (P := fun v S' => zW (KK v S') Q) (T := fun S' => Q none S') (zW_c (hD Γ S σ W _ g (d + 1) _ u Z w hg (by omega) hu (fun e p S' w T => her e p S' (h1 _ w) T) (fun τ σ2 S2 W2 a y w Z2 _ q2 => hk τ σ2 S2 W2 a y (ZZ_mono Z2 (by omega)) (Qy_to q2 rfl (by omega)) (h2 _ _ w)))) (fun _ _ q => q) (fun _ q => q)
  · rw [if_neg w] at he
    exact hk (gl []) σ S W (-1) (-1) (by rw [gs_gl]; exact ZZ_e Z) (Qy_x Qx_0) he
abbrev gLocal (t : List Int) (R : PX) : Ps → PR := fun σ => pOpens t σ fun σ1 => pB (gDecs0 R σ1) fun a σ2 => pNeed t 13 σ2 fun σ3 => pB (gDecs0 R σ3) fun b σ4 => pCloses t 7 σ4 fun σ5 => pR (gn 77 [] [gn 63 [] (gs a), gn 63 [] (gs b)]) (psF σ5 (pF σ))
theorem zr_local (hD : ZDf t (R 40 [0] []) 46 [.inl 0] 20) : ZD1 t (gLocal t R) 48 [.inl p] 0 (fun σ => pIs σ 17) := by
  intro Γ S σ W M g d Q r Z w17 hg hd he her hk
  obtain ⟨I, A, K⟩ := M
  have d40 := dep_40z Z
  have w17 : pIs σ 17 := w17
  have he : gLocal t R σ = some r := he
  unfold gLocal at he
  refine zl_local ?_
  unfold zb_local
  have Z := ZZ_kF Z
  generalize S.1 47 = x47 at Z
  refine zW_let ?_
  refine zW_opensZ (by omega) Z (by have := w17.1; omega) (by omega) he her (fun hp σ1 S1 W1 Z1 p1 he => ?_)
  have q1 := Qx_to (Qx_o p1) (k' := 1) (m' := 1) (by omega) (by omega)
  have dl1 := dep_op q1 hp
  refine zW_decs0 (KK := fun v S' => ZL d 372 [.inl p, .inl x47, .inl v] S') hD (by omega) Z1 (by omega) he her (fun d1 σ2 S2 W2 a1 y1 Z2 q2 he => zl_local_p25 ?_)
  unfold zb_local_p25
  have q2 := Qy_to (Qy_t (Qy_x q1) q2) (k' := 1) (m' := 1) (by omega) (by omega)
  have dl2 := dep_oy q2 hp
  refine zW_let (zW_needZ 13 (by decide) (by omega) Z2 (by omega) he her (fun _ σ3 S3 W3 Z3 p3 he => ?_))
  have q3 := Qy_to (Qy_t q2 (Qy_x (Qx_p p3))) (k' := 1) (m' := 1) (by omega) (by omega)
  have dl3 := dep_oy q3 hp
  refine zW_decs0 (KK := fun v S' => ZL d 594 [.inl p, .inl x47, .inl a1, .inl v] S') hD (by omega) Z3 (by omega) he her (fun d2 σ4 S4 W4 a2 y2 Z4 q4 he => zl_local_p48 ?_)
  unfold zb_local_p48
  have q4 := Qy_to (Qy_t q3 q4) (k' := 1) (m' := 1) (by omega) (by omega)
  have hpd4 := q4.1
  refine zW_let (zW_closesZ 7 (by decide) (by omega) (by omega) Z4 (by omega) he her (fun _ σ6 S6 W6 Z6 p6 he => zW_p ?_))
  have q6 := Qy_to (Qy_t q4 (Qy_x (Qx_o p6))) (k' := 0) (m' := 1) (by omega) (by omega)
  have Z7 := ZZ_47 Z6
  exact zW_nodeZ (M0 := I) [(gs d1, a1, y1), (gs d2, a2, y2)] 77 [] [gn 63 [] (gs d1), gn 63 [] (gs d2)] (by omega) Z7 (by omega) (by decide) rfl zqn ⟨⟨63, [], Or.inr rfl, rfl⟩, rfl, ⟨63, [], Or.inr rfl, rfl⟩, rfl, rfl⟩ (fun f S8 Z8 => zW_rI (hk _ _ S8 W6 f (Option.some.inj he).symm (ZZ_mono Z8 (by omega)) (Qy_x (Qx_F q6))))
end ZDec
