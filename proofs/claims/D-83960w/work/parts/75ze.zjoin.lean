set_option maxRecDepth 100000
/-! THE REFERENCE'S PARSER: all its methods at once, by fuel -/
section ZBase
variable {t : List Int} {n : Nat} {R0 : PX}
theorem zr_match0 : ZLr t (fun σ => if pIs σ 39 then pT (pPass t σ) (fun σ4 => sP t 0 2 [] [] σ4) else pR (gl []) σ) 395 9 (fun x y => [.inl x, .inl y]) := by
  intro Γ S σ W cs x y I A K g d Q r Z hc hg hd he her hk
  have d40 := dep_40z Z
  refine zl_match_p7 ?_
  unfold zb_match_p7
  refine zW_hasZ 39 (by decide) (by omega) Z (by omega) he her (fun _ he => zW_t rfl (zW_rI ?_)) (fun _ σ1 S1 W1 Z1 p1 he => by cases he)
  exact hk _ σ S W y (Option.some.inj he).symm (by rw [gs_gl]) (by rw [gs_gl, List.append_nil]; exact Z) Qx_0
theorem zr_cls0 : ZL405 t (sP t 0 44 [] []) := by
  intro Γ S σ W cs x y w0 I A K g d Q r Z hc hw hg hd he her hk
  have d40 := dep_40z Z
  refine zl_clauses_p7 ?_
  unfold zb_clauses_p7
  refine zW_hasZ 39 (by decide) (by omega) Z (by omega) he her (fun _ he => zW_t rfl (zW_rI ?_)) (fun _ σ1 S1 W1 Z1 p1 he => by cases he)
  exact hk _ σ S W y (Option.some.inj he).symm (by rw [gs_gl]) (by rw [gs_gl, List.append_nil]; exact Z) hw Qx_0
theorem zr_vars0 : ZL407 t (fun m => sP t 0 48 [m] []) := by
  intro Γ S σ W cs x y I A K g d Q r Z hc h8 hp hg hd he her hk
  have d40 := dep_40z Z
  simp only [pB_ite, pB_pT, pB_pR, gs_gl] at he
  refine zl_variables_p50 ?_
  unfold zb_variables_p50
  refine zW_hasZ 34 (by decide) (by omega) Z (by omega) he her (fun _ he => zW_t rfl ?_) (fun _ σ1 S1 W1 Z1 p1 he => by cases he)
  rw [List.append_nil] at he
  refine zW_closesZ 29 (by decide) hp (by omega) Z (by omega) he her (fun _ σ2 S2 W2 Z2 p2 he => zW_rI ?_)
  exact hk _ σ2 S2 W2 x y (Option.some.inj he).symm (by rw [gs_gl]; exact ZZ_mono Z2 (by omega)) (Qx_to (Qx_o p2) (by omega) (by omega))
theorem zr_pats0 (h30 : ZCf t (R0 30 [] []) 69 noA 4 one okA) (h0 : ZCf t (R0 0 [] []) 82 noA 10 one okEz) : ZL789 t R0 (sP t 0 46 [] []) := by
  intro Γ S σ W cs x y x1 x4 q b I A K g d Q r Z hc hg hd he her hk
  have d40 := dep_40z Z
  obtain ⟨d, rfl⟩ : ∃ e, d = e + 5 := ⟨d - 5, by omega⟩
  refine zl_clause_p107 ?_
  unfold zb_clause_p107
  refine zW_tst (d := d + 4) (z_begAtP (d := d) Z) (fun w => ?_) (fun w => zW_t rfl ?_)
  · rw [if_pos w] at he
    cases he
  · rw [if_neg w] at he
    have he : gCl t R0 q b (cs ++ gs (gl [])) σ = some r := he
    rw [gs_gl, List.append_nil] at he
    exact zr_cl716 h30 h0 (by omega) Z hg he her hk
theorem zr_decsL0 {top : Int} (h0 : top = 0 ∨ top = 1) : ZL370 t top (sP t 0 40 [top] []) := by
  intro Γ S σ W cs x y I A K g d Q r Z hc hg hd he her hk
  have d40 := dep_40z Z
  unfold gDN at he
  have ret : ∀ σ' S' W' g', ZZ t Γ S' σ' W' ((cs, x, y) :: I, A, K) g' → g' ≤ g → Qy t 0 0 σ σ' → pR (gl cs) σ' = some r → zW (ZL d 593 [.inl top, .inl x, .inl y, .inl 0] S') Q := by
    intro σ' S' W' g' Z' hg' q' he
    refine zl_decs_p57 ?_
    unfold zb_decs_p57
    refine zW_t rfl (zl_decs_p10 ?_)
    unfold zb_decs_p10
    exact zW_t rfl (zW_rI (hk _ σ' S' W' x y (Option.some.inj he).symm (by rw [gs_gl]; exact ZZ_mono Z' hg') ⟨by rw [gs_gl]; exact hc, by rw [gs_gl]⟩ q'))
  refine zl_decs_p10 ?_
  unfold zb_decs_p10
  obtain ⟨d, rfl⟩ : ∃ e, d = e + 2 := ⟨d - 2, by omega⟩
  refine zW_f (by decide) (zW_hasZ 35 (by decide) (by omega) Z (by omega) he her (fun _ he => zW_let (zW_tst (d := d + 1) (z_begDec Z) (fun w => ?_) (fun w => zW_let (zW_t rfl (zW_t rfl ?_))))) (fun _ σ1 S1 W1 Z1 p1 he => zW_let (zW_tst (d := d + 1) (z_begDec Z1) (fun w => ?_) (fun w => zW_let (zW_t rfl (zW_f (by decide) ?_))))))
  · rw [if_pos w] at he
    cases he
  · rw [if_neg w] at he
    exact ret σ S W g Z (Int.le_refl _) (Qy_x Qx_0) he
  · rw [if_pos w] at he
    cases he
  · rw [if_neg w] at he
    have e17 := ZZ_c Z1
    rcases h0 with rfl | rfl
    · rw [if_pos rfl] at he
      refine zW_t rfl ?_
      rw [e17.2]
      exact zW_thr (her _ _ _ (Option.some.inj he).symm (ThZ_th Z1 (by omega)))
    · rw [if_neg (by decide)] at he
      refine zW_f (by decide) (zW_if (fun w6 => ?_) (fun w6 => ?_))
      · rw [if_pos (by omega)] at he
        exact ret σ1 S1 W1 _ Z1 (by omega) (Qy_x (Qx_to (Qx_p p1) rfl (by omega))) he
      · rw [if_neg (by omega)] at he
        rw [e17.2]
        exact zW_thr (her _ _ _ (Option.some.inj he).symm (ThZ_th Z1 (by omega)))
/-! loops that go on by themselves -/
theorem fix_all {w s r' : Int} (hs : -1 ≤ s ∧ s ≤ 9) (hr : (w = 15 ∧ r' = 1) ∨ (w ≠ 15 ∧ r' = 0)) : ∀ n, ZL719 t (sP t n 51 [s, r'] []) w s
  | 0 => by intro Γ S σ W p I A K g d Q r Z h1 hg hd he; cases he
  | n + 1 => zr_fixL (R := sP t n) hs hr (fix_all hs hr n)
theorem vars_all : ∀ n, ZL407 t (fun m => sP t n 48 [m] [])
  | 0 => zr_vars0
  | n + 1 => zr_varsL (R := sP t n) (vars_all n)
theorem pats_all (h30 : ZCf t (R0 30 [] []) 69 noA 4 one okA) (h0 : ZCf t (R0 0 [] []) 82 noA 10 one okEz) : ∀ k, (∀ k', k' < k → ZCf t (sP t k' 25 [] []) 63 noA 1 one okP) → ZL789 t R0 (sP t k 46 [] [])
  | 0, _ => zr_pats0 h30 h0
  | k + 1, h => zr_patsL (R := sP t k) (h k (Nat.lt_succ_self k)) (pats_all h30 h0 k (fun k' q => h k' (Nat.lt_succ_of_lt q))) h30 h0
theorem app_st (n : Nat) : YSt (sP t n 12 [] []) (fun σ => tAt (pF σ) (pc σ)) := by
  refine ⟨fun σ r h hc => ?_, fun σ τ σ1 h hc => ?_⟩
  · cases n with
    | zero => cases h
    | succ n =>
      have h : gAppR (sP t n) σ = some r := h
      unfold gAppR at h
      rw [if_neg hc] at h
      cases h; rfl
  · cases n with
    | zero => cases h
    | succ n =>
      have h : gAppR (sP t n) σ = some (.inr (τ, σ1)) := h
      unfold gAppR at h
      rw [if_pos hc] at h
      obtain ⟨q, _, _, h2⟩ := pB_e h
      rcases q with e | ⟨x, σ2⟩
      · obtain ⟨q, hq, h1, h2⟩ := pB_e h
        rcases q with e | ⟨x, σ2⟩
        · exact absurd (h1 e rfl) (fun z => by cases z)
        · obtain ⟨q, _, g1, g2⟩ := pB_e (h2 x σ2 rfl)
          rcases q with e | ⟨l, σ3⟩
          · exact absurd (g1 e rfl) (fun z => by cases z)
          · cases g2 l σ3 rfl
            rw [gs_gl]
            exact List.cons_ne_nil _ _
      · obtain ⟨q, _, g1, g2⟩ := pB_e (h2 x σ2 rfl)
        rcases q with e | ⟨l, σ3⟩
        · exact absurd (g1 e rfl) (fun z => by cases z)
        · cases g2 l σ3 rfl
          rw [gs_gl]
          exact List.cons_ne_nil _ _
theorem gl42 : ∀ n, isGl (sP t n 42 [] [])
  | 0 => fun _ _ _ h => by cases h
  | n + 1 => gBinds_Gl (R := sP t n)
theorem gl43 : ∀ n, isGl (sP t n 43 [] [])
  | 0 => fun _ _ _ h => by cases h
  | n + 1 => gFuns_Gl (R := sP t n)
theorem gl49 : ∀ n, isGl (sP t n 49 [] [])
  | 0 => fun _ _ _ h => by cases h
  | n + 1 => gDatas_Gl (R := sP t n)
theorem gl50 : ∀ n, isGl (sP t n 50 [] [])
  | 0 => fun _ _ _ h => by cases h
  | n + 1 => gCons_Gl (R := sP t n)
end ZBase
abbrev L395 (t : List Int) (n : Nat) : Prop := ZLr t (fun σ => if pIs σ 39 then pT (pPass t σ) (fun σ4 => sP t n 2 [] [] σ4) else pR (gl []) σ) 395 9 (fun x y => [.inl x, .inl y])
def ZAll (t : List Int) (n : Nat) : Prop :=
  (ZCf t (sP t n 0 [] []) 82 noA 10 one okEz) ∧
  (ZCf t (nW (sP t n 1 [] [])) 82 noA 10 one okEz) ∧
  (ZCf t (sP t n 2 [] []) 83 noA 9 imRz okR) ∧
  (L395 t n) ∧
  (ZCf t (sP t n 3 [] []) 85 noA 9 one okEz) ∧
  (ZLa t (fun a => sP t n 4 [] [a]) 396 5 oke oke) ∧
  (ZCf t (sP t n 5 [] []) 86 noA 8 one okEz) ∧
  (ZLa t (fun a => sP t n 6 [] [a]) 397 5 oke oke) ∧
  (ZCf t (sP t n 7 [] []) 87 noA 7 one okEz) ∧
  (ZLa t (fun a => sP t n 8 [] [a]) 398 5 oke oke) ∧
  (ZCf t (sP t n 9 [] []) 56 (fun _ => [.inl 0]) 6 one (okI 0)) ∧
  (ZCf t (sP t n 9 [1] []) 56 (fun _ => [.inl 1]) 6 one (okI 1)) ∧
  (ZL375 t (fun x o => sP t n 10 [0] [gl x, gl o]) 0 4) ∧
  (ZL375 t (fun x o => sP t n 10 [1] [gl x, gl o]) 1 4) ∧
  (ZCf t (sP t n 11 [] []) 79 noA 3 one (okOz 0)) ∧
  (ZL389 t (sP t n 12 [] [])) ∧
  (ZCf t (sP t n 13 [] []) 80 noA 2 one okEz) ∧
  (∀ m : Nat, m < 44 → ZLr t (sP t n 14 [(m : Int), 0] []) 400 11 (fun x y => [.inl (m : Int), .inl x, .inl y])) ∧
  (∀ x2 p : Int, (x2 = 0 ∨ x2 = 1) → ZLn t (sP t n 14 [34, 20] []) 715 9 (L74 t p x2) (F74 t p x2) (-1) one okp 0) ∧
  (∀ p : Int, ZLn t (sP t n 14 [34, 30] []) 603 9 (L603 p) (F603 t) (-1) one (fun _ _ _ => True) 0) ∧
  (∀ p : Int, ZLn t (sP t n 15 [] []) 393 10 (L15 p) (F15 t p) (-1) one okex 0) ∧
  (ZLa t (fun a => sP t n 16 [] [a]) 394 5 oke oke) ∧
  (ZCf t (sP t n 20 [] []) 55 noA 7 one okP) ∧
  (ZL596 t (fun a => sP t n 21 [] [a])) ∧
  (ZCf t (sP t n 24 [] []) 58 noA 3 one (okOz 1)) ∧
  (ZCf t (sP t n 25 [] []) 63 noA 1 one okP) ∧
  (ZL381 t (sP t n 27 [] [])) ∧
  (ZCf t (sP t n 30 [] []) 69 noA 4 one okA) ∧
  (ZCf t (gTyL (sP t n)) 69 noA 4 imT okTl) ∧
  (ZCf t (sP t n 32 [] []) 70 noA 3 one okA) ∧
  (ZL383 t (sP t n 33 [] [])) ∧
  (ZCf t (sP t n 34 [] []) 71 noA 2 one okA) ∧
  (ZLa t (fun a => sP t n 35 [] [a]) 384 1 (fun _ => True) (fun _ => True)) ∧
  (ZCf t (sP t n 36 [] []) 72 noA 1 one okA) ∧
  (∀ p : Int, ZLn t (sP t n 38 [] []) 386 9 (L38 p) (F38 t) (-1) one (fun _ _ _ => True) 0) ∧
  (ZDf t (sP t n 40 [0] []) 46 [.inl 0] 20) ∧
  (∀ top : Int, top = 0 ∨ top = 1 → ZL370 t top (sP t n 40 [top] [])) ∧
  (ZD1 t (sP t n 41 [] []) 47 [] 16 (fun σ => tDec (pc σ))) ∧
  (ZLn t (sP t n 42 [] []) 373 9 Lxy FgL 0 imRz okRow (-2)) ∧
  (ZLn t (sP t n 43 [] []) 404 12 Lxy FgL 0 imRz okRow (-1)) ∧
  (ZCf t (sP t n 44 [] []) 97 noA 11 imRz okF) ∧
  (ZL405 t (sP t n 44 [] [])) ∧
  (ZCf t (sP t n 45 [] []) 98 noA 10 one okC) ∧
  (ZVf t (sP t n 47 [] []) 100 1) ∧
  (ZLn t (sP t n 49 [] []) 408 7 Lxy FgL 0 imRz okRow (-2)) ∧
  (ZLn t (sP t n 50 [] []) 409 5 Lxy FgL 0 imRz okRow (-2))
section ZJoin
variable {t : List Int}
theorem ZAll_0 : ZAll t 0 := by
  refine ⟨?_, ?_, ?_, zr_match0, ?_, ?_, ?_, ?_, ?_, ?_, ?_, ?_, ?_, ?_, ?_, ?_, ?_, ?_, ?_, ?_, ?_, ?_, ?_, ?_, ?_, ?_, ?_, ?_, ?_, ?_, ?_, ?_, ?_, ?_, ?_, ?_, fun top h => zr_decsL0 h, ?_, ?_, ?_, ?_, zr_cls0, ?_, ?_, ?_, ?_⟩
  all_goals first
    | (intro Γ S σ W M g d Q r Z hg hd he; cases he; done)
    | (intro Γ S σ W M g d Q r Z hg hd he; unfold nW at he; split at he <;> cases he; done)
    | (intro Γ S σ W M g d Q r Z hw hg hd he; cases he; done)
    | (intro Γ S σ W τ0 x I A K g d Q r Z ok hg hd he; cases he; done)
    | (intro Γ S σ W x os I A B K G d Q r BARE Z hl hk hj hb hg hd he; cases he; done)
    | (intro Γ S σ W f0 xs x I A K g d Q r Z hf hg hd he; cases he; done)
    | (intro m hm Γ S σ W cs x y I A K g d Q r Z hc hg hd he; cases he; done)
    | (intro x2 p hx Γ S σ W cs x y I A K g d Q r as Z ha hg hp hd he; cases he; done)
    | (intro p Γ S σ W cs x y I A K g d Q r as Z ha hg hp hd he; cases he; done)
    | (intro Γ S σ W cs x y I A K g d Q r as Z ha hg hp hd he; cases he; done)
    | (intro Γ S σ W τ0 x x2 x3 x4 x5 I A K g d Q r Z ok h1 h2 hg hd he; cases he; done)
    | (intro Γ S σ W cs x y p z I A K g d Q r Z hp hg hd he; cases he; done)
    | (intro Γ S σ W cs x1 x y I A K g d Q r Z hc hx hl hg hd he; cases he; done)
    | skip
theorem ZAll_s (hlen : t.length ≤ 900) {n : Nat} (A : ∀ n', n' ≤ n → ZAll t n') : ZAll t (n + 1) := by
  obtain ⟨h0, hW, h2, l395, h3, h4, h5, h6, h7, h8, h9, h9p, h10, h10p, h11, l389, h13, l400, l715, l603, l393, h16, h20, h21, h24, h25, l381, h30, hTy, h32, l383, h34, l384, h36, l386, hD, l370, h41, l373, l404, h44, l405, h45, h47, l408, l409⟩ := A n (Nat.le_refl _)
  obtain ⟨p0, pW, p2, q395, p3, p4, p5, p6, p7, p8, p9, p9p, p10, p10p, p11, q389, p13, q400, q715, q603, q393, p16, p20, p21, p24, p25, q381, p30, pTy, p32, q383, p34, q384, p36, q386, pD, q370, p41, q373, q404, p44, q405, p45, p47, q408, q409⟩ := A (n - 1) (Nat.sub_le n 1)
  have k25 : ∀ n', n' ≤ n → ZCf t (sP t n' 25 [] []) 63 noA 1 one okP := fun n' q => by
    obtain ⟨h0, hW, h2, l395, h3, h4, h5, h6, h7, h8, h9, h9p, h10, h10p, h11, l389, h13, l400, l715, l603, l393, h16, h20, h21, h24, h25, -⟩ := A n' q
    exact h25
  have le14 : ∀ (m : Nat) σ, PLe (sP t n 14 [(m : Int), 0] [] σ) (gSeq t m 0 (sP t (n - 1)) σ) := by
    cases n with
    | zero => exact fun m σ r h => by cases h
    | succ n => exact fun m σ r h => h
  have le31 : ∀ σ, PLe (sP t (n + 1) 31 [] [] σ) (gArrR t (sP t n) σ) := fun σ r h => h
  have le48 : ∀ (m : Int) σ, PLe (sP t n 48 [m] [] σ) (gVarsR t m (sP t (n - 1)) σ) := by
    cases n with
    | zero => exact fun m σ r h => by cases h
    | succ n => exact fun m σ r h => h
  have le51 : ∀ (s r' : Int) σ, PLe (sP t n 51 [s, r'] [] σ) (gFixR t s r' (sP t (n - 1)) σ) := by
    cases n with
    | zero => exact fun m r' σ r h => by cases h
    | succ n => exact fun m r' σ r h => h
  have e46 : ∀ σ, sP t n 46 [] [] σ = gPats (sP t (n - 1)) σ := by
    cases n with
    | zero => exact fun σ => rfl
    | succ n => exact fun σ => rfl
  have r84 := zr_rule (R := sP t n) h20 h0
  have r32 : ZCf t (sP t (n + 1) 32 [] []) 70 noA 3 one okA := zr_ty70 (R := sP t n) h34 l383 (tup_st n) hlen
  refine ⟨?_, ?_, ?_, ?_, ?_, ?_, ?_, ?_, ?_, ?_, ?_, ?_, ?_, ?_, ?_, ?_, ?_, ?_, ?_, ?_, ?_, ?_, ?_, ?_, ?_, ?_, ?_, ?_, ?_, ?_, ?_, ?_, ?_, ?_, ?_, ?_, ?_, ?_, ?_, ?_, ?_, ?_, ?_, ?_, ?_, ?_⟩
  · exact zr_exp (R := sP t n) hW h3 h16
  · exact zr_wide (R := sP t n) h0 h2
  · exact zr_match (R := sP t n) r84 l395
  · exact zr_matchL (R := sP t n) r84 l395
  · exact zr_either (R := sP t n) h5 h4
  · exact zr_eitherL (R := sP t n) hW h5 h4
  · exact zr_both (R := sP t n) h7 h6
  · exact zr_bothL (R := sP t n) hW h7 h6
  · exact zr_typed (R := sP t n) h9 h8
  · exact zr_typedL (R := sP t n) h30 h8
  · exact zr_inf (R := sP t n) (Or.inl rfl) h11 h10
  · exact zr_inf (R := sP t n) (Or.inr rfl) h24 h10p
  · rw [inf_e]; exact zr_infL (R := sP t n) (Or.inl rfl) h11 h10
  · rw [inf_e]; exact zr_infL (R := sP t n) (Or.inr rfl) h24 h10p
  · exact zr_app (R := sP t n) h13 l389 (app_st n)
  · exact zr_appL (R := sP t n) h13 l389
  · exact zr_atom (R := sP t n) (zr_erow l393) (zr_heldE (R' := sP t (n - 1)) h0 le14 (fun m hm => zr_row p0 (q400 m (by omega)))) (zr_let hD (zr_row h0 (l400 35 (by decide)))) (zr_row h0 (l400 34 (by decide)))
  · exact fun m hm => zr_rowL (R := sP t n) hm h0 (l400 m hm)
  · exact fun x2 p hx => zr_heldL (R := sP t n) hx h20 (l715 x2 p hx) hlen
  · exact fun p => zr_tyargs (R := sP t n) h30 (l603 p)
  · exact fun p => zr_eflds (R := sP t n) h0 (l393 p)
  · exact zr_hdlL (R := sP t n) h2 h16
  · exact zr_pat (R := sP t n) hlen h9p h20 h30 h21
  · exact zr_patL (R := sP t n) h30 h21
  · exact zr_appP (R := sP t n) h25
  · exact zr_atP (R := sP t n) (zr_prow l381) (zr_held (x2 := 0) (Or.inl rfl) h20 (fun p => l715 0 p (Or.inl rfl)) hlen) (zr_held (x2 := 1) (Or.inr rfl) h20 (fun p => l715 1 p (Or.inr rfl)) hlen)
  · exact zr_prowL (R := sP t n) (zr_fldP h20 h30) l381
  · exact zr_ty30 (R := sP t n) hTy
  · exact zr_ty69 (R := sP t (n + 1)) (R' := sP t n) r32 le31 hTy
  · exact r32
  · exact zr_tupL (R := sP t n) h34 l383
  · exact zr_ty71 (R := sP t n) h36 l384
  · exact zr_sufL (R := sP t n) l384
  · exact zr_ty72 (R := sP t n) h30 (zr_ty73 l386) l603
  · exact fun p => zr_flds (R := sP t n) h30 (l386 p)
  · exact zr_decs0 (R := sP t n) h41 (l370 0 (Or.inl rfl))
  · exact fun top h => zr_decsL (R := sP t n) h h41 (l370 top h)
  · exact zr_dec (R := sP t n) (R' := sP t (n - 1)) h30 l373 (gl42 n) l404 (gl43 n) h47 l408 (gl49 n) hD le51 (fun m hm s s1 s2 => by
      refine fix_all (t := t) (w := (m : Int)) (s := s) (r' := if m = 15 then 1 else 0) ⟨s1, s2⟩ ?_ (n - 1 + 1)
      split
      · exact Or.inl ⟨by omega, rfl⟩
      · exact Or.inr ⟨by omega, rfl⟩)
  · exact zr_bindsL (R := sP t n) h20 h0 l373
  · exact zr_funsL (R := sP t n) h44 l404
  · exact zr_clauses (R := sP t n) h45 l405
  · exact zr_clsL (R := sP t n) h45 l405
  · exact zr_clause (R := sP t n) (R' := sP t (n - 1)) h25 h30 h0 e46 p25 (pats_all h30 h0 (n - 1) (fun k' q => k25 k' (by omega)))
  · exact zr_vars (R := sP t n) (R' := sP t (n - 1)) le48 (vars_all (n - 1))
  · exact zr_datasL (R := sP t n) h47 l409 (gl50 n) l408
  · exact zr_consL (R := sP t n) h30 l409
theorem ZAll_n (hlen : t.length ≤ 900) : ∀ n, ZAll t n := by
  have : ∀ n n', n' ≤ n → ZAll t n' := by
    intro n
    induction n with
    | zero => intro n' q; rw [Nat.le_zero.mp q]; exact ZAll_0
    | succ n ih => intro n' q; exact (Nat.lt_or_ge n' (n + 1)).elim (fun w => ih n' (Nat.le_of_lt_succ w)) (fun w => by rw [Nat.le_antisymm q w]; exact ZAll_s hlen ih)
  exact fun n => this n n (Nat.le_refl _)
/-- one input of the reference, whole -/
theorem z_input {S : ZS} {W : List (List Int)} {F : Fx} {d n : Nat} {Q : Option (Option ZV) → ZS → Prop} {r : (Int × Nat) ⊕ (Gt × Ps)} (hZB : ZBi t S W F) (hlen : t.length ≤ 900) (hd : 3600 ≤ d) (he : sIn t F (n + 1) = some r) (her : ∀ e p S', r = .inl (e, p) → ThZ t (S, W) S' e p → Q none S') (hk : ∀ τ σ1 S1 W1 a y, r = .inr (τ, σ1) → ZZ t (S, W) S1 σ1 W1 ([(gs τ, a, y)], ([], []), []) 0 → gs τ ≠ [] ∧ τ = gl (gs τ) → Q (some (some (.inl a))) S1) : zW (ZL d 24 [] S) Q := by
  obtain ⟨h0, -⟩ := ZAll_n hlen (n + 1)
  obtain ⟨k0, hW, h2, l395, h3, h4, h5, h6, h7, h8, h9, h9p, h10, h10p, h11, l389, h13, l400, l715, l603, l393, h16, h20, h21, h24, h25, l381, h30, hTy, h32, l383, h34, l384, h36, l386, hD, l370, h41, -⟩ := ZAll_n hlen n
  exact zr_input (R := sP t (n + 1)) (R' := sP t n) hZB hlen h0 ((SPb_n (n + 1)).1 0 (by decide)) (fun _ => rfl) (zr_decsA h41 (l370 1 (Or.inr rfl))) hd he her hk
end ZJoin
