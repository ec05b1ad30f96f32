set_option maxRecDepth 100000
/-! THE REFERENCE'S PARSER: infixed; patterns -/
/-- what infixed gives -/
def okI (p : Int) : Ps → Gt → ZS → Int → Prop := fun σ τ S a => gk τ ∈ kP p ∧ (p = 1 → (S.1 55 = a ↔ tNf (pF σ) (pc σ) ∧ gk τ = 31))
section ZIn3
variable {t : List Int} {Γ : Zg} {S S' : ZS} {σ σ1 : Ps} {W W' : List (List Int)} {M : Zm} {g g' G : Int} {d n tag : Nat} {Q : Option (Option ZV) → ZS → Prop} {r : (Int × Nat) ⊕ (Gt × Ps)} {I : List Zi} {A A' : List Int} {B B' : List (Int × Int × Int)} {K : List Zk} {cs : List Gt} {y z p x2 : Int} {τ : Gt} {R : PX} {o : ZO} {lo hi : Int} {BARE : Prop}
/-- a name is laid down -/
theorem ZZ_pushB {f s r' : Int} {name : List Int} (Z : ZZ t Γ S σ W (I, (A, B), K) g) (hn : zname W (S.1 19) name) (hv : zFv S f (some (s, r'))) (h46 : f < S.1 46) (hAB : B.length + 1 ≤ A.length) : ZZ t Γ (zput (zset (zset (zset S 20 (S.1 54) f) 21 (S.1 54) (S.1 19)) 22 (S.1 54) (S.1 18)) 54 (S.1 54 + 1)) σ W (I, (A, (f, S.1 19, S.1 18) :: B), kN (S.1 19) name :: kS f s r' :: K) g := by
  obtain ⟨⟨h1, h2⟩, h3, h4, h5, h6⟩ := ZZ_AB Z
  have Z1 := ZZ_k (q := kN (S.1 19) name) (ZZ_k (q := kS f s r') Z ⟨h46, hv⟩) hn
  refine ZZ_stk Z1 (zAg_put (by decide) (zAg_set (by decide) (zAg_set (by decide) (zAg_set (by decide) zAg_refl)))) h1 ?_ (by rw [List.length_cons]; omega) h4 (zA_e (S := S) rfl h5) ⟨?_, ?_, ?_, zB_k (n := B.length) (Int.le_refl _) (fun i hi => ⟨?_, ?_, ?_⟩) h6⟩
  · show S.1 54 + 1 = ((B.length + 1 : Nat) : Int); omega
  · rw [zput_3, zset_3, if_neg (fun w => absurd w.1 (by decide)), zset_3, if_neg (fun w => absurd w.1 (by decide)), zset_3, if_pos ⟨rfl, h2.symm⟩]
  · rw [zput_3, zset_3, if_neg (fun w => absurd w.1 (by decide)), zset_3]
    exact if_pos ⟨rfl, h2.symm⟩
  · rw [zput_3, zset_3]
    exact if_pos ⟨rfl, h2.symm⟩
  · rw [zput_3, zset_3, if_neg (fun w => absurd w.1 (by decide)), zset_3, if_neg (fun w => absurd w.1 (by decide)), zset_3, if_neg (fun w => by have := w.2; omega)]
  · rw [zput_3, zset_3, if_neg (fun w => absurd w.1 (by decide)), zset_3, if_neg (fun w => by have := w.2; omega), zset_3, if_neg (fun w => absurd w.1 (by decide))]
  · rw [zput_3, zset_3, if_neg (fun w => by have := w.2; omega), zset_3, if_neg (fun w => absurd w.1 (by decide)), zset_3, if_neg (fun w => absurd w.1 (by decide))]
/-- the rest behind an operand -/
theorem zr_infL (hp01 : p = 0 ∨ p = 1) (hop : ZCf t (R (tgO p) [] []) (mtO p) noA 3 one (okOz p)) (ih : ZL375 t (fun x o => R 10 [p] [gl x, gl o]) p 4) : ZL375 t (fun x o => gInfR t p R x o) p 4 := by
  intro Γ S σ W x os I A B K G d Q r BARE Z hx hk hJ hBA hG hd he her hQ
  have d40 := dep_40z Z
  have e17 := ZZ_c Z
  have he : gInfR t p R (x.map fun q => q.1) (os.map opT) σ = some r := he
  unfold gInfR at he
  obtain ⟨d, rfl⟩ : ∃ e, d = e + 5 := ⟨d - 5, by omega⟩
  refine zl_infixed_p10 ?_
  unfold zb_infixed_p10
  have hop1 : os.length ≤ 150 + os.length := by omega
  have hgb : G - os.length ≤ 150 := by omega
  have fin : (if p = 0 then pIx (pF σ) (pc σ) else pSt (pF σ) (pc σ)) = none → zW (ZL (d + 5) 597 [.inl p, .inl (B.length : Int)] S) Q := by
    intro hn
    rw [hn] at he
    exact zr_inEnd hp01 (by omega) hBA hG os x S Z hx hk hJ (fun S1 a Z1 o1 o2 => hQ _ σ S1 W a (Option.some.inj he).symm Z1 o1 o2 Qx_0)
  have go : ∀ s r', (if p = 0 then pIx (pF σ) (pc σ) else pSt (pF σ) (pc σ)) = some (s, r') → (pc σ).1 < 3 → pFe (pF σ) (pc σ).2.2.1 = some (s, r') → zW (ZL (d + 5) 598 [.inl p, .inl (B.length : Int)] S) Q := by
    intro s r' hs h3 hf
    rw [hs] at he
    have he : (match gahd p s r' (x.map fun q => q.1) (os.map opT) with
      | none => pWr σ
      | some (x1, o1) => pT (pPass t σ) fun σ1 => pB (R (tgO p) [] [] σ1) fun b σ2 => R 10 [p] [gl (b :: x1), gl (gop (pc σ) s r' :: o1)] σ2) = some r := he
    obtain ⟨v, ev, zv, zw⟩ := z_fixOf (d := d + 3) Z (ZZ_nm Z h3)
    rw [hf] at zv
    have hv46 : v < S.1 46 := zw zv.1
    refine zl_infixed_p30 ?_
    unfold zb_infixed_p30
    refine zW_Ie (zW_get (zW_c (zW_eq ev ⟨rfl, rfl⟩))) (zW_let ?_)
    have h54 : S.1 54 = ((os.length + B.length : Nat) : Int) := by
      have := (ZZ_AB Z).1.2
      rw [List.length_append, List.length_map] at this
      exact this
    have main := zr_ahead (Q := Q) (BARE := BARE) (d := d + 4) (f3 := v) (s := s) (r' := r') hp01 (by omega) hBA hG os x S Z hx hk hJ zv hv46 (fun x1 os1 S1 hg1 Z1 hx1 hk1 hJ1 hv1 h461 => ?_) (fun hg1 S1 T1 => ?_)
    · by_cases ho : os = []
      · subst ho
        rw [if_pos rfl] at main
        exact zW_t (by rw [h54]; show (((0 : Nat) + B.length : Nat) : Int) ≤ _; omega) (zW_let main)
      · rw [if_neg ho] at main
        have : 0 < os.length := List.length_pos_iff.mpr ho
        exact zW_f (by rw [h54]; omega) (zW_let main)
    · rw [hg1] at he
      have he : pT (pPass t σ) (fun σ1 => pB (R (tgO p) [] [] σ1) fun b σ2 => R 10 [p] [gl (b :: x1.map fun q => q.1), gl (gop (pc σ) s r' :: os1.map opT)] σ2) = some r := he
      obtain ⟨⟨k1, k2⟩, k3, k4, -⟩ := ZZ_AB Z1
      rw [List.length_append, List.length_map] at k1 k3 k4
      rw [List.length_append, List.length_map] at k2 k3
      refine zl_infixed_p54 ?_
      unfold zb_infixed_p54
      have f54 : inI (S1.1 54 + 1) := by omega
      have hn := ZZ_nm Z1 h3
      have e18 := (ZZ_c Z1).2
      have Z2 := ZZ_pushB Z1 hn hv1 h461 (by rw [List.length_append, List.length_append, List.length_map, List.length_map]; omega)
      refine zW_t rfl (zW_st (by omega) (zW_st (by show 0 ≤ S1.1 54 ∧ S1.1 54 < _; omega) (zW_st (by show 0 ≤ S1.1 54 ∧ S1.1 54 < _; omega) (zW_G f54 (zW_p ?_)))))
      have g1 : G - (os1.length : Int) ≤ 150 := by omega
      refine zW_stepZ (by omega) Z2 (by omega) (by omega) he her (fun σ3 S3 W3 Z3 p3 he => ?_)
      have q3 := Qx_p p3
      have dl3 := dep_le q3
      refine zW_pushZ hp01 hop (by omega) Z3 (by omega) he her (fun τ σ4 S4 W4 a Z4 o4 q4 he => ?_)
      have q4 := Qx_to (Qx_t q3 q4) (k' := 0) (m' := 2) (by omega) (by omega)
      have dl4 := dep_le q4
      refine ih Γ S4 σ4 W4 ((τ, a) :: x1) (((v, S1.1 19, S1.1 18), (s, r'), (pc σ).2.2.1) :: os1) I A B K G (d + 5) Q r BARE (ZZ_mono Z4 (by rw [List.length_cons]; omega)) (by rw [List.length_cons, List.length_cons]; omega) (fun q hq => ?_) (fun hp1 => ⟨(o4.2 hp1).1, fun z => by cases z⟩) hBA hG (by omega) ?_ her (fun τ' σ7 S7 W7 a' w Z7 o7 o8 q7 => hQ τ' σ7 S7 W7 a' w Z7 o7 o8 (Qx_to (Qx_t q4 q7) (by omega) (by omega)))
      · rcases List.mem_cons.mp hq with w | w
        · rw [w]; exact o4.1
        · exact hk1 q w
      · have eo : opT ((v, S1.1 19, S1.1 18), (s, r'), (pc σ).2.2.1) = gop (pc σ) s r' := by
          unfold opT gop
          rw [e18]
        show R 10 [p] [gl (τ :: x1.map fun q => q.1), gl (opT ((v, S1.1 19, S1.1 18), (s, r'), (pc σ).2.2.1) :: os1.map opT)] σ4 = some r
        rw [eo]
        exact he
    · rw [hg1] at he
      exact her _ _ _ (Option.some.inj he).symm T1
  refine zW_tst (d := d + 4) (z_isInfixHere (d := d) Z) (fun w => zW_f (by decide) ?_) (fun w => zW_t rfl (fin ?_))
  · rcases hp01 with rfl | rfl
    · refine zW_t rfl ?_
      cases e : pIx (pF σ) (pc σ) with
      | none => exact absurd e w
      | some u =>
        refine go u.1 u.2 (by rw [if_pos rfl]; exact e) ?_ ?_
        · unfold pIx pSt at e
          split at e
          · next h => have := h.1; omega
          · split at e
            · omega
            · cases e
        · unfold pIx at e
          split at e
          · next h =>
            unfold pFe
            rw [if_pos (show (pc σ).2.2.1 = [61] from h.2)]
            exact e
          · have h1 : (pc σ).1 = 1 := by
              unfold pSt at e
              split at e
              · next h => exact h
              · cases e
            rw [← pSt_e Z h1]
            exact e
    · refine zW_f (by decide) (zW_isZ 40 (by decide) (by omega) Z (fun w4 => zW_f (by decide) (fin ?_)) (fun w4 => zW_t rfl ?_))
      · rw [if_neg (by decide)]
        unfold pSt
        rw [if_neg (fun z => by have := w4.1; omega)]
      · have e1 : pIx (pF σ) (pc σ) = pSt (pF σ) (pc σ) := by
          unfold pIx
          rw [if_neg w4]
        rw [e1] at w
        cases e : pSt (pF σ) (pc σ) with
        | none => exact absurd e w
        | some u =>
          have h1 : (pc σ).1 = 1 := by
            unfold pSt at e
            split at e
            · next h => exact h
            · cases e
          exact go u.1 u.2 (by rw [if_neg (by decide)]; exact e) (by omega) (by rw [← pSt_e Z h1]; exact e)
  · have w := Classical.not_not.mp w
    rcases hp01 with rfl | rfl
    · rw [if_pos rfl]; exact w
    · rw [if_neg (by decide)]
      unfold pIx at w
      split at w
      · cases w
      · exact w
/-- infixed -/
theorem zr_inf (hp01 : p = 0 ∨ p = 1) (hop : ZCf t (R (tgO p) [] []) (mtO p) noA 3 one (okOz p)) (ih : ZL375 t (fun x o => R 10 [p] [gl x, gl o]) p 4) : ZCf t (gInf p R) 56 (fun _ => [.inl p]) 6 one (okI p) := by
  intro Γ S σ W M g d Q r Z hg hd he her hk
  obtain ⟨I, ⟨A, B⟩, K⟩ := M
  have d40 := dep_40z Z
  unfold gInf at he
  refine zl_infixed ?_
  unfold zb_infixed
  obtain ⟨⟨h1, h2⟩, h3, h4, -⟩ := ZZ_AB Z
  refine zW_let (zW_pushZ hp01 hop (by omega) Z (by omega) he her (fun τ σ4 S4 W4 a Z4 o4 q4 he => ?_))
  have dl4 := dep_le q4
  rw [h2]
  refine ih Γ S4 σ4 W4 [(τ, a)] [] I A B K (g - 2) d Q r (tNf (pF σ) (pc σ)) (ZZ_mono Z4 (by show g - 2 ≤ g - 2 - ((0 : Nat) : Int); omega)) rfl (fun q hq => by rw [List.mem_singleton.mp hq]; exact o4.1) (fun hp1 => ⟨(o4.2 hp1).1, fun _ q hq => by rw [List.mem_singleton.mp hq]; exact (o4.2 hp1).2⟩) h3 (by omega) (by omega) he her (fun τ' σ7 S7 W7 a' w Z7 o7 o8 q7 => hk τ' σ7 S7 W7 a' a' w Z7 ⟨o7, o8⟩ (Qx_to (Qx_t q4 q7) (by omega) (by omega)))
/-- a pattern between infix names -/
theorem zr_appP (h25 : ZCf t (R 25 [] []) 63 noA 1 one okP) : ZCf t (gAppP t R) 58 noA 3 one (okOz 1) := by
  intro Γ S σ W M g d Q r Z hg hd he her hk
  obtain ⟨I, ⟨A, B⟩, K⟩ := M
  have d40 := dep_40z Z
  have e17 := ZZ_c Z
  have e22 := ZZ_n Z
  unfold gAppP at he
  obtain ⟨d, rfl⟩ : ∃ e, d = e + 5 := ⟨d - 5, by omega⟩
  refine zl_appliedPattern ?_
  unfold zb_appliedPattern
  refine zW_tst (d := d + 4) (z_isOpName (d := d + 1) Z) (fun w => zW_f (by decide) (zW_let ?_)) (fun w => zW_t rfl ?_)
  · rw [if_pos w] at he
    have go : zW (ZL (d + 5) 377 [.inl (S.1 18), .inl (if pIs σ 20 then ((pk σ).2.1 : Int) else ((pc σ).2.1 : Int))] S) Q := by
      refine zl_appliedPattern_p41 ?_
      unfold zb_appliedPattern_p41
      rw [e17.2]
      refine zW_let (zW_opnZ (by omega) Z w (by omega) he her (fun σ1 S1 W1 x b Z1 q1 he => zW_let ?_))
      have dl1 := dep_le q1
      have hpl : (if pIs σ 20 then ((pk σ).2.1 : Int) else ((pc σ).2.1 : Int)) = ((if pIs σ 20 then (pk σ).2.1 else (pc σ).2.1 : Nat) : Int) := by split <;> rfl
      have h40 := (ZZ_40 Z1 (by omega)).1
      refine zW_tst (d := d + 4) (z_begAtP (d := d) Z1) (fun w2 => zW_f (by decide) ?_) (fun w2 => zW_t rfl ?_)
      · rw [if_pos w2] at he
        refine zW_subZ h25 (by omega) Z1 (by omega) rfl he her (fun τ σ3 S3 W3 a Z3 o3 q3 he => zW_let (zW_p ?_))
        have Z4 := ZZ_55 (v := -1) Z3
        obtain ⟨hn, Z4⟩ := zK_t Z4
        have h40 := (ZZ_40 Z3 (by omega)).1
        refine zW_nodeX (M0 := I) [([τ], a, a)] 36 [[((pc σ).2.1 : Int), ((if pIs σ 20 then (pk σ).2.1 else (pc σ).2.1 : Nat) : Int)], b] [τ] (by omega) Z4 (by omega) (by decide) rfl (zqc rfl (zqc hn (zqc hpl zqn))) ⟨⟨_, rfl, rfl⟩, rfl, rfl⟩ (fun f S5 ef Z5 => zW_rI (hk _ σ3 S5 W3 f f (Option.some.inj he).symm (ZZ_mono Z5 (by omega)) ⟨(by show 36 ∈ kPa; decide), fun _ => ?_⟩ (Qx_to (Qx_t q1 q3) (by omega) (by omega))))
        have e55 : S5.1 55 = -1 := ef.2.1
        have e40 : S5.1 40 = S3.1 40 + 1 := ef.2.2.1
        have ef0 : f = S3.1 40 := ef.1
        refine ⟨by omega, fun z => by omega, fun z => ?_⟩
        have : (36 : Nat) = 31 := z.2
        omega
      · rw [if_neg w2] at he
        obtain ⟨hn, Z2⟩ := zK_t Z1
        have h40 := (ZZ_40 Z1 (by omega)).1
        refine zW_nodeX (M0 := I) [] 31 [[((pc σ).2.1 : Int), ((if pIs σ 20 then (pk σ).2.1 else (pc σ).2.1 : Nat) : Int), 0], b] [] (by omega) Z2 (by omega) (by decide) rfl (zqc rfl (zqc hn (zqc rfl (zqc rfl (zqc hpl zqn))))) rfl (fun f S5 ef Z5 => zW_p (zW_rI ?_))
        refine hk _ σ1 (zput S5 55 f) W1 f f (Option.some.inj he).symm (ZZ_55 (ZZ_mono Z5 (by omega))) ⟨(by show 31 ∈ kPa; decide), fun _ => ⟨?_, fun _ => ⟨w, rfl⟩, fun _ => rfl⟩⟩ q1
        show f < S5.1 40
        have e40 : S5.1 40 = S1.1 40 + 1 := ef.2.2.1
        have ef0 : f = S1.1 40 := ef.1
        omega
    refine zW_isZ 20 (by decide) (by omega) Z (fun w => zW_f (by decide) ?_) (fun w => zW_t rfl ?_)
    · rw [if_pos w] at go
      rw [e22.2]; exact go
    · rw [if_neg w] at go
      rw [e17.2] at go ⊢; exact go
  · rw [if_neg w] at he
    have he : pB (R 25 [] [] σ) pR = some r := by rw [pB_id]; exact he
    refine zW_subZ h25 (by omega) Z (by omega) rfl he her (fun τ σ1 S1 W1 a Z1 o1 q1 he => zW_let (zW_p (zW_rI ?_)))
    have h0 := ZZ_x0 Z1 (List.cons_ne_nil _ _)
    have h40 := (ZZ_40 Z1 (by omega)).1
    refine hk _ σ1 _ W1 a a (Option.some.inj he).symm (ZZ_55 Z1) ⟨o1, fun _ => ⟨by show -1 < S1.1 40; omega, fun z => ?_, fun z => absurd z.1 w⟩⟩ q1
    have z : -1 = a := z
    omega
end ZIn3
