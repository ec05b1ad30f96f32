set_option maxRecDepth 100000
/-! THE REFERENCE'S PARSER: infix names -/
def ZL719 (t : List Int) (fs : Ps → PR) (w s : Int) : Prop :=
  ∀ (Γ : Zg) (S : ZS) (σ : Ps) (W : List (List Int)) (p : Int) (I : List Zi) (A : List Int × List (Int × Int × Int)) (K : List Zk) (g : Int) (d : Nat) (Q : Option (Option ZV) → ZS → Prop) (r : (Int × Nat) ⊕ (Gt × Ps)), ZZ t Γ S σ W (I, A, K) g → (pc σ).1 = 1 → g ≤ 150 → dep t σ + 1 ≤ d → fs σ = some r →
    (∀ e p S', r = .inl (e, p) → ThZ t Γ S' e p → Q none S') →
    (∀ τ σ1 S1 W1 a, r = .inr (τ, σ1) → ZZ t Γ S1 σ1 W1 (([τ], a, a) :: I, A, K) (g - 2) → Qy t 0 1 σ σ1 → Q (some (some (.inl a))) S1) → zW (ZL d 719 [.inl p, .inl w, .inl s] S) Q
section ZFix
variable {t : List Int} {Γ : Zg} {S S' S1 : ZS} {σ σ1 : Ps} {W W' W1 : List (List Int)} {M : Zm} {g g' G : Int} {d n tag m : Nat} {Q : Option (Option ZV) → ZS → Prop} {r : (Int × Nat) ⊕ (Gt × Ps)} {I J : List Zi} {A A' : List Int × List (Int × Int × Int)} {K K' : List Zk} {x y z p s r' w : Int} {b : List Int} {R R' : PX} {F : Fx}
theorem pPass_psF : pPass t (psF σ F) = match pPass t σ with
    | .inr σ1 => .inr (psF σ1 F)
    | .inl e => .inl e := by
  unfold pPass
  by_cases k6 : (pk σ).1 = 6
  · have k7 : (pk (psF σ F)).1 = 6 := k6
    rw [if_pos k7, if_pos k6]; rfl
  · have k7 : ¬ (pk (psF σ F)).1 = 6 := k6
    rw [if_neg k7, if_neg k6]
    show (match sRead t (pn σ) (pi' σ) with | .inl e => _ | .inr (k', j) => _) = _
    cases sRead t (pn σ) (pi' σ) with
    | inl e => rfl
    | inr q => rfl
theorem pPass_F (h : pPass t σ = .inr σ1) : pF σ1 = pF σ := by
  unfold pPass at h
  split at h
  · cases h; rfl
  · split at h
    · cases h
    · cases h; rfl
theorem pT_psF {x : List Int × Int × Int} {f : Ps → PR} : pT (pPass t σ) (fun σ1 => f (psF σ1 (x :: pF σ1))) = pT (pPass t (psF σ (x :: pF σ))) f := by
  rw [pPass_psF]
  cases e : pPass t σ with
  | inl e => rfl
  | inr σ1 =>
    show f (psF σ1 (x :: pF σ1)) = f (psF σ1 (x :: pF σ))
    rw [pPass_F e]
theorem zfixv {w s r' : Int} (hw : 0 ≤ w ∧ w < 15000) (hs : -1 ≤ s ∧ s ≤ 9) (hr : r' = 0 ∨ r' = 1) : zorI (zorI (zshlI w 5) (zandI s 15)) (if r' = 0 then 0 else 16) = w * 32 + s % 16 + 16 * r' := by
  obtain ⟨n, rfl⟩ := Int.eq_ofNat_of_zero_le hw.1
  have hn : n < 15000 := by omega
  have hs15 : ∃ k : Nat, k < 16 ∧ zandI s 15 = (k : Int) ∧ s % 16 = (k : Int) := by
    by_cases h : s < 0
    · have : s = -1 := by omega
      subst this
      exact ⟨15, by decide, by decide +kernel, by decide⟩
    · obtain ⟨k, rfl⟩ := Int.eq_ofNat_of_zero_le (show 0 ≤ s by omega)
      exact ⟨k, by omega, by rw [zand_15 (by omega)]; omega, by omega⟩
  obtain ⟨k, k1, k2, k3⟩ := hs15
  have fin16 : ∀ k : Nat, k < 16 → k ||| 16 = k + 16 := by decide
  have e1 : zorI (zshlI (n : Int) 5) (k : Int) = ((n * 32 + k : Nat) : Int) := by
    rw [zshl_5 (by omega), zor_nat (by omega) (by omega)]
    congr 1
    have := Nat.two_pow_add_eq_or_of_lt (i := 5) (b := k) (by omega) n
    rw [show n * 32 = 2 ^ 5 * n by omega, ← this]
  rw [k2, k3, e1]
  rcases hr with rfl | rfl
  · rw [if_pos rfl]
    have := zor_nat (m := n * 32 + k) (k := 0) (by omega) (by decide)
    rw [show ((0 : Nat) : Int) = 0 from rfl, Nat.or_zero] at this
    rw [this]; omega
  · rw [if_neg (by decide)]
    have := zor_nat (m := n * 32 + k) (k := 16) (by omega) (by decide)
    rw [show ((16 : Nat) : Int) = 16 from rfl] at this
    rw [this]
    have h1 := Nat.two_pow_add_eq_or_of_lt (i := 5) (b := k) (by omega) n
    have h2 := Nat.two_pow_add_eq_or_of_lt (i := 5) (b := k + 16) (by omega) n
    have h3 : n * 32 + k ||| 16 = n * 32 + (k + 16) := by
      rw [show n * 32 + k = 2 ^ 5 * n + k by omega, h1, Nat.or_assoc, fin16 k k1, ← h2]
      omega
    rw [h3]; omega
/-- one more name with its strength -/
theorem zW_fixZ {k : ZS → ZR ZS} (hd : 1 ≤ d) (Z : ZZ t Γ S σ W (I, A, K) g) (hx : zname W x b) (hb : b ≠ [61]) (hs : -1 ≤ s ∧ s ≤ 9) (hr : r' = 0 ∨ r' = 1) (hg : g ≤ 160) (hk : ∀ S1, ZZ t Γ S1 (psF σ ((b, s, r') :: pF σ)) W (I, A, K) (g + 1) → zW (k S1) Q) : zW (zV (zc ZL d 20 [.inl x, .inl s, .inl r'] S) k) Q := by
  obtain ⟨d, rfl⟩ : ∃ e, d = e + 1 := ⟨d - 1, by omega⟩
  have hps := ZZ_ps Z
  obtain ⟨w, w1, w2, w3⟩ := hx
  have hWl := Z.1.2.1.2.2.1
  obtain ⟨⟨a1, a2, a3, a4, a5⟩, b0, c1, c2, c3, c4, c5, c6, c7⟩ := Z
  have h46 : 0 ≤ S.1 46 ∧ S.1 46 < 23500 := by
    have := b0.2.2.2.1
    have := c3.2.2
    omega
  have hv := zfixv (w := (w : Int)) (s := s) (r' := r') (by omega) hs hr
  generalize hS : zput (zput (zset (zset S 17 (S.1 46) ((w : Int) * 32 + s % 16 + 16 * r')) 18 (S.1 46) (S.1 47)) 47 (S.1 46)) 46 (S.1 46 + 1) = S4
  have ag : zAg [46, 47] [17, 18] S S4 := by rw [← hS]; exact zAg_put (by decide) (zAg_put (by decide) (zAg_set (by decide) (zAg_set (by decide) zAg_refl)))
  have e46 : S4.1 46 = S.1 46 + 1 := by rw [← hS]; rfl
  have e47 : S4.1 47 = S.1 46 := by rw [← hS]; rfl
  have r17 : S4.2.2.1 17 (S.1 46) = (w : Int) * 32 + s % 16 + 16 * r' := by
    rw [← hS]
    show (zset (zset S 17 _ _) 18 _ _).2.2.1 17 _ = _
    rw [zset_3, if_neg (fun q => absurd q.1 (by decide)), zset_3, if_pos ⟨rfl, rfl⟩]
  have r18 : S4.2.2.1 18 (S.1 46) = S.1 47 := by
    rw [← hS]
    show (zset (zset S 17 _ _) 18 _ _).2.2.1 18 _ = _
    rw [zset_3, if_pos ⟨rfl, rfl⟩]
  have low : ∀ i : Int, i < S.1 46 → S4.2.2.1 17 i = S.2.2.1 17 i ∧ S4.2.2.1 18 i = S.2.2.1 18 i := by
    intro i hi
    rw [← hS]
    show (zset (zset S 17 _ _) 18 _ _).2.2.1 17 i = _ ∧ (zset (zset S 17 _ _) 18 _ _).2.2.1 18 i = _
    rw [zset_3, if_neg (fun q => absurd q.1 (by decide)), zset_3, if_neg (fun q => by have := q.2; omega), zset_3, if_neg (fun q => by have := q.2; omega), zset_3, if_neg (fun q => absurd q.1 (by decide))]
    exact ⟨rfl, rfl⟩
  have e := fun f (hf : f ∉ [46, 47]) => ag.1 f hf
  have ea := fun f (hf : f ∉ [17, 18]) => ag.2.2.1 f hf
  have e40 := e 40 (by decide)
  have e41 := e 41 (by decide)
  have e30 := e 30 (by decide)
  have zs : zseq S S4 := ⟨by omega, fun _ _ => by rw [ea 9 (by decide)], by omega, low⟩
  have zn : znod S S4 := ⟨e40, e41, fun j q1 q2 => ea j (by intro z; have : ∀ x ∈ [17, 18], 17 ≤ x := by decide
                                                            have := this j z; omega)⟩
  have Z4 : ZZ t Γ S4 (psF σ ((b, s, r') :: pF σ)) W (I, A, K) (g + 1) := by
    obtain ⟨L, L1, L2, L3, L4⟩ := c2
    refine ⟨⟨Lx_ag ag (by decide) (by decide) a1, ⟨NT_ag ag (by decide) (by decide) a2.1, a2.2⟩, TkC_re a3 ag (by decide) List.prefix_rfl (by omega) zs.2.1, TkM_re a4 ag (by decide) List.prefix_rfl (by omega) zs.2.1, a5.1, by rw [e 27 (by decide)]; exact a5.2.1, by rw [e 28 (by decide)]; exact a5.2.2.1, a5.2.2.2.1, a5.2.2.2.2.1, by rw [e 15 (by decide), e 56 (by decide)]; exact a5.2.2.2.2.2.1, by rw [e30]; exact a5.2.2.2.2.2.2⟩, ⟨b0.1, b0.2.1, by rw [e30]; exact b0.2.2.1, by omega, by omega, by rw [e41]; exact b0.2.2.2.2.2.1, by rw [e41]; exact b0.2.2.2.2.2.2⟩, by rw [e 48 (by decide)]; exact c1, ?_, ⟨by rw [e41]; exact c3.1, ?_⟩, by rw [e40]; exact zits_nod zn zs List.prefix_rfl c4, ⟨by rw [e 53 (by decide), e 54 (by decide)]; exact c5.1, c5.2.1, c5.2.2.1, zA_e (ea 19 (by decide)) c5.2.2.2.1, zB_e ⟨ea 20 (by decide), ea 21 (by decide), ea 22 (by decide)⟩ c5.2.2.2.2⟩, fun q z => zks_k zs List.prefix_rfl (c6 q z), Zmo_trans c7 ⟨zAg_mono ag (by decide) (by decide), List.prefix_rfl, by show S.1 40 ≤ _; omega, fun j w1 w2 w3 i _ => by rw [zn.2.2 j w1 w2], fun i _ => by rw [ea 11 (by decide)], zs.1, zs.2.1, zs.2.2.1, zs.2.2.2⟩⟩
    · refine ⟨(b, s, r') :: L, ?_, ?_, ?_, ?_⟩
      · rw [e47]
        refine ⟨h46.1, by omega, h46.2, ⟨w, w1, w3, r17⟩, hs.1, hs.2, hr, ?_⟩
        rw [r18]
        exact zFX_k zs.2.2.1 low List.prefix_rfl L L1
      · rw [List.filter_cons_of_pos (by rw [decide_eq_true_eq]; exact hb), L2]
        rfl
      · intro z hz h61
        rcases List.mem_cons.mp hz with h | h
        · rw [h] at h61; exact absurd h61 hb
        · exact L3 z h h61
      · obtain ⟨z, z1, z2⟩ := L4
        exact ⟨z, List.mem_cons_of_mem _ z1, z2⟩
    · show S4.1 40 - S4.1 41 ≤ 4 * (psn σ : Int) + (g + 1) ∧ S4.1 46 ≤ 19000 + 4 * (psn σ : Int) + (g + 1)
      omega
  have go : ∀ y0 : Int, y0 = (if r' = 0 then 0 else 16) → zW (ZL d 354 [.inl y0, .inl (zorI (zshlI x 5) (zandI s 15)), .inl (S.1 46)] S) (oV (fun S' => zW (k S') Q) fun S' => Q none S') := by
    intro y0 hy
    subst hy
    refine zl_fix_p26 ?_
    unfold zb_fix_p26
    rw [w2, hv]
    refine zW_st (by omega) (zW_st (by show 0 ≤ S.1 46 ∧ S.1 46 < _; omega) (zW_p (zW_G (by show inI (S.1 46 + 1); omega) (zW_p (zW_rV ?_)))))
    show zW (k _) Q
    have := hk S4 Z4
    rw [← hS] at this
    exact this
  refine zW_V (P := fun S' => zW (k S') Q) (T := fun S' => Q none S') (zW_c (zl_fix ?_)) (fun _ q => q) (fun _ q => q)
  unfold zb_fix
  refine zW_if (fun h => go 0 (by rw [if_pos h])) (fun h => go 16 (by rw [if_neg h]))
theorem zr_fixL (hs : -1 ≤ s ∧ s ≤ 9) (hr : (w = 15 ∧ r' = 1) ∨ (w ≠ 15 ∧ r' = 0)) (hL : ZL719 t (R 51 [s, r'] []) w s) : ZL719 t (gFixR t s r' R) w s := by
  intro Γ S σ W p I A K g d Q r Z h1 hg hd he her hk
  have d40 := dep_40z Z
  have e17 := ZZ_c Z
  unfold gFixR pName at he
  rw [if_pos h1] at he
  have hb := Z.1.2.2.2.2.1.1.2.1 h1
  have he : pT (pPass t (psF σ (((pc σ).2.2.1, s, r') :: pF σ))) (fun σ2 => if (pc σ2).1 = 1 then R 51 [s, r'] [] σ2 else pR (gn 83 [] []) σ2) = some r := by
    rw [← pT_psF]
    exact he
  refine zl_infixes_p76 ?_
  unfold zb_infixes_p76
  have go : zW (zV (zc ZL d 20 [.inl (S.1 19), .inl s, .inl r'] S) fun S1 => zV (zc ZL d 43 [] S1) fun S2 => ZL d 719 [.inl p, .inl w, .inl s] S2) Q := by
    refine zW_fixZ (by omega) Z (ZZ_nm Z (by omega)) hb hs (by omega) (by omega) (fun S1 Z1 => ?_)
    refine zW_stepZ (by omega) Z1 (by show (pc σ).1 ≠ 6; omega) (by omega) he her (fun σ2 S2 W2 Z2 p2 he => ?_)
    have q2 : Qy t 0 1 σ σ2 := ⟨by have := p2.2.1; show (pd σ2 : Int) = pd σ + 0; rw [this]; show (pd σ : Int) = _; omega, ⟨[((pc σ).2.2.1, s, r')], by rw [p2.2.2.1]; rfl⟩, p2.2.2.2.1, p2.2.2.2.2⟩
    have dl2 := dep_y q2
    by_cases h2 : (pc σ2).1 = 1
    · rw [if_pos h2] at he
      exact hL Γ S2 σ2 W2 p I A K _ d Q r Z2 h2 (by omega) (by omega) he her (fun τ σ7 S7 W7 a hr Z7 q7 => hk τ σ7 S7 W7 a hr (ZZ_mono Z7 (by omega)) (Qy_to (Qy_t q2 q7) (by omega) (by omega)))
    · rw [if_neg h2] at he
      have e2 := ZZ_c Z2
      refine zl_infixes_p76 ?_
      unfold zb_infixes_p76
      exact zW_f (by omega) (zW_nodeZ (M0 := I) [] 83 [] [] (by omega) Z2 (by omega) (by decide) rfl zqn rfl (fun a S3 Z3 => zW_rI (hk _ σ2 S3 W2 a (Option.some.inj he).symm (ZZ_mono Z3 (by omega)) q2)))
  refine zW_t (by omega) ?_
  rcases hr with ⟨h, h'⟩ | ⟨h, h'⟩
  · subst h'; exact zW_t h go
  · subst h'; exact zW_f h go
end ZFix
