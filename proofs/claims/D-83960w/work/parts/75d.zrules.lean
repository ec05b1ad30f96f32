set_option maxRecDepth 100000
/-! THE REFERENCE'S PARSER: rules for its small steps -/
section ZRul
variable {t : List Int} {Γ : Zg} {S S' : ZS} {σ σ1 : Ps} {W W' : List (List Int)} {M : Zm} {g g' : Int} {d n : Nat} {Q : Option (Option ZV) → ZS → Prop} {r : (Int × Nat) ⊕ (Gt × Ps)} {f : Ps → PR} {e0 : PR}
theorem sRead_kB (hT : tOK t) {n i : Nat} {k : Tok} {j : Nat} (hi : i ≤ t.length) (h : sRead t n i = .inr (k, j)) : i + kB k ≤ j := by
  unfold sRead at h
  split at h
  · cases h
  · next j0 e =>
    have := sGaps_in hT (t.length + 1) i (by omega) hi e
    split at h
    · cases h
      exact this.1
    · split at h
      · cases h
      · have := sTok_in hT (by omega) h
        unfold TkIn at this
        omega
theorem sNum_0 : ∀ n i (v : Int), t.length < n + i → 0 ≤ v → 0 ≤ (sNum t i v).1 := by
  intro n
  induction n with
  | zero =>
    intro i v h hv
    rw [sNum, if_neg (fun q => by omega)]
    exact hv
  | succ n ih =>
    intro i v h hv
    rw [sNum]
    split
    · next q =>
      refine ih (i + 1) _ (by omega) ?_
      have := q.2
      unfold sDigit at this
      rw [decide_eq_true_eq] at this
      omega
    · exact hv
theorem sNamed_Q {a e j : Nat} {k : Tok} (h : sNamed t a e = .inr (k, j)) : tkQ k := by
  unfold sNamed at h
  split at h
  · cases h
  · cases h
    refine ⟨by show (if _ then 0 else 1) ≤ 6; split <;> omega, fun q => ?_, fun q => ?_⟩
    · revert q
      show (if _ then 0 else 1) = 1 → _
      split
      · intro q; cases q
      · next w =>
        intro _ z
        exact w (by rw [show sl t a (e - a) = [61] from z]; decide)
    · revert q
      show (if _ then 0 else 1) = 3 → _
      split <;> intro q <;> cases q
theorem sTok_Q {a j : Nat} {k : Tok} (h : sTok t a = .inr (k, j)) : tkQ k := by
  have pl : ∀ {k : Tok}, k.1 = 2 ∨ k.1 = 4 ∨ k.1 = 5 → tkQ k := fun q => ⟨by omega, fun z => by omega, fun z => by omega⟩
  unfold sTok at h
  split at h
  · exact sNamed_Q h
  split at h
  · unfold sVar at h
    generalize (if tch t (a + 1) = 39 then a + 2 else a + 1) = b at h
    split at h
    · split at h
      · cases h
      · cases h; exact pl (Or.inl rfl)
    · cases h
  split at h
  · unfold sInt at h
    have n1 := sNum_0 (t := t) (t.length + 1) (a + 1) 0 (by omega) (by decide)
    have n0 := sNum_0 (t := t) (t.length + 1) a 0 (by omega) (by decide)
    split at h
    · split at h
      · cases h
      · cases h; exact ⟨by show 3 ≤ 6; decide, fun z => (by cases z), fun _ => Or.inr ⟨rfl, by show -(sNum t (a + 1) 0).1 ≤ 0; omega⟩⟩
    · split at h
      · cases h
      · cases h; exact ⟨by show 3 ≤ 6; decide, fun z => (by cases z), fun _ => Or.inl ⟨rfl, n0⟩⟩
  split at h
  · unfold sString at h
    split at h
    · cases h
    · split at h
      · cases h
      · cases h; exact pl (Or.inr (Or.inl rfl))
  split at h
  · unfold sChar at h
    split at h
    · cases h
    · split at h
      · cases h
      · cases h; exact pl (Or.inr (Or.inr rfl))
  split at h
  · exact sNamed_Q h
  · unfold sOther at h
    split at h
    · split at h
      · cases h
      · split at h
        · cases h
        · exact sNamed_Q h
    · split at h
      · exact sNamed_Q h
      · cases h
theorem sRead_Q {n i j : Nat} {k : Tok} (h : sRead t n i = .inr (k, j)) : tkQ k := by
  unfold sRead at h
  split at h
  · cases h
  · split at h
    · cases h
      exact ⟨by show 6 ≤ 6; decide, fun z => (by cases z), fun z => (by cases z)⟩
    · split at h
      · cases h
      · exact sTok_Q h
theorem ZZ_cur (hZ : ZZ t Γ S σ W M g) (h6 : (pc σ).1 ≠ 6) (hk6 : (pk σ).1 = 6) (m : Nat) : ZZ t Γ (zcur S) (pk σ, pk σ, pn σ, pi' σ, pd σ, pF σ, m) W M (g - 4) := by
  obtain ⟨⟨a1, a2, a3, a4, a5, a6, a7, a8, a9, a10, a11⟩, ⟨b1, b2, b3, b4, b5, b6, b7⟩, c1, c2, c3, c4, c5, c6, c7⟩ := hZ
  have ag := zcur_ag (S := S)
  have hp : psn (pk σ, pk σ, pn σ, pi' σ, pd σ, pF σ, m) = psn σ + 1 := by
    show pn σ + (if (pk σ).1 = 6 then 1 else 0) + (if (pk σ).1 = 6 then 1 else 0) = pn σ + (if (pk σ).1 = 6 then 1 else 0) + (if (pc σ).1 = 6 then 1 else 0) + 1
    rw [if_pos hk6, if_neg h6]
  have zs : zseq S (zcur S) := ⟨Int.le_refl _, fun _ _ => rfl, Int.le_refl _, fun _ _ => ⟨rfl, rfl⟩⟩
  have zn : znod S (zcur S) := ⟨rfl, rfl, fun _ _ _ => rfl⟩
  unfold ZZ Z2
  rw [hp]
  refine ⟨⟨Lx_ag ag (by decide) (by decide) a1, ⟨NT_ag ag (by decide) (by decide) a2.1, a2.2⟩, TkC_cur a4, TkM_cur a4, ⟨a5.2.1, a5.2.1, fun _ => hk6⟩, a6, a7, a8, a9, a10, a11⟩, ⟨by omega, by omega, b3, b4, ?_, b6, b7⟩, c1, zFc_k zs.2.2.1 zs.2.2.2 List.prefix_rfl c2, ⟨c3.1, ?_⟩, zits_nod zn zs List.prefix_rfl c4, ⟨c5.1, c5.2.1, by have := c5.2.2.1; have z : pmu t (pk σ, pk σ, pn σ, pi' σ, pd σ, pF σ, m) = 0 := if_pos hk6; omega, zA_e (S := S) rfl c5.2.2.2.1, zB_e (S := S) ⟨rfl, rfl, rfl⟩ c5.2.2.2.2⟩, fun q z => zks_k zs List.prefix_rfl (c6 q z), Zmo_trans c7 ⟨zAg_mono ag (by decide) (by decide), List.prefix_rfl, Int.le_refl _, fun _ _ _ _ _ _ => rfl, fun _ _ => rfl, Int.le_refl _, fun _ _ => rfl, Int.le_refl _, fun _ _ => ⟨rfl, rfl⟩⟩⟩
  · show 0 ≤ S.1 46; exact b4
  · exact ⟨by show S.1 40 - S.1 41 ≤ _; omega, by show S.1 46 ≤ _; omega⟩
theorem ThZ_of {e : Int} {p : Nat} (Z : ZZ t Γ S σ W M g) (hg : g ≤ 185) (h : zAg FE2 [9] S S') (h1 : S'.1 31 = e) (h2 : S'.1 32 = (p : Int)) (h9 : ∀ i : Int, i < S.1 30 → S'.2.2.1 9 i = S.2.2.1 9 i) : ThZ t Γ S' e p :=
  ⟨S, W, σ, g, Z.2.2.2.2.2.2.2.2, Z.2.1, Z.1.2.2.2.2.2.2.2.2.1, Z.2.2.2.2.1.2, by omega, h, ⟨NT_ag h (by decide) (by decide) Z.1.2.1.1, Z.1.2.1.2⟩, h1, h2, h9⟩
theorem ThZ_th {e : Int} {p : Nat} (Z : ZZ t Γ S σ W M g) (hg : g ≤ 185) : ThZ t Γ (zthr S e p) e p := ThZ_of Z hg (zAg_put (by decide) (zAg_put (by decide) zAg_refl)) rfl rfl (fun _ _ => rfl)
theorem zW_stepZ {k : ZS → ZR ZS} (hd : 5 ≤ d) (Z : ZZ t Γ S σ W M g) (h6 : (pc σ).1 ≠ 6) (hg : g ≤ 185) (he : pT (pPass t σ) f = some r) (her : ∀ e p S', r = .inl (e, p) → ThZ t Γ S' e p → Q none S') (hk : ∀ σ1 S1 W1, ZZ t Γ S1 σ1 W1 M (g - 4) → Pn t σ σ1 → f σ1 = some r → zW (k S1) Q) : zW (zV (zc ZL d 43 [] S) k) Q := by
  obtain ⟨d, rfl⟩ : ∃ e, d = e + 5 := ⟨d - 5, by omega⟩
  have Z0 := Z
  obtain ⟨⟨a1, a2, a3, a4, a5, a6, a7, a8, a9, a10, a11⟩, ⟨b1, b2, b3, b4, b5, b6, b7⟩, c⟩ := Z
  refine zW_V (P := fun S' => zW (k S') Q) (T := fun S' => Q none S') (zW_c (z_step (n := pn σ) (i := pi' σ) (d := d) a4 (fun k6 => ?_) (fun k6 k' j S' q1 q2 => ?_) (fun k6 e p S' q1 q2 q3 q4 q5 => ?_) a1 a2 a6 a7 (by omega) a8 a11 (by omega))) (fun _ q => q) (fun _ q => q)
  · have ep : pPass t σ = .inr (pk σ, pk σ, pn σ, pi' σ, pd σ, pF σ, pq σ + (if (pc σ).1 = 2 then 3 else 1)) := by
      unfold pPass
      rw [if_pos k6]
    rw [ep] at he
    have hpm : pmu t (pk σ, pk σ, pn σ, pi' σ, pd σ, pF σ, pq σ + (if (pc σ).1 = 2 then 3 else 1)) = 0 := if_pos k6
    have hpm1 : pmu t σ = 1 := by unfold pmu; rw [if_neg h6, if_pos k6]
    exact hk _ _ W (ZZ_cur Z0 h6 k6 (pq σ + (if (pc σ).1 = 2 then 3 else 1))) ⟨rfl, rfl, rfl, by rw [hpm, hpm1]; omega, Nat.le_add_right _ _⟩ he
  · have ep : pPass t σ = .inr (pk σ, k', pn σ + (if k'.1 = 6 then 0 else 1), j, pd σ, pF σ, pq σ + (if (pc σ).1 = 2 then 3 else 1)) := by
      unfold pPass
      rw [if_neg k6, q1]
    rw [ep] at he
    have hin := sRead_in a1.2.1 a8 q1
    have hkb := sRead_kB a1.2.1 a8 q1
    have hpm : pmu t (pk σ, k', pn σ + (if k'.1 = 6 then 0 else 1), j, pd σ, pF σ, pq σ + (if (pc σ).1 = 2 then 3 else 1)) < pmu t σ := by
      unfold pmu
      rw [if_neg h6, if_neg k6, if_neg k6]
      show (if k'.1 = 6 then 1 else 2 + (t.length - j)) < _
      split
      · omega
      · next w => have := hin.2.2.2.2 w; omega
    obtain ⟨W', Z'⟩ := ZZ_step Z0 h6 k6 q1 q2 ⟨⟨hin.1, hin.2.1⟩, sRead_Q q1, hkb, fun w => by have := hin.2.2.2.2 w; omega⟩ hpm
    exact hk _ _ W' Z' ⟨rfl, rfl, rfl, hpm, Nat.le_add_right _ _⟩ he
  · have ep : pPass t σ = .inl (e, p) := by
      unfold pPass
      rw [if_neg k6, q1]
    rw [ep] at he
    exact her e p S' (Option.some.inj he).symm (ThZ_of Z0 hg q2 q3 q4 q5)
theorem zW_isZ {kk : Int → ZS → ZR ZS} (m : Nat) (hm : m < 44) (hd : 1 ≤ d) (Z : ZZ t Γ S σ W M g) (h1 : pIs σ m → zW (kk 1 S) Q) (h0 : ¬ pIs σ m → zW (kk 0 S) Q) : zW (zI (zc ZL d 45 [.inl (m : Int)] S) kk) Q := by
  obtain ⟨d, rfl⟩ : ∃ e, d = e + 1 := ⟨d - 1, by omega⟩
  refine zW_Ie (z_is Z.1.2.2.1 Z.1.2.1 hm) ?_
  by_cases q : (pc σ).1 = 0 ∧ (pc σ).2.2.1 = sKept.getD m []
  · rw [if_pos q]; exact h1 q
  · rw [if_neg q]; exact h0 q
theorem zW_hasZ {kk : Int → ZS → ZR ZS} (m : Nat) (hm : m < 44) (hd : 6 ≤ d) (Z : ZZ t Γ S σ W M g) (hg : g ≤ 185) (he : (if pIs σ m then pT (pPass t σ) f else e0) = some r) (her : ∀ e p S', r = .inl (e, p) → ThZ t Γ S' e p → Q none S') (h0 : ¬ pIs σ m → e0 = some r → zW (kk 0 S) Q) (h1 : pIs σ m → ∀ σ1 S1 W1, ZZ t Γ S1 σ1 W1 M (g - 4) → Pn t σ σ1 → f σ1 = some r → zW (kk 1 S1) Q) : zW (zI (zc ZL d 53 [.inl (m : Int)] S) kk) Q := by
  obtain ⟨d, rfl⟩ : ∃ e, d = e + 1 := ⟨d - 1, by omega⟩
  refine zW_I (P := fun v S' => zW (kk v S') Q) (T := fun S' => Q none S') (zW_c (zl_has ?_)) (fun _ _ q => q) (fun _ q => q)
  unfold zb_has
  refine zW_isZ m hm (by omega) Z (fun q => ?_) (fun q => ?_)
  · rw [if_pos q] at he
    exact zW_f (by decide) (zW_stepZ (by omega) Z (by have := q.1; omega) hg he her (fun σ1 S1 W1 Z1 p e => zW_rZ (Or.inr rfl) (h1 q σ1 S1 W1 Z1 p e)))
  · rw [if_neg q] at he
    exact zW_t rfl (zW_rZ (Or.inl rfl) (h0 q he))
theorem zW_needZ {k : ZS → ZR ZS} (m : Nat) (hm : m < 44) (hd : 6 ≤ d) (Z : ZZ t Γ S σ W M g) (hg : g ≤ 185) (he : pNeed t m σ f = some r) (her : ∀ e p S', r = .inl (e, p) → ThZ t Γ S' e p → Q none S') (hk : pIs σ m → ∀ σ1 S1 W1, ZZ t Γ S1 σ1 W1 M (g - 4) → Pn t σ σ1 → f σ1 = some r → zW (k S1) Q) : zW (zV (zc ZL d 50 [.inl (m : Int)] S) k) Q := by
  obtain ⟨d, rfl⟩ : ∃ e, d = e + 2 := ⟨d - 2, by omega⟩
  unfold pNeed at he
  refine zW_V (P := fun S' => zW (k S') Q) (T := fun S' => Q none S') (zW_c (z_need Z.1.2.2.1 Z.1.2.1 hm (fun q => ?_) (fun q => ?_))) (fun _ q => q) (fun _ q => q)
  · have q : ¬ pIs σ m := q
    rw [if_neg q] at he
    exact her _ _ _ (Option.some.inj he).symm (ThZ_th Z hg)
  · have q : pIs σ m := q
    rw [if_pos q] at he
    exact zW_stepZ (by omega) Z (by have := q.1; omega) hg he her (fun σ1 S1 W1 Z1 p e => zW_rV (hk q σ1 S1 W1 Z1 p e))
/-- how much is open -/
theorem ZZ_dp (Z : ZZ t Γ S σ W M g) (hn : n ≤ 40) : ZZ t Γ (zput S 48 (n : Int)) (psd σ n) W M g := by
  obtain ⟨⟨a1, a2, a3, a4, a5⟩, b, c1, c2, c3, c4, c5, c6, c7⟩ := Z
  have ag : zAg [48] [] S (zput S 48 (n : Int)) := zAg_put (by decide) zAg_refl
  have zs : zseq S (zput S 48 (n : Int)) := ⟨Int.le_refl _, fun _ _ => rfl, Int.le_refl _, fun _ _ => ⟨rfl, rfl⟩⟩
  have zn : znod S (zput S 48 (n : Int)) := ⟨rfl, rfl, fun _ _ _ => rfl⟩
  exact ⟨⟨Lx_ag ag (by decide) (by decide) a1, ⟨NT_ag ag (by decide) (by decide) a2.1, a2.2⟩, TkC_re a3 ag (by decide) List.prefix_rfl (Int.le_refl _) (fun _ _ => rfl), TkM_re a4 ag (by decide) List.prefix_rfl (Int.le_refl _) (fun _ _ => rfl), a5⟩, b, ⟨rfl, hn⟩, zFc_k zs.2.2.1 zs.2.2.2 List.prefix_rfl c2, c3, zits_nod zn zs List.prefix_rfl c4, ⟨c5.1, c5.2.1, c5.2.2.1, zA_e (S := S) rfl c5.2.2.2.1, zB_e (S := S) ⟨rfl, rfl, rfl⟩ c5.2.2.2.2⟩, fun q z => zks_k zs List.prefix_rfl (c6 q z), Zmo_trans c7 ⟨zAg_mono ag (by decide) (by decide), List.prefix_rfl, Int.le_refl _, fun _ _ _ _ _ _ => rfl, fun _ _ => rfl, Int.le_refl _, fun _ _ => rfl, Int.le_refl _, fun _ _ => ⟨rfl, rfl⟩⟩⟩
theorem zW_opensZ {k : ZS → ZR ZS} (hd : 6 ≤ d) (Z : ZZ t Γ S σ W M g) (h6 : (pc σ).1 ≠ 6) (hg : g ≤ 185) (he : pOpens t σ f = some r) (her : ∀ e p S', r = .inl (e, p) → ThZ t Γ S' e p → Q none S') (hk : pd σ < 40 → ∀ σ1 S1 W1, ZZ t Γ S1 σ1 W1 M (g - 4) → Po t σ σ1 (pd σ + 1) → f σ1 = some r → zW (k S1) Q) : zW (zV (zc ZL d 49 [] S) k) Q := by
  obtain ⟨d, rfl⟩ : ∃ e, d = e + 1 := ⟨d - 1, by omega⟩
  have c1 := Z.2.2.1
  unfold pOpens at he
  refine zW_V (P := fun S' => zW (k S') Q) (T := fun S' => Q none S') (zW_c (z_opens Z.1.2.2.1 (by omega) (fun q => ?_) (fun q => ?_))) (fun _ q => q) (fun _ q => q)
  · rw [if_pos (by omega)] at he
    exact her _ _ _ (Option.some.inj he).symm (ThZ_th Z hg)
  · rw [if_neg (by omega)] at he
    have hlt : pd σ < 40 := by omega
    rw [show S.1 48 + 1 = ((pd σ + 1 : Nat) : Int) by omega]
    exact zW_stepZ (by omega) (ZZ_dp Z (by omega)) h6 hg he her (fun σ1 S1 W1 Z1 p e => zW_rV (hk hlt σ1 S1 W1 Z1 ⟨p.1, p.2.1, p.2.2.1, p.2.2.2.1, p.2.2.2.2⟩ e))
theorem zW_closesZ {k : ZS → ZR ZS} (m : Nat) (hm : m < 44) (hp : 0 < pd σ) (hd : 6 ≤ d) (Z : ZZ t Γ S σ W M g) (hg : g ≤ 185) (he : pCloses t m σ f = some r) (her : ∀ e p S', r = .inl (e, p) → ThZ t Γ S' e p → Q none S') (hk : pIs σ m → ∀ σ1 S1 W1, ZZ t Γ S1 σ1 W1 M (g - 4) → Po t σ σ1 (pd σ - 1) → f σ1 = some r → zW (k S1) Q) : zW (zV (zc ZL d 51 [.inl (m : Int)] S) k) Q := by
  obtain ⟨d, rfl⟩ : ∃ e, d = e + 2 := ⟨d - 2, by omega⟩
  have c1 := Z.2.2.1
  unfold pCloses at he
  refine zW_V (P := fun S' => zW (k S') Q) (T := fun S' => Q none S') (zW_c (z_closes Z.1.2.2.1 Z.1.2.1 hm (by omega) (fun q => ?_) (fun q => ?_))) (fun _ q => q) (fun _ q => q)
  · have q : ¬ pIs σ m := q
    rw [if_neg q] at he
    exact her _ _ _ (Option.some.inj he).symm (ThZ_th Z hg)
  · have q : pIs σ m := q
    rw [if_pos q] at he
    rw [show S.1 48 - 1 = ((pd σ - 1 : Nat) : Int) by omega]
    exact zW_stepZ (by omega) (ZZ_dp Z (by omega)) (by show (pc σ).1 ≠ 6; have := q.1; omega) hg he her (fun σ1 S1 W1 Z1 p e => zW_rV (hk q σ1 S1 W1 Z1 ⟨p.1, p.2.1, p.2.2.1, p.2.2.2.1, p.2.2.2.2⟩ e))
theorem zW_decZ {k : ZS → ZR ZS} (hp : 0 < pd σ) (Z : ZZ t Γ S σ W M g) (hk : ∀ S1, ZZ t Γ S1 (psd σ (pd σ - 1)) W M g → zW (k S1) Q) : zW (zG (inI (S.1 48 - 1)) (zp S 48 (S.1 48 - 1) k)) Q := by
  have c1 := Z.2.2.1
  refine zW_G (by omega) (zW_p ?_)
  rw [show S.1 48 - 1 = ((pd σ - 1 : Nat) : Int) by omega]
  exact hk _ (ZZ_dp Z (by omega))
/-! names that are kept -/
theorem ZZ_k {q : Zk} {I : List Zi} {A : List Int × List (Int × Int × Int)} {K : List Zk} (Z : ZZ t Γ S σ W (I, A, K) g) (hq : zks S W q) : ZZ t Γ S σ W (I, A, q :: K) g := by
  obtain ⟨a, b, c1, c2, c3, c4, c5, c6, c7⟩ := Z
  refine ⟨a, b, c1, c2, c3, c4, c5, fun x w => ?_, c7⟩
  rcases List.mem_cons.mp w with rfl | w
  · exact hq
  · exact c6 x w
theorem ZZ_k1 {q : Zk} {I : List Zi} {A : List Int × List (Int × Int × Int)} {K : List Zk} (Z : ZZ t Γ S σ W (I, A, q :: K) g) : zks S W q ∧ ZZ t Γ S σ W (I, A, K) g := by
  obtain ⟨a, b, c1, c2, c3, c4, c5, c6, c7⟩ := Z
  exact ⟨c6 q (List.mem_cons_self ..), a, b, c1, c2, c3, c4, c5, fun x w => c6 x (List.mem_cons_of_mem _ w), c7⟩
theorem ZZ_c (Z : ZZ t Γ S σ W M g) : S.1 17 = ((pc σ).1 : Int) ∧ S.1 18 = ((pc σ).2.1 : Int) := ⟨Z.1.2.2.1.1, Z.1.2.2.1.2.1⟩
theorem ZZ_n (Z : ZZ t Γ S σ W M g) : S.1 22 = ((pk σ).1 : Int) ∧ S.1 23 = ((pk σ).2.1 : Int) := ⟨Z.1.2.2.2.1.1, Z.1.2.2.2.1.2.1⟩
theorem ZZ_nm (Z : ZZ t Γ S σ W M g) (h : (pc σ).1 < 3) : zname W (S.1 19) (pc σ).2.2.1 := by
  obtain ⟨w, h1, h2, h3⟩ := Z.1.2.2.1.2.2.1 h
  exact ⟨w, h1, h2, h3⟩
theorem ZZ_nn (Z : ZZ t Γ S σ W M g) (h : (pk σ).1 < 3) : zname W (S.1 24) (pk σ).2.2.1 := by
  obtain ⟨w, h1, h2, h3⟩ := Z.1.2.2.2.1.2.2.1 h
  exact ⟨w, h1, h2, h3⟩
theorem zname_inj {i i' : Int} {b b' : List Int} (Z : ZZ t Γ S σ W M g) (h : zname W i b) (h' : zname W i' b') : i = i' ↔ b = b' := by
  obtain ⟨w, h1, h2, h3⟩ := h
  obtain ⟨w', h1', h2', h3'⟩ := h'
  refine ⟨fun q => ?_, fun q => ?_⟩
  · have : w = w' := by omega
    rw [← h3, ← h3', this]
  · rw [← h3, ← h3'] at q
    have := nodup_getD Z.1.2.1.1.2.2.2.2.1 h1 h1' q
    omega
theorem ZZ_st (Z : ZZ t Γ S σ W M g) : zname W (S.1 15) [42] ∧ zname W (S.1 56) gIt := Z.1.2.2.2.2.2.2.2.2.2.1
end ZRul
