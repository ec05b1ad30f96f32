set_option maxRecDepth 100000
/-! THE REFERENCE'S PARSER: one input as a whole -/
/-- the reference between inputs -/
def ZBi (t : List Int) (S : ZS) (W : List (List Int)) (F : Fx) : Prop := (Lx S t ∧ NW S W ∧ zname W (S.1 15) [42] ∧ zname W (S.1 56) gIt) ∧ zFc S W (S.1 47) F ∧ (0 ≤ S.1 30 ∧ S.1 30 + 2 * t.length ≤ 183980) ∧ (0 ≤ S.1 46 ∧ S.1 46 ≤ 19000) ∧ (0 ≤ S.1 41 ∧ S.1 41 ≤ 79800 ∧ S.1 40 = S.1 41) ∧ W.length + 1010 ≤ 14990 ∧ off W W.length + 30300 ≤ 43900
def FB : List Nat := FR2 ++ [48, 53, 54]
section ZInp
variable {t : List Int} {Γ : Zg} {S S' S1 S8 : ZS} {σ σ1 : Ps} {W W' W1 W8 : List (List Int)} {M : Zm} {g g' G : Int} {d n j tag m : Nat} {Q : Option (Option ZV) → ZS → Prop} {r : (Int × Nat) ⊕ (Gt × Ps)} {R R' : PX} {F : Fx} {k k' : Tok}
theorem Zmo_b (ag : zAg FB AR0 S S8) (hW : W <+: W8) (h30 : S.1 30 ≤ S8.1 30) (h9 : ∀ i : Int, i < S.1 30 → S8.2.2.1 9 i = S.2.2.1 9 i) : Zmo (S, W) S8 W8 := by
  have e := fun f (hf : f ∉ FB) => ag.1 f hf
  have ea := fun f (hf : f ∉ AR0) => ag.2.2.1 f hf
  have nb : ∀ i, 10 ≤ i → i ≤ 22 → i ∉ AR0 := by
    intro i q1 q2 q3
    have : i ≤ 9 := by
      have : ∀ x ∈ AR0, x ≤ 9 := by decide
      exact this i q3
    omega
  refine ⟨zAg_mono ag (by decide) (by decide), hW, ?_, fun j q1 q2 _ i _ => ?_, fun i _ => ?_, h30, h9, ?_, fun i _ => ⟨?_, ?_⟩⟩
  · show S.1 40 ≤ _; rw [e 40 (by decide)]; exact Int.le_refl _
  · show S8.2.2.1 j i = S.2.2.1 j i; rw [ea j (nb j q1 (by omega))]
  · show S8.2.2.1 11 i = S.2.2.1 11 i; rw [ea 11 (by decide)]
  · show S.1 46 ≤ _; rw [e 46 (by decide)]; exact Int.le_refl _
  · show S8.2.2.1 17 i = S.2.2.1 17 i; rw [ea 17 (by decide)]
  · show S8.2.2.1 18 i = S.2.2.1 18 i; rw [ea 18 (by decide)]
theorem ZZ_b (hB : ZBi t S W F) (hlen : t.length ≤ 900) (ag : zAg FB AR0 S S8) (hW : W <+: W8) (w2 : W8.length ≤ W.length + 2) (w3 : off W8 W8.length ≤ off W W.length + 60) (nt : NT S8 W8) (tc : TkC S8 W8 k) (tm : TkM S8 W8 k') (q1 : tkQ k) (q2 : tkQ k') (q3 : k.1 = 6 → k'.1 = 6) (e27 : S8.1 27 = (j : Int)) (e28 : S8.1 28 = (n : Int)) (hj : j ≤ t.length) (hn : n ≤ 1000) (hp : psn (k, k', n, j, 0, F, 0) = 2) (e48 : S8.1 48 = 0) (e53 : S8.1 53 = 0) (e54 : S8.1 54 = 0) (h30 : S.1 30 ≤ S8.1 30 ∧ S8.1 30 ≤ S.1 30 + j) (h9 : ∀ i : Int, i < S.1 30 → S8.2.2.1 9 i = S.2.2.1 9 i) : ZZ t (S, W) S8 (k, k', n, j, 0, F, 0) W8 ([], ([], []), []) (-8) := by
  have mo := Zmo_b ag hW h30.1 h9
  obtain ⟨⟨a1, a2, a3, a4⟩, b, c1, c2, c3, c4, c5⟩ := hB
  have e := fun f (hf : f ∉ FB) => ag.1 f hf
  have ea := fun f (hf : f ∉ AR0) => ag.2.2.1 f hf
  have e15 := e 15 (by decide)
  have e56 := e 56 (by decide)
  have e40 := e 40 (by decide)
  have e41 := e 41 (by decide)
  have e46 := e 46 (by decide)
  have e47 := e 47 (by decide)
  have pm : pmu t (k, k', n, j, 0, F, 0) ≤ 902 := by
    unfold pmu
    split
    · omega
    · split
      · omega
      · show 2 + (t.length - j) ≤ 902; omega
  have zs : zseq S S8 := ⟨h30.1, h9, by rw [e46]; omega, fun i _ => by rw [ea 17 (by decide), ea 18 (by decide)]; exact ⟨rfl, rfl⟩⟩
  unfold ZZ Z1 Z2
  rw [hp]
  refine ⟨⟨Lx_ag ag (by decide) (by decide) a1, ⟨nt, a2.2.1.trans hW, by omega, by omega⟩, tc, tm, ⟨q1, q2, q3⟩, e27, e28, hj, hn, ⟨by rw [e15]; exact zname_pre hW a3, by rw [e56]; exact zname_pre hW a4⟩, by omega⟩, ⟨by omega, by omega, ?_, by omega, by omega, by omega, by omega⟩, ⟨e48, Nat.zero_le _⟩, ?_, ⟨?_, by omega, by omega⟩, ?_, ⟨⟨e53, e54⟩, Nat.le_refl _, ?_, trivial, trivial⟩, fun q z => (by cases z), mo⟩
  · show S8.1 30 + 2 * (t.length : Int) ≤ 183980 + (j : Int); omega
  · rw [e47]; exact zFc_k zs.2.2.1 zs.2.2.2 hW b
  · show S8.1 41 ≤ S.1 40; omega
  · show S.1 40 ≤ S8.1 40; omega
  · show 0 + pmu t _ ≤ 2000; omega
theorem ThZ_b {e : Int} {p : Nat} (hB : ZBi t S W F) (ag : zAg FB AR0 S S8) (hW : W <+: W8) (w2 : W8.length ≤ W.length + n) (w3 : off W8 W8.length ≤ off W W.length + 30 * n) (nt : NT S8 W8) (hn : n ≤ 10) (h30 : S.1 30 ≤ S8.1 30 ∧ S8.1 30 ≤ S.1 30 + j) (h9 : ∀ i : Int, i < S.1 30 → S8.2.2.1 9 i = S.2.2.1 9 i) (af : zAg FE2 [9] S8 S') (f31 : S'.1 31 = e) (f32 : S'.1 32 = (p : Int)) (f9 : ∀ i : Int, i < S8.1 30 → S'.2.2.1 9 i = S8.2.2.1 9 i) : ThZ t (S, W) S' e p := by
  have mo := Zmo_b ag hW h30.1 h9
  obtain ⟨⟨a1, a2, a3, a4⟩, b, c1, c2, c3, c4, c5⟩ := hB
  have e' := fun f (hf : f ∉ FB) => ag.1 f hf
  have e40 := e' 40 (by decide)
  have e41 := e' 41 (by decide)
  have e46 := e' 46 (by decide)
  have hp : psn (((1, 0, [], 0) : Tok), ((1, 0, [], 0) : Tok), n, j, 0, F, 0) = n := rfl
  refine ⟨S8, W8, (((1, 0, [], 0) : Tok), ((1, 0, [], 0) : Tok), n, j, 0, F, 0), 0, mo, ?_, ?_, ?_, by omega, af, ⟨NT_ag af (by decide) (by decide) nt, a2.2.1.trans hW, by omega, by omega⟩, f31, f32, f9⟩
  · unfold Z2
    rw [hp]
    refine ⟨by omega, by omega, ?_, by omega, by omega, by omega, by omega⟩
    show S8.1 30 + 2 * (t.length : Int) ≤ 183980 + (j : Int); omega
  · show n ≤ 1000; omega
  · rw [hp]
    exact ⟨by omega, by omega⟩
abbrev zS6 (S : ZS) : ZS := zput (zput (zput (zput (zput (zput S 27 0) 28 0) 48 0) 53 0) 54 0) 22 (-1)
theorem zr_start {kk : ZS → ZR ZS} {f : Ps → PR} (hB : ZBi t S W F) (hlen : t.length ≤ 900) (hd : 6 ≤ d) (he : pT (gStart t F) f = some r) (her : ∀ e p S', r = .inl (e, p) → ThZ t (S, W) S' e p → Q none S') (hk : ∀ σ S8 W8, ZZ t (S, W) S8 σ W8 ([], ([], []), []) (-8) → pd σ = 0 → f σ = some r → zW (kk S8) Q) : zW (zV (zc ZL d 25 [] (zS6 S)) fun S7 => zV (zc ZL d 43 [] S7) kk) Q := by
  have B := hB
  obtain ⟨⟨a1, a2, a3, a4⟩, b, c1, c2, c3, c4, c5⟩ := B
  obtain ⟨d, rfl⟩ : ∃ e, d = e + 5 := ⟨d - 5, by omega⟩
  have ag6 : zAg FB AR0 S (zS6 S) := zAg_put (by decide) (zAg_put (by decide) (zAg_put (by decide) (zAg_put (by decide) (zAg_put (by decide) (zAg_put (by decide) zAg_refl)))))
  have hN6 : NW (zS6 S) W := ⟨NT_ag (zAg_put (F := [27, 28, 48, 53, 54, 22]) (A := []) (by decide) (zAg_put (by decide) (zAg_put (by decide) (zAg_put (by decide) (zAg_put (by decide) (zAg_put (by decide) zAg_refl)))))) (by decide) (by decide) a2.1, a2.2⟩
  have e30 : (zS6 S).1 30 = S.1 30 := rfl
  unfold gStart at he
  refine zW_V (P := fun S7 => ∃ k j, sRead t 0 0 = .inr (k, j) ∧ ReOk (zS6 S) W k j S7) (T := fun S' => Q none S') (zW_c (z_read (n := 0) (i := 0) (d := d + 1) (fun k j S' e h => ⟨k, j, e, h⟩) (fun x p S' e h => ?_) (Lx_ag ag6 (by decide) (by decide) a1) hN6 rfl rfl (by omega) (Nat.zero_le _) (by rw [e30]; omega) (by rw [e30]; omega))) (fun S7 ⟨k, j, e, h⟩ => ?_) (fun _ q => q)
  · rw [e] at he
    exact her x p S' (Option.some.inj he).symm (ThZ_b (n := 0) (j := 0) hB ag6 List.prefix_rfl (by omega) (by omega) hN6.1 (by omega) ⟨Int.le_refl _, by rw [e30]; omega⟩ (fun _ _ => rfl) (zAg_mono h.1 (by decide) (by decide)) h.2.1 h.2.2.1 h.2.2.2)
  · rw [e] at he
    obtain ⟨g1, g2, g3, ⟨W7, w1, w2, w3, w4, w5⟩, g5, g6⟩ := h
    have hin := sRead_in a1.2.1 (Nat.zero_le _) e
    have hkb := sRead_kB a1.2.1 (Nat.zero_le _) e
    have hq := sRead_Q e
    have ag7 : zAg FB AR0 S S7 := zAg_trans ag6 (zAg_mono g1 (by decide) (by decide))
    have hN7 : NW S7 W7 := ⟨w4, a2.2.1.trans w1, by omega, by omega⟩
    have L7 := Lx_ag ag7 (by decide) (by decide) a1
    have s48 : S7.1 48 = 0 := g1.1 48 (by decide)
    have s53 : S7.1 53 = 0 := g1.1 53 (by decide)
    have s54 : S7.1 54 = 0 := g1.1 54 (by decide)
    rw [e30] at g5 g6
    have g2 : S7.1 28 = 0 + (if k.1 = 6 then 0 else 1) := g2
    have he : pT (if k.1 = 6 then .inr (k, k, 0, j, 0, F, 0) else match sRead t 1 j with
      | .inl e => .inl e
      | .inr (k', j') => .inr (k, k', 1 + (if k'.1 = 6 then 0 else 1), j', 0, F, 0)) f = some r := he
    by_cases k6 : k.1 = 6
    · rw [if_pos k6] at he g2
      refine zW_V (P := fun S8 => S8 = zcur S7) (T := fun S' => Q none S') (zW_c (z_step (n := 0) (i := j) (d := d) w5 (fun _ => rfl) (fun z => absurd k6 z) (fun z => absurd k6 z) L7 hN7 g3 (by omega) (by omega) hin.2.1 (by omega) (by omega))) (fun S8 q => ?_) (fun _ q => q)
      subst q
      refine hk _ (zcur S7) W7 (ZZ_b (k := k) (k' := k) (n := 0) (j := j) hB hlen (zAg_trans ag7 (zAg_mono zcur_ag (by decide) (by decide))) w1 (by omega) (by omega) (NT_ag zcur_ag (by decide) (by decide) w4) (TkC_cur w5) (TkM_cur w5) hq hq (fun z => z) g3 ?_ hin.2.1 (by omega) ?_ s48 s53 s54 ⟨?_, ?_⟩ (fun i hi => g6 i hi)) rfl he
      · show S7.1 28 = 0; omega
      · unfold psn
        rw [if_pos k6]
      · show S.1 30 ≤ S7.1 30; omega
      · show S7.1 30 ≤ _; omega
    · rw [if_neg k6] at he g2
      refine zW_V (P := fun S8 => ∃ k' j', sRead t 1 j = .inr (k', j') ∧ StOk S7 W7 k k' j' S8) (T := fun S' => Q none S') (zW_c (z_step (n := 1) (i := j) (d := d) w5 (fun z => absurd z k6) (fun _ k' j' S' e h => ⟨k', j', e, h⟩) (fun _ x p S' e f1 f2 f3 f4 => ?_) L7 hN7 g3 (by omega) (by omega) hin.2.1 (by omega) (by omega))) (fun S8 ⟨k', j', e', h'⟩ => ?_) (fun _ q => q)
      · rw [e] at he
        exact her x p S' (Option.some.inj he).symm (ThZ_b (n := 1) (j := j) hB ag7 w1 (by omega) (by omega) w4 (by omega) ⟨by omega, by omega⟩ (fun i hi => g6 i hi) f1 f2 f3 f4)
      · rw [e'] at he
        obtain ⟨h1, h2, h3, ⟨W8, v1, v2, v3, v4, v5, v6⟩, h5, h6⟩ := h'
        have hin' := sRead_in a1.2.1 hin.2.1 e'
        have hkb' := sRead_kB a1.2.1 hin.2.1 e'
        refine hk _ S8 W8 (ZZ_b (k := k) (k' := k') (n := 1 + (if k'.1 = 6 then 0 else 1)) (j := j') hB hlen (zAg_trans ag7 (zAg_mono h1 (by decide) (by decide))) (w1.trans v1) (by omega) (by omega) v4 v5 v6 hq (sRead_Q e') (fun z => absurd z k6) h3 ?_ hin'.2.1 ?_ ?_ (by rw [h1.1 48 (by decide)]; exact s48) (by rw [h1.1 53 (by decide)]; exact s53) (by rw [h1.1 54 (by decide)]; exact s54) ⟨by omega, by omega⟩ (fun i hi => by rw [h6 i (by omega)]; exact g6 i hi)) rfl he
        · rw [h2, g2]
          split <;> rfl
        · split <;> omega
        · show (1 + (if k'.1 = 6 then 0 else 1)) + (if k'.1 = 6 then 1 else 0) + (if k.1 = 6 then 1 else 0) = 2
          rw [if_neg k6]
          split <;> rfl
theorem gIn_dec : (pB (gDecs t 1 R' σ) fun l σ1 => pB (if pIs σ1 35 then pT (pPass t σ1) fun σ2 => pR l σ2 else pR l σ1) fun l σ2 => if (pc σ2).1 = 6 then pR l σ2 else pWr σ2) = pB (gTop t 1 R' σ) fun l σ2 => if (pc σ2).1 = 6 then pR l σ2 else pWr σ2 := by
  unfold gTop
  rw [pB_ass]
  cases h : gDecs t 1 R' σ with
  | none => rfl
  | some q =>
    rcases q with q | ⟨l, σ1⟩
    · rfl
    · have hl := gDecs_Gl σ l σ1 h
      show pB (if pIs σ1 35 then _ else _) _ = pB (gDT t 1 (gl ([] ++ gs l)) σ1) _
      rw [List.nil_append, ← hl]
      unfold gDT
      rw [if_neg (show ¬ (1 : Int) = 0 by decide)]
      split
      · rw [pB_pT, pB_pT]
        refine pT_c fun σ2 _ => ?_
        rw [pB_pR]
        split
        · next h6 => rw [pB_pR, if_pos h6]
        · rfl
      · rfl
theorem pB_if {x : PR} {f : Gt → Ps → PR} {P : Gt → Prop} [DecidablePred P] (h : ∀ τ σ1, x = some (.inr (τ, σ1)) → P τ) : pB x f = pB x (fun τ σ1 => if P τ then f τ σ1 else none) := by
  rcases x with _ | _ | ⟨τ, σ1⟩
  · rfl
  · rfl
  · show f τ σ1 = if P τ then f τ σ1 else none
    rw [if_pos (h τ σ1 rfl)]
theorem zW_node78X {kk : Int → ZS → ZR ZS} {pl nm x5 xa xb : Int} {M0 : List Zi} {A : List Int × List (Int × Int × Int)} {K : List Zk} {a b : Gt} (hd : 1 ≤ d) (Z : ZZ t Γ S σ W (([a], xa, xa) :: ([b], xb, xb) :: M0, A, K) g) (hg : g ≤ 185) (hh : ∀ c S1, S1.1 40 = S.1 40 + 1 → ZZ t Γ S1 σ W (([gn 78 [] [a, b]], c, c) :: M0, A, K) (g + 1) → zW (kk c S1) Q) : zW (zI (zc ZL d 52 [.inl 78, .inl pl, .inl nm, .inl xa, .inl xb, .inl x5] S) kk) Q := by
  obtain ⟨d, rfl⟩ : ∃ e, d = e + 1 := ⟨d - 1, by omega⟩
  have h40 := ZZ_40 Z hg
  refine zW_Ie (z_node h40.1 h40.2) (hh _ _ rfl ?_)
  obtain ⟨m0, w0, w1, w2⟩ := zits_seg [([b], xb, xb), ([a], xa, xa)] (M := M0) Z.2.2.2.2.2.1
  have o2 : (zo (zmk S (zav 78 pl nm xa xb x5)) W).2 = (zo S W).2 := zo_2 rfl rfl
  refine ZZ_mk (M := (([a], xa, xa) :: ([b], xb, xb) :: M0, A, K)) Z rfl hg ⟨m0, w0, w1, ?_⟩ ⟨by show (78 : Nat) ≠ 0; decide, by show (78 : Nat) ≠ 63; decide⟩ (fun z => absurd (show (78 : Nat) = 6 from z) (by decide))
  rw [zrt_gn]
  show zrtA _ 78 [] (zIm _ [a, b]) m0 (S.1 40 + 1) (S.1 40)
  unfold zrtA zrtB
  rw [if_neg (by decide), if_neg (by decide), if_neg (by decide), if_neg (by decide), if_neg (by decide), if_pos (Or.inr rfl)]
  have e1 : ∀ j, j ≤ 6 → (zo (zmk S (zav 78 pl nm xa xb x5)) W).1 j (S.1 40) = zav 78 pl nm xa xb x5 j := fun j hj => zmk_at hj
  have hs := zseg_k (o := zo S W) (o' := zo (zmk S (zav 78 pl nm xa xb x5)) W) (fun i b w => by rw [o2]; exact w) (fun i b w => by rw [o2]; exact w) [([b], xb, xb), ([a], xa, xa)] (zeq_mono zeq_mk (Int.le_refl _) (Int.le_refl _) (fun _ _ _ _ w => w)) w2
  exact ⟨w0, by omega, e1 0 (by omega), fun z => absurd z (show ¬ (78 : Nat) = 38 by decide), Or.inr (zpts_fit e1 _ _ (by decide) hs ⟨⟨b, rfl, rfl⟩, rfl, ⟨a, rfl, rfl⟩, rfl, rfl⟩)⟩
theorem zr_input (hZB : ZBi t S W F) (hlen : t.length ≤ 900) (h0 : ZCf t (R 0 [] []) 82 noA 10 one okEz) (hb0 : ∀ σ, hB ((pc σ).2.1 : Int) (R 0 [] [] σ)) (h40 : ∀ σ, R 40 [1] [] σ = gDecs t 1 R' σ) (hD : ZDf t (gTop t 1 R') 46 [.inl 1] 20) (hd : 3600 ≤ d) (he : pT (gStart t F) (fun σ => gInput t R σ) = some r) (her : ∀ e p S', r = .inl (e, p) → ThZ t (S, W) S' e p → Q none S') (hk : ∀ τ σ1 S1 W1 a y, r = .inr (τ, σ1) → ZZ t (S, W) S1 σ1 W1 ([(gs τ, a, y)], ([], []), []) 0 → gs τ ≠ [] ∧ τ = gl (gs τ) → Q (some (some (.inl a))) S1) : zW (ZL d 24 [] S) Q := by
  refine zl_input ?_
  unfold zb_input
  refine zW_p (zW_p (zW_p (zW_p (zW_p (zW_p ?_)))))
  refine zr_start hZB hlen (by omega) he her (fun σ S8 W8 Z h0d he => ?_)
  have hdp : dep t σ ≤ 3450 := by
    have := Z.2.2.2.2.2.2.1.2.2.1
    have pm : pmu t σ ≤ 902 := by
      unfold pmu
      split
      · omega
      · split
        · omega
        · omega
    unfold dep
    rw [h0d]
    omega
  have fin : ∀ τ σ1 S1 W1 a y, ZZ t (S, W) S1 σ1 W1 ([(gs τ, a, y)], ([], []), []) 0 → gs τ ≠ [] ∧ τ = gl (gs τ) → (if (pc σ1).1 = 6 then pR τ σ1 else pWr σ1) = some r → zW (ZL d 356 [.inl a] S1) Q := by
    intro τ σ1 S1 W1 a y Z1 ht he
    have e17 := ZZ_c Z1
    refine zl_input_p148 ?_
    unfold zb_input_p148
    refine zW_if (fun w => ?_) (fun w => ?_)
    · rw [if_pos (by omega)] at he
      exact zW_rI (hk τ σ1 S1 W1 a y (Option.some.inj he).symm Z1 ht)
    · rw [if_neg (by omega)] at he
      rw [e17.2]
      exact zW_thr (her _ _ _ (Option.some.inj he).symm (ThZ_th Z1 (by omega)))
  unfold gInput at he
  obtain ⟨d, rfl⟩ : ∃ e, d = e + 2 := ⟨d - 2, by omega⟩
  refine zW_tst (d := d + 1) (z_begDec Z) (fun w => zW_f (by decide) ?_) (fun w => zW_t rfl ?_)
  · rw [if_pos w, h40, gIn_dec] at he
    obtain ⟨u, hu, h1, h2⟩ := pB_e he
    refine zW_I (P := fun v S2 => ∃ τ σ2 W2 y, u = .inr (τ, σ2) ∧ ZZ t (S, W) S2 σ2 W2 ([(gs τ, v, y)], ([], []), []) (-8 - 2) ∧ (gs τ ≠ [] ∧ τ = gl (gs τ))) (T := fun S' => Q none S') (zW_c (hD (S, W) S8 σ W8 ([], ([], []), []) (-8) (d + 1) _ u Z w (by omega) (by omega) hu (fun e p S' w T => her e p S' (h1 _ w) T) (fun τ σ2 S2 W2 a y w Z2 o2 q2 => ⟨τ, σ2, W2, y, w, Z2, o2⟩))) (fun v S2 ⟨τ, σ2, W2, y, w, Z2, o2⟩ => zW_let ?_) (fun _ q => q)
    exact fin τ σ2 S2 W2 v y (ZZ_mono Z2 (by omega)) o2 (h2 _ _ w)
  · rw [if_neg w] at he
    simp only [pB_ass, pB_pR, pB_ite, pB_pT] at he
    rw [pB_if (P := fun τ => gbg τ = ((pc σ).2.1 : Int)) (hb0 σ)] at he
    refine zW_subZ h0 (by omega) Z (by omega) rfl he her (fun τ σ3 S3 W3 a Z3 ok q3 he => zW_let ?_)
    have he := he
    by_cases hp : gbg τ = ((pc σ).2.1 : Int)
    · rw [if_pos hp] at he
      have okz : okZ τ := List.mem_append_left _ ok
      have n56 := Z3.1.2.2.2.2.2.2.2.2.2.1.2
      refine zW_whZ 0 Z3 (by omega) rfl okz (zW_whZ 0 Z3 (by omega) rfl okz ?_)
      rw [hp]
      have ha : S.1 40 ≤ a ∧ a < S3.1 40 := by
        obtain ⟨m, m1, m2, m3⟩ := Z3.2.2.2.2.2.1
        have := (zit_1 m2)
        have h3 : S.1 40 ≤ m := zits_lo _ m3
        omega
      refine zW_nodeX (M0 := ([τ], a, a) :: []) [] 31 [[((pc σ).2.1 : Int), ((pc σ).2.1 : Int), 0], gIt] [] (by omega) Z3 (by omega) (by decide) rfl (zqc rfl (zqc n56 (zqc rfl (zqc rfl (zqc rfl zqn))))) rfl (fun b S4 f4 Z4 => zW_let ?_)
      have f4 := f4.2.2.1
      refine zW_whZ 1 Z4 (by omega) rfl okz ?_
      rw [hp]
      refine zW_node78X (M0 := []) (by omega) Z4 (by omega) (fun c S5 f5 Z5 => zW_let (zW_whB Z5 (by omega) ⟨ha.1, by omega⟩ (fun v => ?_)))
      refine zW_nodeZ (M0 := []) [([gn 78 [] [gn 31 [[((pc σ).2.1 : Int), ((pc σ).2.1 : Int), 0], gIt] [], τ]], c, c)] 70 [] [gn 78 [] [gn 31 [[((pc σ).2.1 : Int), ((pc σ).2.1 : Int), 0], gIt] [], τ]] (by omega) Z5 (by omega) (by decide) rfl zqn ⟨rfl, rfl, rfl⟩ (fun f S6 Z6 => zW_let ?_)
      have tl : ∀ x : Gt, gs (gl [x]) ≠ [] ∧ gl [x] = gl (gs (gl [x])) := fun x => by rw [gs_gl]; exact ⟨List.cons_ne_nil _ _, rfl⟩
      refine zW_hasZ 35 (by decide) (by omega) Z6 (by omega) he her (fun _ he => zW_let ?_) (fun _ σ7 S7 W7 Z7 p7 he => zW_let ?_)
      · exact fin _ σ3 S6 W3 f f (by rw [gs_gl]; exact ZZ_mono Z6 (by omega)) (tl _) he
      · exact fin _ σ7 S7 W7 f f (by rw [gs_gl]; exact ZZ_mono Z7 (by omega)) (tl _) he
    · rw [if_neg hp] at he
      cases he
end ZInp
