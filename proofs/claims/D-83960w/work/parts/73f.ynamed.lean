set_option maxRecDepth 100000
/-! THE HOUSE'S LEXER: named tokens; faults -/
section YNamed
variable {B P : Nat → Prop} {C : YC} {X : Nat → Nat} {H H' H1 H3 : YS} {a a' e' s d f g i j x cap cap' r c0 s0 : Nat} {v e : Int} {t b b' : List Int} {KW KW' : List (List Int)} {Q : Option (Option ZV) → YS → Prop}
theorem PL_ex (hF : Lf C B X H) (hx : yEx P c0 s0 H H') (h5 : ¬ P (X 5)) : ∀ x, x < ynx H → PL X H' x → PL X H x := by
  have s5 := hx.1 (X 5) (hF.1.1 5 (by decide)) h5
  rintro x hx2 (q | q | q | q | q | ⟨q1, q2⟩)
  · exact Or.inl q
  · exact Or.inr (Or.inl q)
  · exact Or.inr (Or.inr (Or.inl q))
  · exact Or.inr (Or.inr (Or.inr (Or.inl q)))
  · exact Or.inr (Or.inr (Or.inr (Or.inr (Or.inl q))))
  · exact Or.inr (Or.inr (Or.inr (Or.inr (Or.inr ⟨by rw [← s5.2.1]; exact q1, by rw [← (hx.2.1 x hx2).1]; exact q2⟩))))
theorem LnY_put {a f : Nat} (h : LnY B X H KW cap) (hf : f ≠ 1502 ∧ f ≠ 6301) : LnY B X (yput H f a v) KW cap := by
  obtain ⟨g0, e, KA, ⟨h1, h2, h3, h4, h5, h6, h7, h8, h9, h10, h11⟩, g2, g3, g4, g5⟩ := h
  exact ⟨g0, e, KA, ⟨h1, h2, h3, (yput_f (fun q => hf.1 q.symm)).trans h4, h5, h6, h7, h8, h9, h10, h11⟩, g2, fun k hk => ⟨StrY_put hf.2 (g3 k hk).1, (g3 k hk).2⟩, g4, g5⟩
/-- a fault is thrown -/
theorem ThOk_thr {p : Nat} (hF : Lf C B X H1) (hT : Lt X H1 t j) (hN : LnY B X H1 KW' cap') (h1 : KW'.length ≤ KW.length + 1) (h2 : cap ≤ cap') (ex : yEx (PL X H) c0 s0 H H1) (hc : c0 ≤ 50 + t.length) (hs : s0 ≤ 300 + 8 * t.length + 4 * (cap' - cap)) (hm : ∀ x, x < ynx H → PL X H1 x → PL X H x) : ThOk C B X t KW cap H e p (yThr X H1 e p) := by
  refine ⟨KW', cap', j, Lf_put (by decide) (Lf_put (by decide) hF), Lt_put (by decide) (Lt_put (by decide) hT), LnY_put (LnY_put hN (by decide)) (by decide), h1, h2, ?_, yput_at, ?_, hm⟩
  · exact (yput_f (H := yput H1 301 (X 3) e) (f := 302) (g := 301) (by decide)).trans yput_at
  · exact yEx_put (yEx_put (yEx_mono ex (fun _ _ z => z) hc hs) (fun _ => Or.inr (Or.inl rfl))) (fun _ => Or.inr (Or.inl rfl))
/-- the end of each token -/
theorem zW_tok {k : Tok} {kd : Option Nat} (hF0 : ∀ k, k < 8 → X k < ynx H) (hr : ynx H ≤ r) (hr2 : r < ynx H3) (hk : yK H3 r = 22) (hkd : kd = tkK C k.1) (hs : StrY B H3 s k.2.2.1) (F3 : Lf C B X H3) (T3 : Lt X H3 t j) (N3 : LnY B X H3 KW' cap') (h1 : KW'.length ≤ KW.length + 1) (h2 : cap ≤ cap') (h5 : yI H3 2405 (X 0) = yI H 2405 (X 0)) (ex : yEx (PL X H) c0 s0 H H3) (hc : c0 ≤ 50 + (j - k.2.1)) (hs0 : s0 ≤ 300 + 8 * (j - k.2.1) + 4 * (cap' - cap)) (hm : ∀ x, x < ynx H → PL X H3 x → PL X H x)
    (hq : ∀ H', TkOk C B X t KW cap H k j (some r) H' → Q (some (some (.inr (.inr (some r))))) H') : zW (zV (ycs (YL C) (d + 1) 315 (some r) [.inr (.inr kd), .inl (k.2.1 : Int), .inr (.inr (some s)), .inl k.2.2.2] H3) fun h10 => zrQ (some r) h10) Q := by
  rw [ycs_s]
  have hX : ∀ k, k < 8 → X k ≠ r := fun k hk q => by have := hF0 k hk; omega
  have ex4 : yEx (fun x => x = r) 0 0 H3 (yput (yputR (yput (yputR H3 6600 r kd) 6601 r k.2.1) 6602 r (some s)) 6603 r k.2.2.2) := yEx_put (yEx_putR (yEx_put (yEx_putR yEx_refl (fun _ => rfl)) (fun _ => rfl)) (fun _ => rfl)) (fun _ => rfl)
  have PN4 : PN B (fun x => x = r) H3 := by
    rintro x rfl _
    omega
  refine zW_Ve (y_tokInit hr2 hk) (zW_rQ (hq _ ⟨r, KW', cap', rfl, TokY_new hr2 hk hkd hs hs.2.1, Lf_ex F3 ex4 PN4 (hX 0 (by decide)) (hX 1 (by decide)) (hX 3 (by decide)), Lt_ex F3 T3 ex4 (hX 0 (by decide)) (hX 2 (by decide)), LnY_ex F3 N3 ex4 PN4 (hX 5 (by decide)) (hX 6 (by decide)) (hX 7 (by decide)) (fun e _ q z => by rw [z] at q; omega), h1, h2, ?_, ?_, ?_⟩))
  · rw [(ex4.1 (X 0) (F3.1.1 0 (by decide)) (hX 0 (by decide))).1]
    exact h5
  · exact yEx_mono (yEx_trans ex ex4 (fun x hx q => by omega)) (fun _ _ z => z) (by omega) (by omega)
  · intro x hx q
    exact hm x hx (PL_ex F3 ex4 (hX 5 (by decide)) x (by have := ex.2.2.1; omega) q)
/-- what lies here is a name, or a word kept back -/
theorem y_named (hC : CW C) (hE : CE C H) (hB : ∀ x, B x → x < ynx H) (hF : Lf C B X H) (hT : Lt X H t i) (hN : LnY B X H KW cap) (hKW : KW.length ≤ 1000) (ha : a < i) (hsm : ∀ k, a ≤ k → k < i → tch t k < 128) (hdot : sl t a (i - a) ≠ [46, 46, 46])
    (hok : ∀ k j r H', sNamed t a i = .inr (k, j) → TkOk C B X t KW cap H k j r H' → Q (some (some (.inr (.inr r)))) H') (her : ∀ (e : Int) p H', sNamed t a i = .inl (e, p) → ThOk C B X t KW cap H e p H' → Q none H') :
    zW (YL C (d + 8) 178 [zr (X 0), .inl (a : Int)] H) Q := by
  obtain ⟨k0, k1, k2, k3, k4, k5, k6, k7⟩ := hF.1.2.1
  have hi := hT.2.2.2.1
  have hl := hT.2.2.1.1
  have lt := hF.1.1
  unfold sNamed at hok her
  refine yl_Lexer_named ?_
  unfold yb_Lexer_named
  refine zW_gI k0 rfl ?_
  rw [hT.2.1]
  refine zW_G (by omega) (zW_if (fun y => ?_) (fun y => ?_))
  · rw [if_neg (by omega)] at hok
    have exS : yEx (fun _ => False) 1 4 H (ymk H 22 0 4) := yEx_mono (yEx_mk (c := 0) (s := 0) yEx_refl) (fun _ _ z => z) (by omega) (by omega)
    have kS : yK (ymk H 22 0 4) (ynx H) = 22 := by rw [ymk_K, if_pos rfl]
    have xS : ynx (ymk H 22 0 4) = ynx H + 1 := rfl
    have FS := Lf_ex hF exS PN_F (fun z => z) (fun z => z) (fun z => z)
    have TS := Lt_ex hF hT exS (fun z => z) (fun z => z)
    have NS := LnY_ex hF hN exS PN_F (fun z => z) (fun z => z) (fun z => z) (fun _ _ _ z => z)
    have ES := CE_ex hE exS
    have MS := PL_ex hF exS (fun z => z)
    have I5 : yI (ymk H 22 0 4) 2405 (X 0) = yI H 2405 (X 0) := (exS.1 (X 0) (lt 0 (by decide)) (fun z => z)).1 2405
    have mem : ∀ kd : Nat, (kd = if sl t a (i - a) ∈ sKeptH then 0 else 1) → (if sl t a (i - a) ∈ sKept then 0 else 1) = kd := by
      intro kd hkd
      rw [hkd]
      by_cases q : sl t a (i - a) ∈ sKeptH
      · rw [if_pos q, if_pos (sKept_iff.mpr (Or.inl q))]
      · rw [if_neg q, if_neg (fun z => (sKept_iff.mp z).elim q hdot)]
    rw [ycv_lex' hF]
    refine zW_I (P := fun v H1 => H1 = H ∧ ((v = -1 ∧ sl t a (i - a) ∉ sKeptH) ∨ ∃ k : Nat, k < 43 ∧ v = (k : Int) ∧ sKeptH.getD k [] = sl t a (i - a))) (T := fun _ => False) (zW_c (zW_mono (y_kept (d := d + 2) hC hF hT (Nat.le_of_lt ha)) ?_)) ?_ (fun _ q => q.elim)
    · rintro o H1 ⟨q1, ⟨rfl, q2⟩ | ⟨k, q2, rfl, q3⟩⟩
      · exact ⟨q1, Or.inl ⟨rfl, q2⟩⟩
      · exact ⟨q1, Or.inr ⟨k, q2, rfl, q3⟩⟩
    · rintro v H1 ⟨rfl, ⟨rfl, hnk⟩ | ⟨k, hk, rfl, hkk⟩⟩
      · refine zW_let (zW_t rfl (zW_new ?_))
        rw [if_neg (by decide)]
        refine zW_svR ?_
        rw [ycv_lex' FS]
        refine zW_Q (P := fun r H2 => PcOk C B X t a i KW cap (ymk H1 22 0 4) r H2) (T := fun _ => False) (zW_c (y_piece (d := d) hC ES (fun x hx => by have := hB x hx; omega) FS TS NS hKW ha (by omega) hsm)) ?_ (fun _ q => q.elim)
        rintro r H2 ⟨s, KW', cap', rfl, p1, p2, p3, p4, p5, p6, p7, p8⟩
        have h0 : ¬ PL0 X (ymk H1 22 0 4) (X 0) := by
          obtain ⟨f0, f1, f2, f3, f4, f5, f6, f7⟩ := FS.1.2.1
          rintro (q | q | q | ⟨_, q⟩)
          · have := congrArg (yK (ymk H1 22 0 4)) q; omega
          · have := congrArg (yK (ymk H1 22 0 4)) q; omega
          · have := congrArg (yK (ymk H1 22 0 4)) q; omega
          · omega
        have exA : yEx (PL X H1) 41 (204 + 4 * (cap' - cap)) H1 H2 := yEx_mono (yEx_trans (P := PL X H1) (yEx_mono exS (fun _ _ z => z.elim) (Nat.le_refl _) (Nat.le_refl _)) p7 (fun x hx q => MS x hx (Or.inr (Or.inr q)))) (fun _ _ z => z) (by omega) (by omega)
        refine zW_tok (k := (1, a, sl t a (i - a), 0)) (H := H1) (KW' := KW') (cap' := cap') lt (Nat.le_refl _) (by have := p7.2.2.1; omega) (by rw [(p7.2.1 _ (by omega)).1]; exact kS) rfl p1 p2 p3 p4 p5 p6 (by rw [(p7.1 (X 0) (FS.1.1 0 (by decide)) h0).1]; exact I5) exA (by show 41 ≤ 50 + (i - a); omega) (by show _ ≤ 300 + 8 * (i - a) + 4 * (cap' - cap); omega) (fun x hx q => ?_) (fun H' q => hok _ i _ H' (by rw [mem 1 (by rw [if_neg hnk])]) q)
        rcases q with q | q | q
        · exact Or.inl q
        · exact Or.inr (Or.inl q)
        · exact MS x hx (Or.inr (Or.inr (p8 x (by omega) q)))
      · refine zW_let (zW_f (by omega) (zW_new ?_))
        rw [if_neg (by decide)]
        refine zW_svR (zW_gR FS.1.2.1.1 rfl ?_)
        rw [FS.1.2.2.1.1]
        have n1 := FS.1.2.2.2.1.1
        have kk := FS.1.2.1.2.1
        refine zW_aR (by omega) (by omega) ?_
        rw [FS.1.2.2.2.2.2 k hk]
        have hw := cstr_w hk
        have hS := FS.2 (2 + k) hw.1
        rw [hw.2, hkk] at hS
        have hmem : sl t a (i - a) ∈ sKeptH := by
          have h43 : sKeptH.length = 43 := by decide
          rw [← hkk, List.getD_eq_getElem?_getD, List.getElem?_eq_getElem (by omega)]
          exact List.getElem_mem _
        exact zW_tok (k := (0, a, sl t a (i - a), 0)) (H := H1) (KW' := KW) (cap' := cap) lt (Nat.le_refl _) (by omega) kS rfl hS FS TS NS (Nat.le_succ _) (Nat.le_refl _) I5 (yEx_mono exS (fun _ _ z => z.elim) (Nat.le_refl _) (Nat.le_refl _)) (by omega) (by omega) MS (fun H' q => hok _ i _ H' (by rw [mem 0 (by rw [if_pos hmem])]) q)
  · rw [if_pos (by omega)] at her
    exact zW_at hF (her 1 a _ rfl (ThOk_thr hF hT hN (Nat.le_succ _) (Nat.le_refl _) (yEx_refl (c := 0) (s := 0)) (by omega) (by omega) (fun _ _ q => q)))
end YNamed
