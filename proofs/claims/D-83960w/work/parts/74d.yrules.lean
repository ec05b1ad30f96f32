set_option maxRecDepth 100000
/-! THE HOUSE'S PARSER: rules -/
section YRul
variable {C : YC} {B P O : Nat → Prop} {X : Nat → Nat} {t : List Int} {Γ : Gm} {H H' : YS} {σ σ1 : Ps} {η η1 : Et} {M : List (Gt × Option Nat)} {g h g' h' : Int} {a e c s d dp m n : Nat} {F : List (List Int × Int × Int)} {Q : Option (Option ZV) → YS → Prop} {r : (Int × Nat) ⊕ (Gt × Ps)}
theorem KI_ex (h : KI C H) (hx : yEx P c s H H') (hi : Im B P H) : KI C H' := by
  obtain ⟨h0, e, h1, h2, h3, h4, h5⟩ := h
  have hn := hx.2.2.1
  have ne : ¬ P e := fun q => by have := hi.2 e q h2; omega
  refine ⟨h0, e, h1, by omega, (hx.2.1 e h2).1.trans h3, (hx.2.1 e h2).2.trans h4, fun j hj => ?_⟩
  obtain ⟨s, q1, q2, q3, q4⟩ := h5 j hj
  have ns : ¬ P s := fun q => by have := hi.2 s q q2; omega
  exact ⟨s, by rw [(hx.1 e h2 ne).2.2.2]; exact q1, by omega, (hx.2.1 s q2).1.trans q3, by rw [(hx.1 s q2 ns).1]; exact q4⟩
theorem PB0_ex (h : PB0 C B X H dp F η) (hx : yEx P c s H H') (hi : Im B P H) (hP : ∀ x, x < ynx H → P x → ¬ eO η x) : PB0 C B X H' dp F η := by
  obtain ⟨⟨a1, a2, a3, a4, a5, a6⟩, ⟨b1, b2, b3, b4, b5, ea, b6, b7⟩, ⟨c1, c2, c3, c4, c5, c6, c7, c8⟩, ⟨d1, d2, d3⟩, e1, ⟨f1, f2, f3, f4, f5⟩, g1, O2, o1, o2⟩ := h
  have hn := hx.2.2.1
  have lt := a6.1.1
  have nO : ∀ x, x < ynx H → eO η x → ¬ P x := fun x hx hO q => hP x hx q hO
  have n0 := nO (X 0) (lt 0 (by decide)) (b1 _ (Or.inl rfl))
  have n1 := nO (X 1) (lt 1 (by decide)) b4
  have n3 := nO (X 3) (lt 3 (by decide)) (b1 _ (Or.inr (Or.inl rfl)))
  have n5 := nO (X 5) (lt 5 (by decide)) (b1 _ (Or.inr (Or.inr (Or.inl rfl))))
  have s5 := hx.1 (X 5) (lt 5 (by decide)) n5
  have s8 := hx.1 (X 8) c1 (nO _ c1 b2)
  have s11 := hx.1 (X 11) f1 (nO _ f1 b3)
  have pl : ∀ x, PL X H' x → PL X H x := by
    rintro x (q | q | q | q | q | ⟨q1, q2⟩)
    · exact Or.inl q
    · exact Or.inr (Or.inl q)
    · exact Or.inr (Or.inr (Or.inl q))
    · exact Or.inr (Or.inr (Or.inr (Or.inl q)))
    · exact Or.inr (Or.inr (Or.inr (Or.inr (Or.inl q))))
    · rw [s5.2.1] at q1
      rw [b6] at q1
      have := Option.some.inj q1
      subst this
      exact Or.inr (Or.inr (Or.inr (Or.inr (Or.inr ⟨b6, by rw [← (hx.2.1 ea b7).1]; exact q2⟩))))
  refine ⟨⟨fun x q => by have := a1 x q; omega, fun x q => by have := a2 x q; omega, a3, a4, ⟨CE_ex a5.1 hx, KI_ex a5.2 hx hi⟩, Lf_ex a6 hx hi.1 n0 n1 n3⟩, ⟨fun x q => b1 x (pl x q), b2, b3, b4, b5, ea, (s5.2.1 _).trans b6, by omega⟩, ⟨by omega, (hx.2.1 _ c1).1.trans c2, (s8.2.1 _).trans c3, (s8.2.1 _).trans c4, (s8.2.1 _).trans c5, (s8.2.1 _).trans c6, (s8.2.1 _).trans c7, (s8.2.1 _).trans c8⟩, ⟨(s8.1 _).trans d1, d2, (s8.1 _).trans d3⟩, ImY_ex e1 hx hi, ⟨by omega, (hx.2.1 _ f1).1.trans f2, (hx.2.1 _ f1).2.trans f3, f4, fun j hj => ?_⟩, g1, O2, fun x q => ⟨(o1 x q).1, fun w => (o1 x q).2.1 (pl x w), (o1 x q).2.2⟩, sep_ex hx hi _ O2 (fun x q => nO x (a1 x (o1 x q).1) (o1 x q).1) o2⟩
  rw [s11.2.2.2]
  exact (f5 j hj).imp id (fun ⟨s, q1, q2⟩ => ⟨s, q1, StrY_ex q2 hx hi.1⟩)
theorem tkO_ex (hb : PB0 C B X H dp F η) (h : tkO C B X H σ) (hx : yEx P c s H H') (hi : Im B P H) (h8 : ¬ P (X 8)) : tkO C B X H' σ := by
  obtain ⟨⟨x, h1, h2⟩, ⟨y, h3, h4⟩, h5⟩ := h
  have s8 := hx.1 (X 8) hb.2.2.1.1 h8
  have nk : ∀ z k, TokY C B H z k → ¬ P z := fun z k q w => (hi.2 z w q.1).1 q.2.1
  exact ⟨⟨x, (s8.2.1 _).trans h1, TokY_ex h2 hx hi.1 (nk _ _ h2)⟩, ⟨y, (s8.2.1 _).trans h3, TokY_ex h4 hx hi.1 (nk _ _ h4)⟩, h5⟩
theorem PsB_ex (h : PsB C B X t H σ η) (hx : yEx P c s H H') (hi : Im B P H) (hP : ∀ x, x < ynx H → P x → ¬ eO η x) : PsB C B X t H' σ η := by
  obtain ⟨h0, h1, h2, ⟨KW, h3, h4⟩, h5, h6, h7⟩ := h
  have hF := h0.1.2.2.2.2.2
  have lt := hF.1.1
  have b1 := h0.2.1.1
  have nP : ∀ x, x < ynx H → eO η x → ¬ P x := fun x q w z => hP x q z w
  have nL : ∀ x, x < ynx H → PL X H x → ¬ P x := fun x q w => nP x q (b1 x w)
  have n0 := nL (X 0) (lt 0 (by decide)) (Or.inl rfl)
  have n2 := nP (X 2) (lt 2 (by decide)) h0.2.1.2.2.2.2.1
  refine ⟨PB0_ex h0 hx hi hP, tkO_ex h0 h1 hx hi (nP _ h0.2.2.1.1 h0.2.1.2.1), Lt_ex hF h2 hx n0 n2, ⟨KW, LnY_ex hF h3 hx hi.1 (nL _ (lt 5 (by decide)) (Or.inr (Or.inr (Or.inl rfl)))) (nL _ (lt 6 (by decide)) (Or.inr (Or.inr (Or.inr (Or.inl rfl))))) (nL _ (lt 7 (by decide)) (Or.inr (Or.inr (Or.inr (Or.inr (Or.inl rfl)))))) (fun e q1 q2 => ?_), h4⟩, ?_, h6, h7⟩
  · obtain ⟨ea, q3, q4⟩ := h0.2.1.2.2.2.2.2
    rw [q3] at q1
    have := Option.some.inj q1
    subst this
    exact nL _ q4 (Or.inr (Or.inr (Or.inr (Or.inr (Or.inr ⟨q3, q2⟩)))))
  · rw [(hx.1 (X 0) (lt 0 (by decide)) n0).1]; exact h5
theorem yEx_all (h : yEx P c s H H') : yEx P (ynx H' - ynx H) (ysl H' - ysl H) H H' := ⟨h.1, h.2.1, h.2.2.1, by have := h.2.2.1; omega, by omega⟩
theorem Gm_ex (h : yEx Γ.2.1 (ynx H - ynx Γ.1) (ysl H - ysl Γ.1) Γ.1 H) (hx : yEx P c s H H') (hP : ∀ x, x < ynx Γ.1 → P x → Γ.2.1 x) : yEx Γ.2.1 (ynx H' - ynx Γ.1) (ysl H' - ysl Γ.1) Γ.1 H' := yEx_all (yEx_trans h hx hP)
/-- something was done to live things -/
theorem SS_loc (S : SS C B X t Γ H σ η M g h) (hx : yEx P c s H H') (hi : Im B P H) (hP : ∀ x, x < ynx H → P x → ynx Γ.1 ≤ x ∧ ¬ eO η x) {M' : List (Gt × Option Nat)} (hL : Lv C B (ynx Γ.1) (eO η) H' M') : SS C B X t Γ H' σ η M' (g + c) (h + s) := by
  obtain ⟨h1, h2, h3, h4, h5, h6, h7⟩ := S
  have hn := hx.2.2
  have hn0 := h3.2.2.1
  exact ⟨PsB_ex h1 hx hi (fun x q w => (hP x q w).2), hL, Gm_ex h3 hx (fun x q w => by have := (hP x (by omega) w).1; omega), h4, by omega, by omega, h7⟩
theorem SS_mono (S : SS C B X t Γ H σ η M g h) (hg : g ≤ g') (hh : h ≤ h') : SS C B X t Γ H σ η M g' h' := ⟨S.1, S.2.1, S.2.2.1, S.2.2.2.1, by have := S.2.2.2.2.1; omega, by have := S.2.2.2.2.2.1; omega, S.2.2.2.2.2.2⟩
theorem SS_up (i : Nat) {q : Gt × Option Nat} (S : SS C B X t Γ H σ η M g h) (hq : M[i]? = some q) : SS C B X t Γ H σ η (q :: M.eraseIdx i) g h := ⟨S.1, Lv_up i hq S.2.1, S.2.2⟩
theorem SS_drop {q : Gt × Option Nat} (S : SS C B X t Γ H σ η (q :: M) g h) : SS C B X t Γ H σ η M g h := ⟨S.1, Lv_drop S.2.1, S.2.2⟩
theorem SS_im {k : Nat} {p : List (List Int)} {x : Nat} (hk : k = 101 ∨ k = 102 ∨ k = 103 ∨ k = 105 ∨ k = 106) (hi : ImY C B H k p x) (S : SS C B X t Γ H σ η M g h) : SS C B X t Γ H σ η ((gn k p [], some x) :: M) g h := ⟨S.1, Lv_im hk hi S.2.1, S.2.2⟩
theorem SS_no (S : SS C B X t Γ H σ η M g h) : SS C B X t Γ H σ η ((oN, none) :: M) g h := ⟨S.1, Lv_no S.2.1, S.2.2⟩
theorem SS_new {kd n : Nat} {p : List Int} (S : SS C B X t Γ H σ η M g h) (hkd : kd < 100) (hp : allI (ymk H kd 0 n) (ynx H) p) : SS C B X t Γ (ymk H kd 0 n) σ η ((gn kd [p] [], some (ynx H)) :: M) (g + 1) (h + n) := by
  have hn0 := S.2.2.1.2.2.1
  have ex : yEx (fun _ => False) 1 n H (ymk H kd 0 n) := yEx_mono (yEx_mk (c := 0) (s := 0) yEx_refl) (fun _ _ z => z) (by omega) (by omega)
  exact SS_loc S ex ⟨PN_F, fun _ q => q.elim⟩ (fun x _ q => q.elim) (Lv_new hkd hp hn0 S.1.1.1.1 S.2.1)
/-- an object at the front -/
theorem Lv_at {kd N : Nat} {p : List (List Int)} {s : List Gt} {q : Option Nat} (hkd : kd < 100) (L : Lv C B N O H ((gn kd p s, q) :: M)) : ∃ a, q = some a ∧ a < ynx H ∧ yK H a = kd ∧ N ≤ a ∧ ¬ O a ∧ allI H a (p.getD 0 []) := by
  obtain ⟨F, h1, G, F1, g1, g2, g3, g4, g5⟩ := L
  have g4 : YO C B H (gn kd p s) G q := g4
  rw [YO_gn] at g4
  unfold hoA at g4
  rw [if_pos hkd] at g4
  obtain ⟨a, ha, q1, q2, q3, q4, -⟩ := g4
  have := h1 a (g1 a q1)
  exact ⟨a, ha, q2, q3, this.1, this.2.2, q4⟩
theorem Im_1 {kd : Nat} (hk : yK H a = kd) (hkd : kd < 100 ∧ kd ≠ 21 ∧ kd ≠ 22 ∧ kd ≠ 26 ∧ kd ≠ 27 ∧ kd ≠ 7) : Im B (fun x => x = a) H := by
  refine ⟨fun x q _ => ?_, fun x q _ => ?_⟩ <;> rw [q, hk]
  · omega
  · omega
theorem SS_obj {kd : Nat} {p0 p : List Int} {K : List (Gt × Option Nat)} (fs : List Nat) (hkd : kd < 100 ∧ kd ≠ 21 ∧ kd ≠ 22 ∧ kd ≠ 26 ∧ kd ≠ 27 ∧ kd ≠ 7) (S : SS C B X t Γ H σ η ((gn kd [p0] [], some a) :: (K ++ M)) g h) (hx : yEx (fun x => x = a) 0 0 H H') (hl : K.length = fs.length) (hp : allI H' a p) (hf : ∀ i, i < fs.length → yR H' (fs.getD i 0) a = (K.getD i (oN, none)).2) : SS C B X t Γ H' σ η ((gn kd [p] (List.zipWith (fun f q => oF f q.1) fs K), some a) :: M) g h := by
  obtain ⟨a', e, h1, h2, h3, h4, -⟩ := Lv_at hkd.1 S.2.1
  cases e
  have im := Im_1 (B := B) h2 hkd
  have := SS_loc S hx im (fun x _ q => by rw [q]; exact ⟨h3, h4⟩) (Lv_obj fs hkd.1 S.2.1 hx im hl hp hf)
  exact SS_mono this (by omega) (by omega)
/-! the token at hand, the next one -/
theorem SS_c (S : SS C B X t Γ H σ η M g h) : ∃ a, yR H 1804 (X 8) = some a ∧ TokY C B H a (pc σ) := S.1.2.1.1
theorem SS_n (S : SS C B X t Γ H σ η M g h) : ∃ a, yR H 1805 (X 8) = some a ∧ TokY C B H a (pk σ) := S.1.2.1.2.1
theorem SS_8 (S : SS C B X t Γ H σ η M g h) : yK H (X 8) = 6 := S.1.1.2.2.1.2.1
theorem SS_F (S : SS C B X t Γ H σ η M g h) : Lf C B X H := S.1.1.1.2.2.2.2.2
theorem SS_P (S : SS C B X t Γ H σ η M g h) : PsY C B X H (pc σ) (pk σ) := ⟨S.1.1.2.2.1.1, S.1.1.2.2.1.2.1, S.1.1.2.2.1.2.2.1, S.1.1.2.2.1.2.2.2.1, S.1.2.1.1, S.1.2.1.2.1⟩
theorem SS_W (S : SS C B X t Γ H σ η M g h) : CW C := S.1.1.1.2.2.2.1
theorem SS_D (S : SS C B X t Γ H σ η M g h) : KD C := S.1.1.1.2.2.1
theorem SS_E (S : SS C B X t Γ H σ η M g h) : CE C H := S.1.1.1.2.2.2.2.1.1
theorem SS_tk (S : SS C B X t Γ H σ η M g h) : (pc σ).1 ≤ 6 ∧ (pk σ).1 ≤ 6 ∧ (pc σ).2.2.1.length ≤ 200 ∧ (pk σ).2.2.1.length ≤ 200 := S.1.2.1.2.2
theorem sNote_in (hT : tOK t) {b j : Nat} : ∀ n dp i, t.length < n + i → i ≤ t.length → sNote t b dp i = .inr j → i ≤ j ∧ j ≤ t.length := by
  intro n
  induction n with
  | zero => intro dp i h1 h2 h; omega
  | succ n ih =>
    intro dp i h1 h2 h
    have l1 := tch_lt hT (i + 1)
    rw [sNote] at h
    split at h
    · cases h; omega
    · split at h
      · split at h
        · have := ih (dp + 1) (i + 2) (by omega) (by omega) h
          omega
        · split at h
          · have := ih (dp - 1) (i + 2) (by omega) (by omega) h
            omega
          · split at h
            · have := ih dp (i + 1) (by omega) (by omega) h
              omega
            · cases h
      · cases h
theorem sGaps_in (hT : tOK t) {j : Nat} : ∀ n i, t.length < n + i → i ≤ t.length → sGaps t i = .inr j → i ≤ j ∧ j ≤ t.length := by
  intro n
  induction n with
  | zero => intro i h1 h2 h; omega
  | succ n ih =>
    intro i h1 h2 h
    rw [sGaps] at h
    split at h
    · split at h
      · have := ih (i + 1) (by omega) (by omega) h
        omega
      · split at h
        · next q =>
          have l1 := tch_lt hT (i + 1)
          split at h
          · cases h
          · next j0 e =>
            have := sNote_in hT (t.length + 1) 1 (i + 2) (by omega) (by omega) e
            split at h
            · have := ih j0 (by omega) (by omega) h
              omega
            · omega
        · cases h; omega
    · cases h; omega
theorem sRead_in (hT : tOK t) {k : Tok} {i j : Nat} (hi : i ≤ t.length) (h : sRead t n i = .inr (k, j)) : i ≤ j ∧ j ≤ t.length ∧ i ≤ k.2.1 ∧ k.2.1 ≤ j ∧ (k.1 ≠ 6 → i < j ∧ n < 1000 ∧ k.2.1 < j) := by
  unfold sRead at h
  split at h
  · cases h
  · next j0 e =>
    have := sGaps_in hT (t.length + 1) i (by omega) hi e
    split at h
    · cases h
      exact ⟨this.1, this.2, this.1, Nat.le_refl _, fun q => absurd rfl q⟩
    · split at h
      · cases h
      · have := sTok_in hT (by omega) h
        unfold TkIn at this
        exact ⟨by omega, by omega, by omega, by omega, fun _ => by omega⟩
theorem sRead_var (hT : tOK t) {k : Tok} {i j : Nat} (hi : i ≤ t.length) (h : sRead t n i = .inr (k, j)) (hk : k.1 = 2) : k.2.1 + 2 ≤ j := by
  have named : ∀ {a e : Nat}, sNamed t a e = .inr (k, j) → False := by
    intro a e q
    unfold sNamed at q
    split at q
    · cases q
    · cases q
      revert hk
      show (if _ then 0 else 1) = 2 → False
      split <;> omega
  unfold sRead at h
  split at h
  · cases h
  · next j0 e =>
    split at h
    · cases h; cases hk
    · split at h
      · cases h
      · have hin := sTok_in hT (by have := sGaps_in hT (t.length + 1) i (by omega) hi e; omega) h
        unfold sTok at h
        split at h
        · exact (named h).elim
        split at h
        · unfold sVar at h
          have hl : j0 + 1 ≤ (if tch t (j0 + 1) = 39 then j0 + 2 else j0 + 1) := by split <;> omega
          generalize (if tch t (j0 + 1) = 39 then j0 + 2 else j0 + 1) = e0 at h hl
          split at h
          · next w =>
            split at h
            · cases h
            · cases h
              have hlt : e0 < t.length := (tch_lt hT e0).mpr (by have := of_decide_eq_true w; omega)
              have : e0 + 1 ≤ sSkip sGoes t e0 := by
                rw [sSkip, if_pos ⟨hlt, by unfold sGoes; rw [w]; rfl⟩]
                exact (sSkip_ge (t.length + 1) (e0 + 1) (by omega)).1
              show j0 + 2 ≤ sSkip sGoes t e0
              omega
          · cases h
        split at h
        · unfold sInt at h
          split at h <;> split at h
          · cases h
          · cases h; cases hk
          · cases h
          · cases h; cases hk
        split at h
        · unfold sString at h
          split at h
          · cases h
          · split at h
            · cases h
            · cases h; cases hk
        split at h
        · unfold sChar at h
          split at h
          · cases h
          · split at h
            · cases h
            · cases h; cases hk
        split at h
        · exact (named h).elim
        · unfold sOther at h
          split at h
          · split at h
            · cases h
            · split at h
              · cases h
              · exact (named h).elim
          · split at h
            · exact (named h).elim
            · cases h
/-! what the owner does within its own cells -/
theorem Im_pl (hF : Lf C B X H) (h8 : yK H (X 8) = 6) : Im B (fun x => PL X H x ∨ x = X 8) H := by
  have pn := PN_PL (B := B) hF
  obtain ⟨k0, k1, k2, k3, k4, k5, k6, k7⟩ := hF.1.2.1
  refine ⟨fun x q w => ?_, fun x q w => ?_⟩
  · rcases q with q | rfl
    · exact pn x q w
    · omega
  · rcases q with (rfl | rfl | rfl | rfl | rfl | ⟨q1, q2⟩) | rfl <;> omega
theorem PB0_pl {dp' cp : Nat} {tl : Bool} (h : PB0 C B X H dp F η) (hx : yEx (fun x => PL X H x ∨ x = X 8) c s H H') (hF : Lf C B X H') (hm : ∀ x, x < ynx H → PL X H' x → PL X H x) (hL : ∃ e, yR H' 1501 (X 5) = some e ∧ e < ynx H') (hr : ∀ f, f ≠ 1804 → f ≠ 1805 → yR H' f (X 8) = yR H f (X 8)) (hd : yI H' 1806 (X 8) = (dp' : Int)) (hd2 : dp' ≤ 40 ∧ (eV η).length ≤ dp' + 1) (ht : yI H' 1807 (X 8) = bI tl) : PB0 C B X H' dp' F ((fun x => eO η x ∨ (ynx H ≤ x ∧ PL X H' x)), (cp, es η, ev η), tl, eV η) := by
  obtain ⟨⟨a1, a2, a3, a4, a5, a6⟩, ⟨b1, b2, b3, b4, b5, b6⟩, ⟨c1, c2, c3, c4, c5, c6, c7, c8⟩, -, e1, ⟨f1, f2, f3, f4, f5⟩, g1, O2, o1, o2⟩ := h
  have hn := hx.2.2.1
  have im := Im_pl a6 c2
  have n11 : ¬ (PL X H (X 11) ∨ X 11 = X 8) := by
    obtain ⟨k0, k1, k2, k3, k4, k5, k6, k7⟩ := a6.1.2.1
    rintro (q | q)
    · rcases q with q | q | q | q | q | ⟨q1, q2⟩
      · rw [q] at f2; omega
      · rw [q] at f2; omega
      · rw [q] at f2; omega
      · rw [q] at f2; omega
      · rw [q] at f2; omega
      · omega
    · rw [q] at f2; omega
  have s11 := hx.1 (X 11) f1 n11
  have plt : ∀ x, PL X H' x → x < ynx H' := by
    have lt := hF.1.1
    rintro x (q | q | q | q | q | ⟨q1, q2⟩)
    · rw [q]; exact lt 0 (by decide)
    · rw [q]; exact lt 3 (by decide)
    · rw [q]; exact lt 5 (by decide)
    · rw [q]; exact lt 6 (by decide)
    · rw [q]; exact lt 7 (by decide)
    · obtain ⟨e, w1, w2⟩ := hL
      rw [w1] at q1
      have := Option.some.inj q1
      omega
  refine ⟨⟨fun x q => ?_, fun x q => by have := a2 x q; omega, a3, a4, ⟨CE_ex a5.1 hx, KI_ex a5.2 hx im⟩, hF⟩, ⟨fun x q => ?_, Or.inl b2, Or.inl b3, Or.inl b4, Or.inl b5, hL⟩, ⟨by omega, (hx.2.1 _ c1).1.trans c2, (hr _ (by decide) (by decide)).trans c3, (hr _ (by decide) (by decide)).trans c4, (hr _ (by decide) (by decide)).trans c5, (hr _ (by decide) (by decide)).trans c6, (hr _ (by decide) (by decide)).trans c7, (hr _ (by decide) (by decide)).trans c8⟩, ⟨hd, hd2, ht⟩, ImY_ex e1 hx im, ⟨by omega, (hx.2.1 _ f1).1.trans f2, (hx.2.1 _ f1).2.trans f3, f4, fun j hj => ?_⟩, g1, O2, fun x q => ⟨Or.inl (o1 x q).1, fun w => (o1 x q).2.1 (hm x (a1 x (o1 x q).1) w), (o1 x q).2.2⟩, sep_ex hx im _ O2 (fun x q w => w.elim (o1 x q).2.1 (o1 x q).2.2.1) o2⟩
  · rcases q with q | q
    · have := a1 x q; omega
    · exact plt x q.2
  · by_cases w : x < ynx H
    · exact Or.inl (b1 x (hm x w q))
    · exact Or.inr ⟨by omega, q⟩
  · rw [s11.2.2.2]
    exact (f5 j hj).imp id (fun ⟨s, q1, q2⟩ => ⟨s, q1, StrY_ex q2 hx im.1⟩)
theorem SS_pl {dp' cp m : Nat} {tl : Bool} (S : SS C B X t Γ H σ η M g h) (hx : yEx (fun x => PL X H x ∨ x = X 8) c s H H') (hF : Lf C B X H') (hm : ∀ x, x < ynx H → PL X H' x → PL X H x) (hL : ∃ e, yR H' 1501 (X 5) = some e ∧ e < ynx H') (hr : ∀ f, f ≠ 1804 → f ≠ 1805 → yR H' f (X 8) = yR H f (X 8)) (hd : yI H' 1806 (X 8) = (dp' : Int)) (hd2 : dp' ≤ 40 ∧ (eV η).length ≤ dp' + 1) (ht : yI H' 1807 (X 8) = bI tl)
    (hs : pd σ1 = dp' ∧ pF σ1 = pF σ) (hk : tkO C B X H' σ1) (hT : Lt X H' t (pi' σ1)) (hN : ∃ KW, LnY B X H' KW cp ∧ KW.length ≤ pn σ1 + (if (pk σ1).1 = 6 then 1 else 0)) (hn : yI H' 2405 (X 0) = (pn σ1 : Int)) (hn2 : pn σ1 ≤ 1000) (hq : 2 * pq σ1 ≤ 3 * (pc σ1).2.1 ∧ (pc σ1).2.1 + tlen (pc σ1) ≤ (pk σ1).2.1 ∧ (pk σ1).2.1 + tlen (pk σ1) ≤ pi' σ1) (hv : pq σ ≤ pq σ1)
    (hg : (c : Int) + 80 * pq σ + pi' σ + g ≤ 80 * pq σ1 + pi' σ1 + g') (hh : (s : Int) + 500 * pq σ + 8 * pi' σ + 4 * ec η + h ≤ 500 * pq σ1 + 8 * pi' σ1 + 4 * cp + h')  (hu5 : veN (eV η) ≤ pq σ1 + m ∧ m ≤ 10 ∧ (tl = true ↔ 5 ≤ m)) :
    SS C B X t (Gu Γ m) H' σ1 ((fun x => eO η x ∨ (ynx H ≤ x ∧ PL X H' x)), (cp, es η, ev η), tl, eV η) M g' h' := by
  obtain ⟨⟨h0, h1, h2, h3, h5, h6, h7⟩, L, E, hO, hg1, hh1, h8⟩ := S
  have hn0 := E.2.2.1
  have ho : ∀ x, x < ynx H → (eO η x ∨ (ynx H ≤ x ∧ PL X H' x)) → eO η x := fun x q w => w.elim id (fun w => by omega)
  have hp : ∀ x, x < ynx H → (PL X H x ∨ x = X 8) → eO η x := fun x _ w => w.elim (h0.2.1.1 x) (fun w => by rw [w]; exact h0.2.1.2.1)
  have hcs := hx.2.2.2
  refine ⟨⟨?_, hk, hT, hN, hn, hn2, hq, by rw [hs.2]; have := h7.2; omega⟩, Lv_ex L hx (Im_pl h0.1.2.2.2.2.2 h0.2.2.1.2.1) hp ho, Gm_ex E hx (fun x (q : x < ynx Γ.1) w => hO x q (hp x (by omega) w)), fun x (q : x < ynx Γ.1) w => hO x q (ho x (by omega) w), ?_, ?_, hu5⟩
  · rw [hs.1, hs.2]
    exact PB0_pl h0 hx hF hm hL hr hd hd2 ht
  · show (ynx H' : Int) + Γ.2.2.1 + ccV (eV η) ≤ 80 * pq σ1 + pi' σ1 + g'
    omega
  · show (ysl H' : Int) + Γ.2.2.2.1 + crV (eV η) ≤ 500 * pq σ1 + 8 * pi' σ1 + 4 * ((cp : Nat) + es η + ev η) + h'
    omega
theorem SS_hm (S : SS C B X t Γ H σ η M g h) (hv : pq σ ≤ pq σ1) : veN (eV η) ≤ pq σ1 + Γ.2.2.2.2 ∧ Γ.2.2.2.2 ≤ 10 ∧ (et η = true ↔ 5 ≤ Γ.2.2.2.2) := ⟨Nat.le_trans S.2.2.2.2.2.2.1 (Nat.add_le_add_right hv _), S.2.2.2.2.2.2.2⟩
theorem crV_0 : ∀ V : List Ve, (∀ v ∈ V, v.2.2.2.1.1 ≤ 10 + 2 * v.2.2.1.1.length ∧ v.2.2.2.1.2 ≤ 10 + 2 * v.2.2.1.2.length) → 0 ≤ crV V
  | [], _ => Int.le_refl _
  | v :: V, h => by
    have h1 := crV_0 V (fun w q => h w (List.mem_cons_of_mem _ q))
    have h2 := h v List.mem_cons_self
    unfold crV
    omega
theorem Th_of (S : SS C B X t Γ H σ η M g h) (hg : g ≤ 5000) (hh : h ≤ 5000) {x : Int} {p : Nat} : Th C B X t Γ (yThr X H x p) x p := by
  obtain ⟨⟨h0, h1, h2, ⟨KW, h3, h4⟩, h5, h6, h7⟩, L, E, hO, hg1, hh1, h8⟩ := S
  have a6 := h0.1.2.2.2.2.2
  have n8 : X 8 ≠ X 3 := fun q => by
    have := h0.2.2.1.2.1
    rw [q] at this
    have := a6.1.2.1.2.2.2.1
    omega
  have ex : yEx (fun x => PL X H x ∨ x = X 8) 0 0 H (yThr X H x p) := yEx_put (yEx_put yEx_refl (fun _ => Or.inl (Or.inr (Or.inl rfl)))) (fun _ => Or.inl (Or.inr (Or.inl rfl)))
  have hF := Lf_put (f := 302) (x := X 3) (v := (p : Int)) (by decide) (Lf_put (f := 301) (x := X 3) (v := x) (by decide) a6)
  have hT := Lt_put (f := 302) (x := X 3) (v := (p : Int)) (by decide) (Lt_put (f := 301) (x := X 3) (v := x) (by decide) h2)
  have hN := LnY_put (a := X 3) (f := 302) (v := (p : Int)) (LnY_put (a := X 3) (f := 301) (v := x) h3 (by decide)) (by decide)
  have p0 := PB0_pl (dp' := pd σ) (cp := ec η) (tl := et η) h0 ex hF (fun _ _ q => q) h0.2.1.2.2.2.2.2 (fun _ _ _ => rfl) ((yput_f (by decide)).trans ((yput_f (by decide)).trans h0.2.2.2.1.1)) h0.2.2.2.1.2.1 ((yput_f (by decide)).trans ((yput_f (by decide)).trans h0.2.2.2.1.2.2))
  have cr := crV_0 (eV η) (fun v q => by have := h0.2.2.2.2.2.2.1.2.2 v q; exact ⟨this.2.1, this.2.2⟩)
  have hi := h2.2.2.2.1
  have hi1 : (if (pk σ).1 = 6 then 1 else 0) ≤ 1 := by split <;> omega
  refine ⟨pd σ, pF σ, _, pi' σ, KW, p0, hT, hN, by omega, (yput_f (by decide)).trans yput_at, yput_at, Gm_ex E ex (fun x q w => hO x q ?_), fun x q w => ?_, ?_, ?_⟩
  · rcases w with w | w
    · exact h0.2.1.1 x w
    · rw [w]; exact h0.2.1.2.1
  · rcases w with w | w
    · exact hO x q w
    · have := E.2.2.1
      omega
  · show (ynx H : Int) + _ ≤ _
    omega
  · show (ysl H : Int) + _ ≤ _ + 4 * ((ec η : Int) + es η + ev η) + _
    omega
/-! the step to the next token -/
abbrev Pn (t : List Int) (σ σ1 : Ps) : Prop := pc σ1 = pk σ ∧ pd σ1 = pd σ ∧ pF σ1 = pF σ ∧ pmu t σ1 < pmu t σ ∧ pq σ ≤ pq σ1
def pw (σ : Ps) : Nat := if (pc σ).1 = 2 then 3 else 1
theorem y_pass' (hd : 11 ≤ d) (S : SS C B X t Γ H σ η M g h) (h6 : (pc σ).1 ≠ 6) (hg : g ≤ 4000) (hh : h ≤ 4000) : zW (YL C d 106 [zr (X 8)] H) (oV (fun H1 => ∃ σ1 η1, pPass t σ = .inr σ1 ∧ SS C B X t Γ H1 σ1 η1 M (g + 50 - 80 * pw σ) (h + 300 - 500 * pw σ) ∧ Pn t σ σ1 ∧ et η1 = et η ∧ eV η1 = eV η) fun H1 => ∃ e p, pPass t σ = .inl (e, p) ∧ Th C B X t Γ H1 e p) := by
  obtain ⟨d, rfl⟩ : ∃ e, d = e + 11 := ⟨d - 11, by omega⟩
  have S0 := S
  obtain ⟨⟨h0, h1, h2, ⟨KW, h3, h4⟩, h5, h7, h8⟩, L, E, hO, hg1, hh1, h9⟩ := S
  have hP := SS_P S0
  have hF := SS_F S0
  have lt := hF.1.1
  have tk := SS_tk S0
  have n8 : ∀ k, k < 8 → X k ≠ X 8 := by
    intro k hk q
    have k8 := hP.2.1
    obtain ⟨k0, k1, k2, k3, k4, k5, k6, k7⟩ := hF.1.2.1
    have hk : k = 0 ∨ k = 1 ∨ k = 2 ∨ k = 3 ∨ k = 4 ∨ k = 5 ∨ k = 6 ∨ k = 7 := by omega
    have := congrArg (yK H) q
    rcases hk with rfl | rfl | rfl | rfl | rfl | rfl | rfl | rfl <;> omega
  have hw : pw σ ≤ 3 ∧ 2 * pw σ ≤ 3 * tlen (pc σ) := by
    unfold pw tlen
    rw [if_neg h6]
    split <;> omega
  by_cases k6 : (pk σ).1 = 6
  · obtain ⟨p1, p2, p3, p4, p5, ak, p7, p8⟩ := hP
    have ep : pPass t σ = .inr (pk σ, pk σ, pn σ, pi' σ, pd σ, pF σ, pq σ + pw σ) := by
      unfold pPass
      rw [if_pos k6]; rfl
    have ex : yEx (fun x => PL X H x ∨ x = X 8) 0 0 H (yputR H 1804 (X 8) (some ak)) := yEx_putR yEx_refl (fun _ => Or.inr rfl)
    have exl : yEx (fun x => x = X 8) 0 0 H (yputR H 1804 (X 8) (some ak)) := yEx_putR yEx_refl (fun _ => rfl)
    have PN1 : PN B (fun x => x = X 8) H := by
      rintro x rfl _
      omega
    have F1 := Lf_ex hF exl PN1 (n8 0 (by decide)) (n8 1 (by decide)) (n8 3 (by decide))
    have N1 := LnY_ex hF h3 exl PN1 (n8 5 (by decide)) (n8 6 (by decide)) (n8 7 (by decide)) (fun e _ q z => by rw [z] at q; omega)
    have hpm : pmu t (pk σ, pk σ, pn σ, pi' σ, pd σ, pF σ, pq σ + pw σ) = 0 := if_pos k6
    have hpm1 : pmu t σ = 1 := by unfold pmu; rw [if_neg h6, if_pos k6]
    have t1 : TokY C B (yputR H 1804 (X 8) (some ak)) ak (pk σ) := TokY_putR p8 (Or.inl rfl)
    have tk6 : tlen (pk σ) = 0 := by unfold tlen; rw [k6]; rfl
    rw [if_pos k6] at h4
    refine yl_Parser_pass ?_
    unfold yb_Parser_pass
    refine zW_gR p2 rfl ?_
    rw [p7]
    refine zW_pR p2 (by decide) (zW_gR (by exact p2) rfl ?_)
    rw [yputR_at]
    refine zW_gR t1.2.1 rfl (zW_svR ?_)
    rw [t1.2.2.1]
    refine zW_t (by rw [k6]; rfl) (zW_rV ?_)
    refine ⟨_, _, ep, SS_pl (dp' := pd σ) (cp := ec η) (tl := et η) S0 ex F1 (PL_ex hF exl (n8 5 (by decide))) ?_ (fun f w1 w2 => yputR_f w1) h0.2.2.2.1.1 h0.2.2.2.1.2.1 h0.2.2.2.1.2.2 ⟨rfl, rfl⟩ ⟨⟨ak, yputR_at, t1⟩, ⟨ak, (yputR_f (by decide)).trans p7, t1⟩, tk.2.1, tk.2.1, tk.2.2.2, tk.2.2.2⟩ (Lt_ex hF h2 exl (n8 0 (by decide)) (n8 2 (by decide))) ⟨KW, N1, by show _ ≤ _ + (if (pk σ).1 = 6 then 1 else 0); rw [if_pos k6]; exact h4⟩ h5 h7 ⟨?_, ?_, ?_⟩ (Nat.le_add_right _ _) ?_ ?_ (SS_hm S0 (Nat.le_add_right _ _)), ⟨rfl, rfl, rfl, by rw [hpm, hpm1]; omega, Nat.le_add_right _ _⟩, rfl, rfl⟩
    · obtain ⟨e, w1, w2⟩ := h0.2.1.2.2.2.2.2
      exact ⟨e, (yputR_f (by decide)).trans w1, w2⟩
    · show 2 * (pq σ + pw σ) ≤ 3 * (pk σ).2.1; omega
    · show (pk σ).2.1 + tlen (pk σ) ≤ (pk σ).2.1; omega
    · exact h8.1.2.2
    · show (0 : Int) + _ + _ + _ ≤ 80 * ((pq σ + pw σ : Nat) : Int) + (pi' σ : Int) + _; omega
    · show (0 : Int) + _ + _ + _ + _ ≤ 500 * ((pq σ + pw σ : Nat) : Int) + 8 * (pi' σ : Int) + _ + _; omega
  rw [if_neg k6] at h4
  refine y_pass (i := pi' σ) (KW := KW) (cap := ec η) (n := pn σ) (SS_D S0) (SS_W S0) (SS_E S0) h0.1.2.1 hP tk.2.1 hF h2 h3 h4 h5 h7 (fun q => absurd q k6) (fun k6 k' j H' q1 q2 => ?_) (fun k6 e p H' q1 q2 => ?_)
  · have ep : pPass t σ = .inr (pk σ, k', pn σ + (if k'.1 = 6 then 0 else 1), j, pd σ, pF σ, pq σ + pw σ) := by
      unfold pPass
      rw [if_neg k6, q1]; rfl
    obtain ⟨p1, p2, p3, KW', cap', p4, p5, p6, p7, p8, p9, p10, p11⟩ := q2
    have hin := sRead_in h2.2.2.1 h2.2.2.2.1 q1
    have hsh := sRead_short h2.2.2.1 q1
    have hvr := sRead_var h2.2.2.1 h2.2.2.2.1 q1
    have hpm : pmu t (pk σ, k', pn σ + (if k'.1 = 6 then 0 else 1), j, pd σ, pF σ, pq σ + pw σ) < pmu t σ := by
      unfold pmu
      rw [if_neg h6, if_neg k6, if_neg k6]
      show (if k'.1 = 6 then 1 else 2 + (t.length - j)) < _
      split
      · omega
      · next w => have := hin.2.2.2.2 w; omega
    have hcap := p4.2
    obtain ⟨e, KA, al, -⟩ := hcap
    refine ⟨_, _, ep, SS_pl (dp' := pd σ) (cp := cap') (tl := et η) S0 p8 p2 p9 ⟨e, al.2.2.1, al.2.2.2.2.2.1⟩ p10 ((p11 _).trans h0.2.2.2.1.1) h0.2.2.2.1.2.1 ((p11 _).trans h0.2.2.2.1.2.2) ⟨rfl, rfl⟩ ⟨p1.2.2.2.2.1, p1.2.2.2.2.2, tk.2.1, hsh.1, tk.2.2.2, hsh.2⟩ p3 ⟨KW', p4, ?_⟩ p7 ?_ ⟨?_, ?_, ?_⟩ (Nat.le_add_right _ _) ?_ ?_ (SS_hm S0 (Nat.le_add_right _ _)), ⟨rfl, rfl, rfl, hpm, Nat.le_add_right _ _⟩, rfl, rfl⟩
    · show _ ≤ pn σ + (if k'.1 = 6 then 0 else 1) + (if k'.1 = 6 then 1 else 0)
      by_cases w : k'.1 = 6
      · rw [if_pos w, if_pos w]; omega
      · rw [if_neg w, if_neg w]; omega
    · show pn σ + (if k'.1 = 6 then 0 else 1) ≤ 1000
      split
      · omega
      · next w => have := hin.2.2.2.2 w; omega
    · show 2 * (pq σ + pw σ) ≤ 3 * (pk σ).2.1; omega
    · show (pk σ).2.1 + tlen (pk σ) ≤ k'.2.1; omega
    · show k'.2.1 + tlen k' ≤ j
      unfold tlen
      split
      · next w => exact hvr w
      · split
        · omega
        · next w => have := hin.2.2.2.2 w; omega
    · show (((50 + (j - k'.2.1) : Nat)) : Int) + _ + _ + _ ≤ 80 * ((pq σ + pw σ : Nat) : Int) + (j : Int) + _; omega
    · show (((300 + 8 * (j - k'.2.1) + 4 * (cap' - ec η) : Nat)) : Int) + _ + _ + _ + _ ≤ 500 * ((pq σ + pw σ : Nat) : Int) + 8 * (j : Int) + _ + _; omega
  · refine ⟨e, p, by unfold pPass; rw [if_neg k6, q1], ?_⟩
    obtain ⟨KW', cap', j, p1, p2, p3, p4, p5, p6, p7, p8, p9⟩ := q2
    obtain ⟨ak, q5, q6⟩ := hP.2.2.2.2.2
    rw [q5] at p8 p9
    have exl : yEx (fun x => x = X 8) 0 0 H (yputR H 1804 (X 8) (some ak)) := yEx_putR yEx_refl (fun _ => rfl)
    have M1 := PL_ex hF exl (n8 5 (by decide))
    have P8 : ¬ PL X (yputR H 1804 (X 8) (some ak)) (X 8) := fun q => PL_22 hF (Or.inr hP.2.1) (M1 _ hP.1 q)
    have s8 := p8.1 (X 8) hP.1 P8
    have ex : yEx (fun x => PL X H x ∨ x = X 8) (0 + (50 + t.length)) (0 + (300 + 8 * t.length + 4 * (cap' - ec η))) H H' := yEx_trans (yEx_mono exl (fun _ _ z => Or.inr z) (Nat.le_refl _) (Nat.le_refl _)) p8 (fun x hx q => Or.inl (M1 x hx q))
    have hcap := p3.2
    obtain ⟨e1, KA, al, -⟩ := hcap
    have cr := crV_0 (eV η) (fun v q => by have := h0.2.2.2.2.2.2.1.2.2 v q; exact ⟨this.2.1, this.2.2⟩)
    have hi := h2.2.2.2.1
    have hn0 := E.2.2.1
    have hcs := ex.2.2.2
    refine ⟨pd σ, pF σ, _, j, KW', PB0_pl (dp' := pd σ) (cp := cap') (tl := et η) h0 ex p1 (fun x hx q => M1 x hx (p9 x hx q)) ⟨e1, al.2.2.1, al.2.2.2.2.2.1⟩ (fun f w1 w2 => (s8.2.1 f).trans (yputR_f w1)) ((s8.1 _).trans h0.2.2.2.1.1) h0.2.2.2.1.2.1 ((s8.1 _).trans h0.2.2.2.1.2.2), p2, p3, by omega, p6, p7, Gm_ex E ex (fun x q w => hO x q ?_), fun x q w => ?_, ?_, ?_⟩
    · rcases w with w | w
      · exact h0.2.1.1 x w
      · rw [w]; exact h0.2.1.2.1
    · rcases w with w | w
      · exact hO x q w
      · omega
    · omega
    · show (ysl H' : Int) + _ ≤ _ + 4 * ((cap' : Nat) + es η + ev η : Int) + _
      omega
end YRul
