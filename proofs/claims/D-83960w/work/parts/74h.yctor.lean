set_option maxRecDepth 100000
/-! CONSTRUCTORS of the House's trees: a rule each (printed by ctor.py) -/
section YCtor
variable {C : YC} {B P O : Nat → Prop} {X : Nat → Nat} {t : List Int} {Γ : Gm} {H H' : YS} {σ : Ps} {η : Et} {M : List (Gt × Option Nat)} {g h : Int} {a d : Nat} {p0 : List Int} {Q : Option (Option ZV) → YS → Prop} {k : YS → ZR YS}
theorem yputR_I {f g b : Nat} {w : Option Nat} : yI (yputR H f a w) g b = yI H g b := rfl
theorem yput_R {f g b : Nat} {v : Int} : yR (yput H f a v) g b = yR H g b := rfl
theorem c_Pat {v : Int} (hk : yK H a < 72 ∧ yokF 7500 (yK H a) = true) : YL C d 332 [zr a, .inl v] H = some (some none, yput H 7500 a v) := by
  refine zW_get (yl_Pat_init ?_)
  unfold yb_Pat_init
  refine zW_nn ?_
  exact zW_t ⟨hk.1, hk.2, rfl⟩ (zW_rV ⟨rfl, rfl⟩)
theorem c_Exp {v : Int} (hk : yK H a < 72 ∧ yokF 11700 (yK H a) = true) : YL C d 383 [zr a, .inl v] H = some (some none, yput H 11700 a v) := by
  refine zW_get (yl_Exp_init ?_)
  unfold yb_Exp_init
  refine zW_nn ?_
  exact zW_t ⟨hk.1, hk.2, rfl⟩ (zW_rV ⟨rfl, rfl⟩)
theorem c_Ty {v : Int} (hk : yK H a < 72 ∧ yokF 8400 (yK H a) = true) : YL C d 339 [zr a, .inl v] H = some (some none, yput H 8400 a v) := by
  refine zW_get (yl_Ty_init ?_)
  unfold yb_Ty_init
  refine zW_nn ?_
  exact zW_t ⟨hk.1, hk.2, rfl⟩ (zW_rV ⟨rfl, rfl⟩)
theorem c_Dec : YL C d 319 [zr a] H = some (some none, H) := by
  refine zW_get (yl_Dec_init ?_)
  unfold yb_Dec_init
  exact zW_nn (zW_rV ⟨rfl, rfl⟩)
theorem m_RowPat {x1 x5 : Int} {x2 x3 x4 : Option Nat} {θ2 θ3 θ4 : Gt} (hx5 : x5 = 0 ∨ x5 = 1) (hd : 3 ≤ d) (S : SS C B X t Γ H σ η ((gn 25 [p0] [], some a) :: (θ2, x2) :: (θ3, x3) :: (θ4, x4) :: M) g h) (hk : ∀ H1, SS C B X t Γ H1 σ η ((oO 25 [7500, x1, 7505, x1, 7504, x5] [oF 7501 θ2, oF 7502 θ3, oF 7503 θ4], some a) :: M) g h → zW (k H1) Q) : zW (zV (ycs (YL C) d 333 (some a) [.inl x1, .inr (.inr x2), .inr (.inr x3), .inr (.inr x4), .inl x5] H) k) Q := by
  obtain ⟨d, rfl⟩ : ∃ e, d = e + 3 := ⟨d - 3, by omega⟩
  obtain ⟨a', e, q1, q2, q3, q4, -⟩ := Lv_at (by decide) S.2.1
  cases e
  rw [ycs_s]
  refine zW_V (P := fun H1 => SS C B X t Γ H1 σ η ((oO 25 [7500, x1, 7505, x1, 7504, x5] [oF 7501 θ2, oF 7502 θ3, oF 7503 θ4], some a) :: M) g h) (T := fun _ => False) (zW_c (yl_RowPat_init ?_)) (fun H1 q => hk H1 q) (fun _ q => q.elim)
  unfold yb_RowPat_init
  rw [ycs_s]
  refine zW_Ve (c_Pat ⟨by rw [q2]; decide, by rw [q2]; rfl⟩) ?_
  refine zW_pI (by exact q2) (by decide) rfl ?_
  refine zW_pR (by exact q2) (by decide) ?_
  refine zW_pR (by exact q2) (by decide) ?_
  refine zW_pR (by exact q2) (by decide) ?_
  refine zW_pI (by exact q2) (by decide) (by rcases hx5 with w | w <;> rw [w] <;> rfl) ?_
  refine zW_rV (SS_obj (K := [(θ2, x2), (θ3, x3), (θ4, x4)]) [7501, 7502, 7503] (by decide) S (yEx_put (yEx_putR (yEx_putR (yEx_putR (yEx_put (yEx_put yEx_refl (fun _ => rfl)) (fun _ => rfl)) (fun _ => rfl)) (fun _ => rfl)) (fun _ => rfl)) (fun _ => rfl)) rfl (And.intro (by exact (yput_f (by decide)).trans ((yputR_I).trans ((yputR_I).trans ((yputR_I).trans ((yput_f (by decide)).trans (yput_at)))))) (And.intro (by exact (yput_f (by decide)).trans ((yputR_I).trans ((yputR_I).trans ((yputR_I).trans (yput_at))))) (And.intro (by exact yput_at) (trivial)))) (fun i hi => ?_))
  have hi : i = 0 ∨ i = 1 ∨ i = 2 := by
    have : i < 3 := hi
    omega
  rcases hi with rfl | rfl | rfl
  · exact (yput_R).trans ((yputR_f (by decide)).trans ((yputR_f (by decide)).trans (yputR_at)))
  · exact (yput_R).trans ((yputR_f (by decide)).trans (yputR_at))
  · exact (yput_R).trans (yputR_at)
theorem m_NamePat {x2 x3 x4 : Int} {x1 : Option Nat} {θ1 : Gt} (hx4 : x4 = 0 ∨ x4 = 1) (hd : 3 ≤ d) (S : SS C B X t Γ H σ η ((gn 33 [p0] [], some a) :: (θ1, x1) :: M) g h) (hk : ∀ H1, SS C B X t Γ H1 σ η ((oO 33 [7500, x3, 9902, x2, 9903, x4] [oF 9901 θ1], some a) :: M) g h → zW (k H1) Q) : zW (zV (ycs (YL C) d 353 (some a) [.inr (.inr x1), .inl x2, .inl x3, .inl x4] H) k) Q := by
  obtain ⟨d, rfl⟩ : ∃ e, d = e + 3 := ⟨d - 3, by omega⟩
  obtain ⟨a', e, q1, q2, q3, q4, -⟩ := Lv_at (by decide) S.2.1
  cases e
  rw [ycs_s]
  refine zW_V (P := fun H1 => SS C B X t Γ H1 σ η ((oO 33 [7500, x3, 9902, x2, 9903, x4] [oF 9901 θ1], some a) :: M) g h) (T := fun _ => False) (zW_c (yl_NamePat_init ?_)) (fun H1 q => hk H1 q) (fun _ q => q.elim)
  unfold yb_NamePat_init
  rw [ycs_s]
  refine zW_Ve (c_Pat ⟨by rw [q2]; decide, by rw [q2]; rfl⟩) ?_
  refine zW_pR (by exact q2) (by decide) ?_
  refine zW_pI (by exact q2) (by decide) rfl ?_
  refine zW_pI (by exact q2) (by decide) (by rcases hx4 with w | w <;> rw [w] <;> rfl) ?_
  refine zW_rV (SS_obj (K := [(θ1, x1)]) [9901] (by decide) S (yEx_put (yEx_put (yEx_putR (yEx_put yEx_refl (fun _ => rfl)) (fun _ => rfl)) (fun _ => rfl)) (fun _ => rfl)) rfl (And.intro (by exact (yput_f (by decide)).trans ((yput_f (by decide)).trans ((yputR_I).trans (yput_at)))) (And.intro (by exact (yput_f (by decide)).trans (yput_at)) (And.intro (by exact yput_at) (trivial)))) (fun i hi => ?_))
  have hi : i = 0 := by
    have : i < 1 := hi
    omega
  subst hi
  exact (yput_R).trans ((yput_R).trans (yputR_at))
theorem m_AsPat {x2 x3 : Int} {x1 x4 x5 : Option Nat} {θ1 θ4 θ5 : Gt} (hd : 3 ≤ d) (S : SS C B X t Γ H σ η ((gn 32 [p0] [], some a) :: (θ1, x1) :: (θ4, x4) :: (θ5, x5) :: M) g h) (hk : ∀ H1, SS C B X t Γ H1 σ η ((oO 32 [7500, x3, 9602, x2] [oF 9601 θ1, oF 9603 θ4, oF 9604 θ5], some a) :: M) g h → zW (k H1) Q) : zW (zV (ycs (YL C) d 348 (some a) [.inr (.inr x1), .inl x2, .inl x3, .inr (.inr x4), .inr (.inr x5)] H) k) Q := by
  obtain ⟨d, rfl⟩ : ∃ e, d = e + 3 := ⟨d - 3, by omega⟩
  obtain ⟨a', e, q1, q2, q3, q4, -⟩ := Lv_at (by decide) S.2.1
  cases e
  rw [ycs_s]
  refine zW_V (P := fun H1 => SS C B X t Γ H1 σ η ((oO 32 [7500, x3, 9602, x2] [oF 9601 θ1, oF 9603 θ4, oF 9604 θ5], some a) :: M) g h) (T := fun _ => False) (zW_c (yl_AsPat_init ?_)) (fun H1 q => hk H1 q) (fun _ q => q.elim)
  unfold yb_AsPat_init
  rw [ycs_s]
  refine zW_Ve (c_Pat ⟨by rw [q2]; decide, by rw [q2]; rfl⟩) ?_
  refine zW_pR (by exact q2) (by decide) ?_
  refine zW_pI (by exact q2) (by decide) rfl ?_
  refine zW_pR (by exact q2) (by decide) ?_
  refine zW_pR (by exact q2) (by decide) ?_
  refine zW_rV (SS_obj (K := [(θ1, x1), (θ4, x4), (θ5, x5)]) [9601, 9603, 9604] (by decide) S (yEx_putR (yEx_putR (yEx_put (yEx_putR (yEx_put yEx_refl (fun _ => rfl)) (fun _ => rfl)) (fun _ => rfl)) (fun _ => rfl)) (fun _ => rfl)) rfl (And.intro (by exact (yputR_I).trans ((yputR_I).trans ((yput_f (by decide)).trans ((yputR_I).trans (yput_at))))) (And.intro (by exact (yputR_I).trans ((yputR_I).trans (yput_at))) (trivial))) (fun i hi => ?_))
  have hi : i = 0 ∨ i = 1 ∨ i = 2 := by
    have : i < 3 := hi
    omega
  rcases hi with rfl | rfl | rfl
  · exact (yputR_f (by decide)).trans ((yputR_f (by decide)).trans ((yput_R).trans (yputR_at)))
  · exact (yputR_f (by decide)).trans (yputR_at)
  · exact yputR_at
theorem m_TypedPat {v1 : Int} {x2 : Option Nat} {x1 : Nat} {θ1 θ2 : Gt} (hb : yI H 7500 x1 = v1 ∧ yokF 7500 (yK H x1) = true) (hd : 3 ≤ d) (S : SS C B X t Γ H σ η ((gn 34 [p0] [], some a) :: (θ1, (some x1)) :: (θ2, x2) :: M) g h) (hk : ∀ H1, SS C B X t Γ H1 σ η ((oO 34 [7500, v1] [oF 10201 θ1, oF 10202 θ2], some a) :: M) g h → zW (k H1) Q) : zW (zV (ycs (YL C) d 358 (some a) [.inr (.inr (some x1)), .inr (.inr x2)] H) k) Q := by
  obtain ⟨d, rfl⟩ : ∃ e, d = e + 3 := ⟨d - 3, by omega⟩
  obtain ⟨a', e, q1, q2, q3, q4, -⟩ := Lv_at (by decide) S.2.1
  cases e
  rw [ycs_s]
  refine zW_V (P := fun H1 => SS C B X t Γ H1 σ η ((oO 34 [7500, v1] [oF 10201 θ1, oF 10202 θ2], some a) :: M) g h) (T := fun _ => False) (zW_c (yl_TypedPat_init ?_)) (fun H1 q => hk H1 q) (fun _ q => q.elim)
  unfold yb_TypedPat_init
  refine zW_t (by exact hb.2) ?_
  rw [hb.1]
  rw [ycs_s]
  refine zW_Ve (c_Pat ⟨by rw [q2]; decide, by rw [q2]; rfl⟩) ?_
  refine zW_pR (by exact q2) (by decide) ?_
  refine zW_pR (by exact q2) (by decide) ?_
  refine zW_rV (SS_obj (K := [(θ1, (some x1)), (θ2, x2)]) [10201, 10202] (by decide) S (yEx_putR (yEx_putR (yEx_put yEx_refl (fun _ => rfl)) (fun _ => rfl)) (fun _ => rfl)) rfl (And.intro (by exact (yputR_I).trans ((yputR_I).trans (yput_at))) (trivial)) (fun i hi => ?_))
  have hi : i = 0 ∨ i = 1 := by
    have : i < 2 := hi
    omega
  rcases hi with rfl | rfl
  · exact (yputR_f (by decide)).trans (yputR_at)
  · exact yputR_at
theorem m_ListPat {x1 : Int} {x2 : Option Nat} {θ2 : Gt} (hd : 3 ≤ d) (S : SS C B X t Γ H σ η ((gn 35 [p0] [], some a) :: (θ2, x2) :: M) g h) (hk : ∀ H1, SS C B X t Γ H1 σ η ((oO 35 [7500, x1] [oF 10501 θ2], some a) :: M) g h → zW (k H1) Q) : zW (zV (ycs (YL C) d 363 (some a) [.inl x1, .inr (.inr x2)] H) k) Q := by
  obtain ⟨d, rfl⟩ : ∃ e, d = e + 3 := ⟨d - 3, by omega⟩
  obtain ⟨a', e, q1, q2, q3, q4, -⟩ := Lv_at (by decide) S.2.1
  cases e
  rw [ycs_s]
  refine zW_V (P := fun H1 => SS C B X t Γ H1 σ η ((oO 35 [7500, x1] [oF 10501 θ2], some a) :: M) g h) (T := fun _ => False) (zW_c (yl_ListPat_init ?_)) (fun H1 q => hk H1 q) (fun _ q => q.elim)
  unfold yb_ListPat_init
  rw [ycs_s]
  refine zW_Ve (c_Pat ⟨by rw [q2]; decide, by rw [q2]; rfl⟩) ?_
  refine zW_pR (by exact q2) (by decide) ?_
  refine zW_rV (SS_obj (K := [(θ2, x2)]) [10501] (by decide) S (yEx_putR (yEx_put yEx_refl (fun _ => rfl)) (fun _ => rfl)) rfl (And.intro (by exact (yputR_I).trans (yput_at)) (trivial)) (fun i hi => ?_))
  have hi : i = 0 := by
    have : i < 1 := hi
    omega
  subst hi
  exact yputR_at
theorem m_AnyPat {x1 : Int} (hd : 3 ≤ d) (S : SS C B X t Γ H σ η ((gn 36 [p0] [], some a) :: M) g h) (hk : ∀ H1, SS C B X t Γ H1 σ η ((oO 36 [7500, x1] [], some a) :: M) g h → zW (k H1) Q) : zW (zV (ycs (YL C) d 368 (some a) [.inl x1] H) k) Q := by
  obtain ⟨d, rfl⟩ : ∃ e, d = e + 3 := ⟨d - 3, by omega⟩
  obtain ⟨a', e, q1, q2, q3, q4, -⟩ := Lv_at (by decide) S.2.1
  cases e
  rw [ycs_s]
  refine zW_V (P := fun H1 => SS C B X t Γ H1 σ η ((oO 36 [7500, x1] [], some a) :: M) g h) (T := fun _ => False) (zW_c (yl_AnyPat_init ?_)) (fun H1 q => hk H1 q) (fun _ q => q.elim)
  unfold yb_AnyPat_init
  rw [ycs_s]
  refine zW_Ve (c_Pat ⟨by rw [q2]; decide, by rw [q2]; rfl⟩) ?_
  exact zW_rV (SS_obj (K := []) [] (by decide) S (yEx_put yEx_refl (fun _ => rfl)) rfl (And.intro (by exact yput_at) (trivial)) (fun i hi => absurd hi (Nat.not_lt_zero i)))
theorem m_ConstantPat {v1 : Int} {x1 : Nat} {θ1 : Gt} (hb : yI H 6601 x1 = v1 ∧ yK H x1 = 22) (hd : 3 ≤ d) (S : SS C B X t Γ H σ η ((gn 37 [p0] [], some a) :: (θ1, (some x1)) :: M) g h) (hk : ∀ H1, SS C B X t Γ H1 σ η ((oO 37 [7500, v1] [oF 11101 θ1], some a) :: M) g h → zW (k H1) Q) : zW (zV (ycs (YL C) d 373 (some a) [.inr (.inr (some x1))] H) k) Q := by
  obtain ⟨d, rfl⟩ : ∃ e, d = e + 3 := ⟨d - 3, by omega⟩
  obtain ⟨a', e, q1, q2, q3, q4, -⟩ := Lv_at (by decide) S.2.1
  cases e
  rw [ycs_s]
  refine zW_V (P := fun H1 => SS C B X t Γ H1 σ η ((oO 37 [7500, v1] [oF 11101 θ1], some a) :: M) g h) (T := fun _ => False) (zW_c (yl_ConstantPat_init ?_)) (fun H1 q => hk H1 q) (fun _ q => q.elim)
  unfold yb_ConstantPat_init
  refine zW_t (by rw [hb.2]; rfl) ?_
  rw [hb.1]
  rw [ycs_s]
  refine zW_Ve (c_Pat ⟨by rw [q2]; decide, by rw [q2]; rfl⟩) ?_
  refine zW_pR (by exact q2) (by decide) ?_
  refine zW_rV (SS_obj (K := [(θ1, (some x1))]) [11101] (by decide) S (yEx_putR (yEx_put yEx_refl (fun _ => rfl)) (fun _ => rfl)) rfl (And.intro (by exact (yputR_I).trans (yput_at)) (trivial)) (fun i hi => ?_))
  have hi : i = 0 := by
    have : i < 1 := hi
    omega
  subst hi
  exact yputR_at
theorem m_ConPat {x2 x3 x4 : Int} {x1 x5 : Option Nat} {θ1 θ5 : Gt} (hx4 : x4 = 0 ∨ x4 = 1) (hd : 3 ≤ d) (S : SS C B X t Γ H σ η ((gn 38 [p0] [], some a) :: (θ1, x1) :: (θ5, x5) :: M) g h) (hk : ∀ H1, SS C B X t Γ H1 σ η ((oO 38 [7500, x3, 11402, x2, 11403, x4] [oF 11401 θ1, oF 11404 θ5], some a) :: M) g h → zW (k H1) Q) : zW (zV (ycs (YL C) d 378 (some a) [.inr (.inr x1), .inl x2, .inl x3, .inl x4, .inr (.inr x5)] H) k) Q := by
  obtain ⟨d, rfl⟩ : ∃ e, d = e + 3 := ⟨d - 3, by omega⟩
  obtain ⟨a', e, q1, q2, q3, q4, -⟩ := Lv_at (by decide) S.2.1
  cases e
  rw [ycs_s]
  refine zW_V (P := fun H1 => SS C B X t Γ H1 σ η ((oO 38 [7500, x3, 11402, x2, 11403, x4] [oF 11401 θ1, oF 11404 θ5], some a) :: M) g h) (T := fun _ => False) (zW_c (yl_ConPat_init ?_)) (fun H1 q => hk H1 q) (fun _ q => q.elim)
  unfold yb_ConPat_init
  rw [ycs_s]
  refine zW_Ve (c_Pat ⟨by rw [q2]; decide, by rw [q2]; rfl⟩) ?_
  refine zW_pR (by exact q2) (by decide) ?_
  refine zW_pI (by exact q2) (by decide) rfl ?_
  refine zW_pI (by exact q2) (by decide) (by rcases hx4 with w | w <;> rw [w] <;> rfl) ?_
  refine zW_pR (by exact q2) (by decide) ?_
  refine zW_rV (SS_obj (K := [(θ1, x1), (θ5, x5)]) [11401, 11404] (by decide) S (yEx_putR (yEx_put (yEx_put (yEx_putR (yEx_put yEx_refl (fun _ => rfl)) (fun _ => rfl)) (fun _ => rfl)) (fun _ => rfl)) (fun _ => rfl)) rfl (And.intro (by exact (yputR_I).trans ((yput_f (by decide)).trans ((yput_f (by decide)).trans ((yputR_I).trans (yput_at))))) (And.intro (by exact (yputR_I).trans ((yput_f (by decide)).trans (yput_at))) (And.intro (by exact (yputR_I).trans (yput_at)) (trivial)))) (fun i hi => ?_))
  have hi : i = 0 ∨ i = 1 := by
    have : i < 2 := hi
    omega
  rcases hi with rfl | rfl
  · exact (yputR_f (by decide)).trans ((yput_R).trans ((yput_R).trans (yputR_at)))
  · exact yputR_at
theorem m_VariableTy {x2 : Int} {x1 : Option Nat} {θ1 : Gt} (hd : 3 ≤ d) (S : SS C B X t Γ H σ η ((gn 28 [p0] [], some a) :: (θ1, x1) :: M) g h) (hk : ∀ H1, SS C B X t Γ H1 σ η ((oO 28 [8400, x2] [oF 8401 θ1], some a) :: M) g h → zW (k H1) Q) : zW (zV (ycs (YL C) d 340 (some a) [.inr (.inr x1), .inl x2] H) k) Q := by
  obtain ⟨d, rfl⟩ : ∃ e, d = e + 3 := ⟨d - 3, by omega⟩
  obtain ⟨a', e, q1, q2, q3, q4, -⟩ := Lv_at (by decide) S.2.1
  cases e
  rw [ycs_s]
  refine zW_V (P := fun H1 => SS C B X t Γ H1 σ η ((oO 28 [8400, x2] [oF 8401 θ1], some a) :: M) g h) (T := fun _ => False) (zW_c (yl_VariableTy_init ?_)) (fun H1 q => hk H1 q) (fun _ q => q.elim)
  unfold yb_VariableTy_init
  rw [ycs_s]
  refine zW_Ve (c_Ty ⟨by rw [q2]; decide, by rw [q2]; rfl⟩) ?_
  refine zW_pR (by exact q2) (by decide) ?_
  refine zW_rV (SS_obj (K := [(θ1, x1)]) [8401] (by decide) S (yEx_putR (yEx_put yEx_refl (fun _ => rfl)) (fun _ => rfl)) rfl (And.intro (by exact (yputR_I).trans (yput_at)) (trivial)) (fun i hi => ?_))
  have hi : i = 0 := by
    have : i < 1 := hi
    omega
  subst hi
  exact yputR_at
theorem m_RowTy {x1 : Int} {x2 x3 x4 : Option Nat} {θ2 θ3 θ4 : Gt} (hd : 3 ≤ d) (S : SS C B X t Γ H σ η ((gn 29 [p0] [], some a) :: (θ2, x2) :: (θ3, x3) :: (θ4, x4) :: M) g h) (hk : ∀ H1, SS C B X t Γ H1 σ η ((oO 29 [] [oF 8701 θ2, oF 8702 θ3, oF 8703 θ4], some a) :: M) g h → zW (k H1) Q) : zW (zV (ycs (YL C) d 342 (some a) [.inl x1, .inr (.inr x2), .inr (.inr x3), .inr (.inr x4)] H) k) Q := by
  obtain ⟨d, rfl⟩ : ∃ e, d = e + 3 := ⟨d - 3, by omega⟩
  obtain ⟨a', e, q1, q2, q3, q4, -⟩ := Lv_at (by decide) S.2.1
  cases e
  rw [ycs_s]
  refine zW_V (P := fun H1 => SS C B X t Γ H1 σ η ((oO 29 [] [oF 8701 θ2, oF 8702 θ3, oF 8703 θ4], some a) :: M) g h) (T := fun _ => False) (zW_c (yl_RowTy_init ?_)) (fun H1 q => hk H1 q) (fun _ q => q.elim)
  unfold yb_RowTy_init
  rw [ycs_s]
  refine zW_Ve (c_Ty ⟨by rw [q2]; decide, by rw [q2]; rfl⟩) ?_
  refine zW_pR (by exact q2) (by decide) ?_
  refine zW_pR (by exact q2) (by decide) ?_
  refine zW_pR (by exact q2) (by decide) ?_
  refine zW_rV (SS_obj (K := [(θ2, x2), (θ3, x3), (θ4, x4)]) [8701, 8702, 8703] (by decide) S (yEx_putR (yEx_putR (yEx_putR (yEx_put yEx_refl (fun _ => rfl)) (fun _ => rfl)) (fun _ => rfl)) (fun _ => rfl)) rfl (trivial) (fun i hi => ?_))
  have hi : i = 0 ∨ i = 1 ∨ i = 2 := by
    have : i < 3 := hi
    omega
  rcases hi with rfl | rfl | rfl
  · exact (yputR_f (by decide)).trans ((yputR_f (by decide)).trans (yputR_at))
  · exact (yputR_f (by decide)).trans (yputR_at)
  · exact yputR_at
theorem m_NamedTy {x2 : Int} {x1 x3 : Option Nat} {θ1 θ3 : Gt} (hd : 3 ≤ d) (S : SS C B X t Γ H σ η ((gn 30 [p0] [], some a) :: (θ1, x1) :: (θ3, x3) :: M) g h) (hk : ∀ H1, SS C B X t Γ H1 σ η ((oO 30 [8400, x2] [oF 9001 θ1, oF 9002 θ3], some a) :: M) g h → zW (k H1) Q) : zW (zV (ycs (YL C) d 344 (some a) [.inr (.inr x1), .inl x2, .inr (.inr x3)] H) k) Q := by
  obtain ⟨d, rfl⟩ : ∃ e, d = e + 3 := ⟨d - 3, by omega⟩
  obtain ⟨a', e, q1, q2, q3, q4, -⟩ := Lv_at (by decide) S.2.1
  cases e
  rw [ycs_s]
  refine zW_V (P := fun H1 => SS C B X t Γ H1 σ η ((oO 30 [8400, x2] [oF 9001 θ1, oF 9002 θ3], some a) :: M) g h) (T := fun _ => False) (zW_c (yl_NamedTy_init ?_)) (fun H1 q => hk H1 q) (fun _ q => q.elim)
  unfold yb_NamedTy_init
  rw [ycs_s]
  refine zW_Ve (c_Ty ⟨by rw [q2]; decide, by rw [q2]; rfl⟩) ?_
  refine zW_pR (by exact q2) (by decide) ?_
  refine zW_pR (by exact q2) (by decide) ?_
  refine zW_rV (SS_obj (K := [(θ1, x1), (θ3, x3)]) [9001, 9002] (by decide) S (yEx_putR (yEx_putR (yEx_put yEx_refl (fun _ => rfl)) (fun _ => rfl)) (fun _ => rfl)) rfl (And.intro (by exact (yputR_I).trans ((yputR_I).trans (yput_at))) (trivial)) (fun i hi => ?_))
  have hi : i = 0 ∨ i = 1 := by
    have : i < 2 := hi
    omega
  rcases hi with rfl | rfl
  · exact (yputR_f (by decide)).trans (yputR_at)
  · exact yputR_at
theorem m_ArrowTy {x1 : Int} {x2 : Option Nat} {θ2 : Gt} (hd : 3 ≤ d) (S : SS C B X t Γ H σ η ((gn 31 [p0] [], some a) :: (θ2, x2) :: M) g h) (hk : ∀ H1, SS C B X t Γ H1 σ η ((oO 31 [] [oF 9301 θ2], some a) :: M) g h → zW (k H1) Q) : zW (zV (ycs (YL C) d 346 (some a) [.inl x1, .inr (.inr x2)] H) k) Q := by
  obtain ⟨d, rfl⟩ : ∃ e, d = e + 3 := ⟨d - 3, by omega⟩
  obtain ⟨a', e, q1, q2, q3, q4, -⟩ := Lv_at (by decide) S.2.1
  cases e
  rw [ycs_s]
  refine zW_V (P := fun H1 => SS C B X t Γ H1 σ η ((oO 31 [] [oF 9301 θ2], some a) :: M) g h) (T := fun _ => False) (zW_c (yl_ArrowTy_init ?_)) (fun H1 q => hk H1 q) (fun _ q => q.elim)
  unfold yb_ArrowTy_init
  rw [ycs_s]
  refine zW_Ve (c_Ty ⟨by rw [q2]; decide, by rw [q2]; rfl⟩) ?_
  refine zW_pR (by exact q2) (by decide) ?_
  refine zW_rV (SS_obj (K := [(θ2, x2)]) [9301] (by decide) S (yEx_putR (yEx_put yEx_refl (fun _ => rfl)) (fun _ => rfl)) rfl (trivial) (fun i hi => ?_))
  have hi : i = 0 := by
    have : i < 1 := hi
    omega
  subst hi
  exact yputR_at
theorem m_Raise {x1 : Int} {x2 : Option Nat} {θ2 : Gt} (hd : 3 ≤ d) (S : SS C B X t Γ H σ η ((gn 39 [p0] [], some a) :: (θ2, x2) :: M) g h) (hk : ∀ H1, SS C B X t Γ H1 σ η ((oO 39 [11700, x1] [oF 11701 θ2], some a) :: M) g h → zW (k H1) Q) : zW (zV (ycs (YL C) d 385 (some a) [.inl x1, .inr (.inr x2)] H) k) Q := by
  obtain ⟨d, rfl⟩ : ∃ e, d = e + 3 := ⟨d - 3, by omega⟩
  obtain ⟨a', e, q1, q2, q3, q4, -⟩ := Lv_at (by decide) S.2.1
  cases e
  rw [ycs_s]
  refine zW_V (P := fun H1 => SS C B X t Γ H1 σ η ((oO 39 [11700, x1] [oF 11701 θ2], some a) :: M) g h) (T := fun _ => False) (zW_c (yl_Raise_init ?_)) (fun H1 q => hk H1 q) (fun _ q => q.elim)
  unfold yb_Raise_init
  rw [ycs_s]
  refine zW_Ve (c_Exp ⟨by rw [q2]; decide, by rw [q2]; rfl⟩) ?_
  refine zW_pR (by exact q2) (by decide) ?_
  refine zW_rV (SS_obj (K := [(θ2, x2)]) [11701] (by decide) S (yEx_putR (yEx_put yEx_refl (fun _ => rfl)) (fun _ => rfl)) rfl (And.intro (by exact (yputR_I).trans (yput_at)) (trivial)) (fun i hi => ?_))
  have hi : i = 0 := by
    have : i < 1 := hi
    omega
  subst hi
  exact yputR_at
theorem m_If {x1 : Int} {x2 x3 x4 : Option Nat} {θ2 θ3 θ4 : Gt} (hd : 3 ≤ d) (S : SS C B X t Γ H σ η ((gn 40 [p0] [], some a) :: (θ2, x2) :: (θ3, x3) :: (θ4, x4) :: M) g h) (hk : ∀ H1, SS C B X t Γ H1 σ η ((oO 40 [11700, x1] [oF 12001 θ2, oF 12002 θ3, oF 12003 θ4], some a) :: M) g h → zW (k H1) Q) : zW (zV (ycs (YL C) d 388 (some a) [.inl x1, .inr (.inr x2), .inr (.inr x3), .inr (.inr x4)] H) k) Q := by
  obtain ⟨d, rfl⟩ : ∃ e, d = e + 3 := ⟨d - 3, by omega⟩
  obtain ⟨a', e, q1, q2, q3, q4, -⟩ := Lv_at (by decide) S.2.1
  cases e
  rw [ycs_s]
  refine zW_V (P := fun H1 => SS C B X t Γ H1 σ η ((oO 40 [11700, x1] [oF 12001 θ2, oF 12002 θ3, oF 12003 θ4], some a) :: M) g h) (T := fun _ => False) (zW_c (yl_If_init ?_)) (fun H1 q => hk H1 q) (fun _ q => q.elim)
  unfold yb_If_init
  rw [ycs_s]
  refine zW_Ve (c_Exp ⟨by rw [q2]; decide, by rw [q2]; rfl⟩) ?_
  refine zW_pR (by exact q2) (by decide) ?_
  refine zW_pR (by exact q2) (by decide) ?_
  refine zW_pR (by exact q2) (by decide) ?_
  refine zW_rV (SS_obj (K := [(θ2, x2), (θ3, x3), (θ4, x4)]) [12001, 12002, 12003] (by decide) S (yEx_putR (yEx_putR (yEx_putR (yEx_put yEx_refl (fun _ => rfl)) (fun _ => rfl)) (fun _ => rfl)) (fun _ => rfl)) rfl (And.intro (by exact (yputR_I).trans ((yputR_I).trans ((yputR_I).trans (yput_at)))) (trivial)) (fun i hi => ?_))
  have hi : i = 0 ∨ i = 1 ∨ i = 2 := by
    have : i < 3 := hi
    omega
  rcases hi with rfl | rfl | rfl
  · exact (yputR_f (by decide)).trans ((yputR_f (by decide)).trans (yputR_at))
  · exact (yputR_f (by decide)).trans (yputR_at)
  · exact yputR_at
theorem m_While {x1 : Int} {x2 x3 : Option Nat} {θ2 θ3 : Gt} (hd : 3 ≤ d) (S : SS C B X t Γ H σ η ((gn 41 [p0] [], some a) :: (θ2, x2) :: (θ3, x3) :: M) g h) (hk : ∀ H1, SS C B X t Γ H1 σ η ((oO 41 [11700, x1] [oF 12301 θ2, oF 12302 θ3], some a) :: M) g h → zW (k H1) Q) : zW (zV (ycs (YL C) d 392 (some a) [.inl x1, .inr (.inr x2), .inr (.inr x3)] H) k) Q := by
  obtain ⟨d, rfl⟩ : ∃ e, d = e + 3 := ⟨d - 3, by omega⟩
  obtain ⟨a', e, q1, q2, q3, q4, -⟩ := Lv_at (by decide) S.2.1
  cases e
  rw [ycs_s]
  refine zW_V (P := fun H1 => SS C B X t Γ H1 σ η ((oO 41 [11700, x1] [oF 12301 θ2, oF 12302 θ3], some a) :: M) g h) (T := fun _ => False) (zW_c (yl_While_init ?_)) (fun H1 q => hk H1 q) (fun _ q => q.elim)
  unfold yb_While_init
  rw [ycs_s]
  refine zW_Ve (c_Exp ⟨by rw [q2]; decide, by rw [q2]; rfl⟩) ?_
  refine zW_pR (by exact q2) (by decide) ?_
  refine zW_pR (by exact q2) (by decide) ?_
  refine zW_rV (SS_obj (K := [(θ2, x2), (θ3, x3)]) [12301, 12302] (by decide) S (yEx_putR (yEx_putR (yEx_put yEx_refl (fun _ => rfl)) (fun _ => rfl)) (fun _ => rfl)) rfl (And.intro (by exact (yputR_I).trans ((yputR_I).trans (yput_at))) (trivial)) (fun i hi => ?_))
  have hi : i = 0 ∨ i = 1 := by
    have : i < 2 := hi
    omega
  rcases hi with rfl | rfl
  · exact (yputR_f (by decide)).trans (yputR_at)
  · exact yputR_at
theorem m_Case {x1 : Int} {x2 x3 : Option Nat} {θ2 θ3 : Gt} (hd : 3 ≤ d) (S : SS C B X t Γ H σ η ((gn 42 [p0] [], some a) :: (θ2, x2) :: (θ3, x3) :: M) g h) (hk : ∀ H1, SS C B X t Γ H1 σ η ((oO 42 [11700, x1, 12603, x1] [oF 12601 θ2, oF 12602 θ3], some a) :: M) g h → zW (k H1) Q) : zW (zV (ycs (YL C) d 395 (some a) [.inl x1, .inr (.inr x2), .inr (.inr x3)] H) k) Q := by
  obtain ⟨d, rfl⟩ : ∃ e, d = e + 3 := ⟨d - 3, by omega⟩
  obtain ⟨a', e, q1, q2, q3, q4, -⟩ := Lv_at (by decide) S.2.1
  cases e
  rw [ycs_s]
  refine zW_V (P := fun H1 => SS C B X t Γ H1 σ η ((oO 42 [11700, x1, 12603, x1] [oF 12601 θ2, oF 12602 θ3], some a) :: M) g h) (T := fun _ => False) (zW_c (yl_Case_init ?_)) (fun H1 q => hk H1 q) (fun _ q => q.elim)
  unfold yb_Case_init
  rw [ycs_s]
  refine zW_Ve (c_Exp ⟨by rw [q2]; decide, by rw [q2]; rfl⟩) ?_
  refine zW_pR (by exact q2) (by decide) ?_
  refine zW_pR (by exact q2) (by decide) ?_
  refine zW_pI (by exact q2) (by decide) rfl ?_
  refine zW_rV (SS_obj (K := [(θ2, x2), (θ3, x3)]) [12601, 12602] (by decide) S (yEx_put (yEx_putR (yEx_putR (yEx_put yEx_refl (fun _ => rfl)) (fun _ => rfl)) (fun _ => rfl)) (fun _ => rfl)) rfl (And.intro (by exact (yput_f (by decide)).trans ((yputR_I).trans ((yputR_I).trans (yput_at)))) (And.intro (by exact yput_at) (trivial))) (fun i hi => ?_))
  have hi : i = 0 ∨ i = 1 := by
    have : i < 2 := hi
    omega
  rcases hi with rfl | rfl
  · exact (yput_R).trans ((yputR_f (by decide)).trans (yputR_at))
  · exact (yput_R).trans (yputR_at)
theorem m_Rule {x1 x2 : Option Nat} {θ1 θ2 : Gt} (hd : 3 ≤ d) (S : SS C B X t Γ H σ η ((gn 44 [p0] [], some a) :: (θ1, x1) :: (θ2, x2) :: M) g h) (hk : ∀ H1, SS C B X t Γ H1 σ η ((oO 44 [] [oF 13200 θ1, oF 13201 θ2], some a) :: M) g h → zW (k H1) Q) : zW (zV (ycs (YL C) d 401 (some a) [.inr (.inr x1), .inr (.inr x2)] H) k) Q := by
  obtain ⟨d, rfl⟩ : ∃ e, d = e + 3 := ⟨d - 3, by omega⟩
  obtain ⟨a', e, q1, q2, q3, q4, -⟩ := Lv_at (by decide) S.2.1
  cases e
  rw [ycs_s]
  refine zW_V (P := fun H1 => SS C B X t Γ H1 σ η ((oO 44 [] [oF 13200 θ1, oF 13201 θ2], some a) :: M) g h) (T := fun _ => False) (zW_c (yl_Rule_init ?_)) (fun H1 q => hk H1 q) (fun _ q => q.elim)
  unfold yb_Rule_init
  refine zW_nn ?_
  refine zW_pR (by exact q2) (by decide) ?_
  refine zW_pR (by exact q2) (by decide) ?_
  refine zW_rV (SS_obj (K := [(θ1, x1), (θ2, x2)]) [13200, 13201] (by decide) S (yEx_putR (yEx_putR yEx_refl (fun _ => rfl)) (fun _ => rfl)) rfl (trivial) (fun i hi => ?_))
  have hi : i = 0 ∨ i = 1 := by
    have : i < 2 := hi
    omega
  rcases hi with rfl | rfl
  · exact (yputR_f (by decide)).trans (yputR_at)
  · exact yputR_at
theorem m_Fn {x1 : Int} {x2 : Option Nat} {θ2 : Gt} (hd : 3 ≤ d) (S : SS C B X t Γ H σ η ((gn 45 [p0] [], some a) :: (θ2, x2) :: M) g h) (hk : ∀ H1, SS C B X t Γ H1 σ η ((oO 45 [11700, x1, 13502, x1] [oF 13501 θ2], some a) :: M) g h → zW (k H1) Q) : zW (zV (ycs (YL C) d 402 (some a) [.inl x1, .inr (.inr x2)] H) k) Q := by
  obtain ⟨d, rfl⟩ : ∃ e, d = e + 3 := ⟨d - 3, by omega⟩
  obtain ⟨a', e, q1, q2, q3, q4, -⟩ := Lv_at (by decide) S.2.1
  cases e
  rw [ycs_s]
  refine zW_V (P := fun H1 => SS C B X t Γ H1 σ η ((oO 45 [11700, x1, 13502, x1] [oF 13501 θ2], some a) :: M) g h) (T := fun _ => False) (zW_c (yl_Fn_init ?_)) (fun H1 q => hk H1 q) (fun _ q => q.elim)
  unfold yb_Fn_init
  rw [ycs_s]
  refine zW_Ve (c_Exp ⟨by rw [q2]; decide, by rw [q2]; rfl⟩) ?_
  refine zW_pR (by exact q2) (by decide) ?_
  refine zW_pI (by exact q2) (by decide) rfl ?_
  refine zW_rV (SS_obj (K := [(θ2, x2)]) [13501] (by decide) S (yEx_put (yEx_putR (yEx_put yEx_refl (fun _ => rfl)) (fun _ => rfl)) (fun _ => rfl)) rfl (And.intro (by exact (yput_f (by decide)).trans ((yputR_I).trans (yput_at))) (And.intro (by exact yput_at) (trivial))) (fun i hi => ?_))
  have hi : i = 0 := by
    have : i < 1 := hi
    omega
  subst hi
  exact (yput_R).trans (yputR_at)
theorem m_Sequence {x1 : Int} {x2 : Option Nat} {θ2 : Gt} (hd : 3 ≤ d) (S : SS C B X t Γ H σ η ((gn 46 [p0] [], some a) :: (θ2, x2) :: M) g h) (hk : ∀ H1, SS C B X t Γ H1 σ η ((oO 46 [11700, x1] [oF 13801 θ2], some a) :: M) g h → zW (k H1) Q) : zW (zV (ycs (YL C) d 407 (some a) [.inl x1, .inr (.inr x2)] H) k) Q := by
  obtain ⟨d, rfl⟩ : ∃ e, d = e + 3 := ⟨d - 3, by omega⟩
  obtain ⟨a', e, q1, q2, q3, q4, -⟩ := Lv_at (by decide) S.2.1
  cases e
  rw [ycs_s]
  refine zW_V (P := fun H1 => SS C B X t Γ H1 σ η ((oO 46 [11700, x1] [oF 13801 θ2], some a) :: M) g h) (T := fun _ => False) (zW_c (yl_Sequence_init ?_)) (fun H1 q => hk H1 q) (fun _ q => q.elim)
  unfold yb_Sequence_init
  rw [ycs_s]
  refine zW_Ve (c_Exp ⟨by rw [q2]; decide, by rw [q2]; rfl⟩) ?_
  refine zW_pR (by exact q2) (by decide) ?_
  refine zW_rV (SS_obj (K := [(θ2, x2)]) [13801] (by decide) S (yEx_putR (yEx_put yEx_refl (fun _ => rfl)) (fun _ => rfl)) rfl (And.intro (by exact (yputR_I).trans (yput_at)) (trivial)) (fun i hi => ?_))
  have hi : i = 0 := by
    have : i < 1 := hi
    omega
  subst hi
  exact yputR_at
theorem m_RowExp {x1 : Int} {x2 x3 x4 : Option Nat} {θ2 θ3 θ4 : Gt} (hd : 3 ≤ d) (S : SS C B X t Γ H σ η ((gn 47 [p0] [], some a) :: (θ2, x2) :: (θ3, x3) :: (θ4, x4) :: M) g h) (hk : ∀ H1, SS C B X t Γ H1 σ η ((oO 47 [11700, x1] [oF 14101 θ2, oF 14102 θ3, oF 14103 θ4], some a) :: M) g h → zW (k H1) Q) : zW (zV (ycs (YL C) d 410 (some a) [.inl x1, .inr (.inr x2), .inr (.inr x3), .inr (.inr x4)] H) k) Q := by
  obtain ⟨d, rfl⟩ : ∃ e, d = e + 3 := ⟨d - 3, by omega⟩
  obtain ⟨a', e, q1, q2, q3, q4, -⟩ := Lv_at (by decide) S.2.1
  cases e
  rw [ycs_s]
  refine zW_V (P := fun H1 => SS C B X t Γ H1 σ η ((oO 47 [11700, x1] [oF 14101 θ2, oF 14102 θ3, oF 14103 θ4], some a) :: M) g h) (T := fun _ => False) (zW_c (yl_RowExp_init ?_)) (fun H1 q => hk H1 q) (fun _ q => q.elim)
  unfold yb_RowExp_init
  rw [ycs_s]
  refine zW_Ve (c_Exp ⟨by rw [q2]; decide, by rw [q2]; rfl⟩) ?_
  refine zW_pR (by exact q2) (by decide) ?_
  refine zW_pR (by exact q2) (by decide) ?_
  refine zW_pR (by exact q2) (by decide) ?_
  refine zW_rV (SS_obj (K := [(θ2, x2), (θ3, x3), (θ4, x4)]) [14101, 14102, 14103] (by decide) S (yEx_putR (yEx_putR (yEx_putR (yEx_put yEx_refl (fun _ => rfl)) (fun _ => rfl)) (fun _ => rfl)) (fun _ => rfl)) rfl (And.intro (by exact (yputR_I).trans ((yputR_I).trans ((yputR_I).trans (yput_at)))) (trivial)) (fun i hi => ?_))
  have hi : i = 0 ∨ i = 1 ∨ i = 2 := by
    have : i < 3 := hi
    omega
  rcases hi with rfl | rfl | rfl
  · exact (yputR_f (by decide)).trans ((yputR_f (by decide)).trans (yputR_at))
  · exact (yputR_f (by decide)).trans (yputR_at)
  · exact yputR_at
theorem m_ListExp {x1 : Int} {x2 : Option Nat} {θ2 : Gt} (hd : 3 ≤ d) (S : SS C B X t Γ H σ η ((gn 48 [p0] [], some a) :: (θ2, x2) :: M) g h) (hk : ∀ H1, SS C B X t Γ H1 σ η ((oO 48 [11700, x1] [oF 14401 θ2], some a) :: M) g h → zW (k H1) Q) : zW (zV (ycs (YL C) d 414 (some a) [.inl x1, .inr (.inr x2)] H) k) Q := by
  obtain ⟨d, rfl⟩ : ∃ e, d = e + 3 := ⟨d - 3, by omega⟩
  obtain ⟨a', e, q1, q2, q3, q4, -⟩ := Lv_at (by decide) S.2.1
  cases e
  rw [ycs_s]
  refine zW_V (P := fun H1 => SS C B X t Γ H1 σ η ((oO 48 [11700, x1] [oF 14401 θ2], some a) :: M) g h) (T := fun _ => False) (zW_c (yl_ListExp_init ?_)) (fun H1 q => hk H1 q) (fun _ q => q.elim)
  unfold yb_ListExp_init
  rw [ycs_s]
  refine zW_Ve (c_Exp ⟨by rw [q2]; decide, by rw [q2]; rfl⟩) ?_
  refine zW_pR (by exact q2) (by decide) ?_
  refine zW_rV (SS_obj (K := [(θ2, x2)]) [14401] (by decide) S (yEx_putR (yEx_put yEx_refl (fun _ => rfl)) (fun _ => rfl)) rfl (And.intro (by exact (yputR_I).trans (yput_at)) (trivial)) (fun i hi => ?_))
  have hi : i = 0 := by
    have : i < 1 := hi
    omega
  subst hi
  exact yputR_at
theorem m_Let {x1 : Int} {x2 x3 : Option Nat} {θ2 θ3 : Gt} (hd : 3 ≤ d) (S : SS C B X t Γ H σ η ((gn 49 [p0] [], some a) :: (θ2, x2) :: (θ3, x3) :: M) g h) (hk : ∀ H1, SS C B X t Γ H1 σ η ((oO 49 [11700, x1] [oF 14701 θ2, oF 14702 θ3], some a) :: M) g h → zW (k H1) Q) : zW (zV (ycs (YL C) d 418 (some a) [.inl x1, .inr (.inr x2), .inr (.inr x3)] H) k) Q := by
  obtain ⟨d, rfl⟩ : ∃ e, d = e + 3 := ⟨d - 3, by omega⟩
  obtain ⟨a', e, q1, q2, q3, q4, -⟩ := Lv_at (by decide) S.2.1
  cases e
  rw [ycs_s]
  refine zW_V (P := fun H1 => SS C B X t Γ H1 σ η ((oO 49 [11700, x1] [oF 14701 θ2, oF 14702 θ3], some a) :: M) g h) (T := fun _ => False) (zW_c (yl_Let_init ?_)) (fun H1 q => hk H1 q) (fun _ q => q.elim)
  unfold yb_Let_init
  rw [ycs_s]
  refine zW_Ve (c_Exp ⟨by rw [q2]; decide, by rw [q2]; rfl⟩) ?_
  refine zW_pR (by exact q2) (by decide) ?_
  refine zW_pR (by exact q2) (by decide) ?_
  refine zW_rV (SS_obj (K := [(θ2, x2), (θ3, x3)]) [14701, 14702] (by decide) S (yEx_putR (yEx_putR (yEx_put yEx_refl (fun _ => rfl)) (fun _ => rfl)) (fun _ => rfl)) rfl (And.intro (by exact (yputR_I).trans ((yputR_I).trans (yput_at))) (trivial)) (fun i hi => ?_))
  have hi : i = 0 ∨ i = 1 := by
    have : i < 2 := hi
    omega
  rcases hi with rfl | rfl
  · exact (yputR_f (by decide)).trans (yputR_at)
  · exact yputR_at
theorem m_Select {x2 : Int} {x1 : Option Nat} {θ1 : Gt} (hd : 3 ≤ d) (S : SS C B X t Γ H σ η ((gn 50 [p0] [], some a) :: (θ1, x1) :: M) g h) (hk : ∀ H1, SS C B X t Γ H1 σ η ((oO 50 [11700, x2, 15002, x2] [oF 15001 θ1], some a) :: M) g h → zW (k H1) Q) : zW (zV (ycs (YL C) d 421 (some a) [.inr (.inr x1), .inl x2] H) k) Q := by
  obtain ⟨d, rfl⟩ : ∃ e, d = e + 3 := ⟨d - 3, by omega⟩
  obtain ⟨a', e, q1, q2, q3, q4, -⟩ := Lv_at (by decide) S.2.1
  cases e
  rw [ycs_s]
  refine zW_V (P := fun H1 => SS C B X t Γ H1 σ η ((oO 50 [11700, x2, 15002, x2] [oF 15001 θ1], some a) :: M) g h) (T := fun _ => False) (zW_c (yl_Select_init ?_)) (fun H1 q => hk H1 q) (fun _ q => q.elim)
  unfold yb_Select_init
  rw [ycs_s]
  refine zW_Ve (c_Exp ⟨by rw [q2]; decide, by rw [q2]; rfl⟩) ?_
  refine zW_pR (by exact q2) (by decide) ?_
  refine zW_pI (by exact q2) (by decide) rfl ?_
  refine zW_rV (SS_obj (K := [(θ1, x1)]) [15001] (by decide) S (yEx_put (yEx_putR (yEx_put yEx_refl (fun _ => rfl)) (fun _ => rfl)) (fun _ => rfl)) rfl (And.intro (by exact (yput_f (by decide)).trans ((yputR_I).trans (yput_at))) (And.intro (by exact yput_at) (trivial))) (fun i hi => ?_))
  have hi : i = 0 := by
    have : i < 1 := hi
    omega
  subst hi
  exact (yput_R).trans (yputR_at)
theorem m_Use {x2 x3 : Int} {x1 : Option Nat} {θ1 : Gt} (hd : 3 ≤ d) (S : SS C B X t Γ H σ η ((gn 51 [p0] [], some a) :: (θ1, x1) :: M) g h) (hk : ∀ H1, SS C B X t Γ H1 σ η ((oO 51 [11700, x3, 15302, x2] [oF 15301 θ1], some a) :: M) g h → zW (k H1) Q) : zW (zV (ycs (YL C) d 425 (some a) [.inr (.inr x1), .inl x2, .inl x3] H) k) Q := by
  obtain ⟨d, rfl⟩ : ∃ e, d = e + 3 := ⟨d - 3, by omega⟩
  obtain ⟨a', e, q1, q2, q3, q4, -⟩ := Lv_at (by decide) S.2.1
  cases e
  rw [ycs_s]
  refine zW_V (P := fun H1 => SS C B X t Γ H1 σ η ((oO 51 [11700, x3, 15302, x2] [oF 15301 θ1], some a) :: M) g h) (T := fun _ => False) (zW_c (yl_Use_init ?_)) (fun H1 q => hk H1 q) (fun _ q => q.elim)
  unfold yb_Use_init
  rw [ycs_s]
  refine zW_Ve (c_Exp ⟨by rw [q2]; decide, by rw [q2]; rfl⟩) ?_
  refine zW_pR (by exact q2) (by decide) ?_
  refine zW_pI (by exact q2) (by decide) rfl ?_
  refine zW_rV (SS_obj (K := [(θ1, x1)]) [15301] (by decide) S (yEx_put (yEx_putR (yEx_put yEx_refl (fun _ => rfl)) (fun _ => rfl)) (fun _ => rfl)) rfl (And.intro (by exact (yput_f (by decide)).trans ((yputR_I).trans (yput_at))) (And.intro (by exact yput_at) (trivial))) (fun i hi => ?_))
  have hi : i = 0 := by
    have : i < 1 := hi
    omega
  subst hi
  exact (yput_R).trans (yputR_at)
theorem m_Constant {v1 : Int} {x1 : Nat} {θ1 : Gt} (hb : yI H 6601 x1 = v1 ∧ yK H x1 = 22) (hd : 3 ≤ d) (S : SS C B X t Γ H σ η ((gn 52 [p0] [], some a) :: (θ1, (some x1)) :: M) g h) (hk : ∀ H1, SS C B X t Γ H1 σ η ((oO 52 [11700, v1] [oF 15601 θ1], some a) :: M) g h → zW (k H1) Q) : zW (zV (ycs (YL C) d 430 (some a) [.inr (.inr (some x1))] H) k) Q := by
  obtain ⟨d, rfl⟩ : ∃ e, d = e + 3 := ⟨d - 3, by omega⟩
  obtain ⟨a', e, q1, q2, q3, q4, -⟩ := Lv_at (by decide) S.2.1
  cases e
  rw [ycs_s]
  refine zW_V (P := fun H1 => SS C B X t Γ H1 σ η ((oO 52 [11700, v1] [oF 15601 θ1], some a) :: M) g h) (T := fun _ => False) (zW_c (yl_Constant_init ?_)) (fun H1 q => hk H1 q) (fun _ q => q.elim)
  unfold yb_Constant_init
  refine zW_t (by rw [hb.2]; rfl) ?_
  rw [hb.1]
  rw [ycs_s]
  refine zW_Ve (c_Exp ⟨by rw [q2]; decide, by rw [q2]; rfl⟩) ?_
  refine zW_pR (by exact q2) (by decide) ?_
  refine zW_rV (SS_obj (K := [(θ1, (some x1))]) [15601] (by decide) S (yEx_putR (yEx_put yEx_refl (fun _ => rfl)) (fun _ => rfl)) rfl (And.intro (by exact (yputR_I).trans (yput_at)) (trivial)) (fun i hi => ?_))
  have hi : i = 0 := by
    have : i < 1 := hi
    omega
  subst hi
  exact yputR_at
theorem m_Apply {v1 : Int} {x2 : Option Nat} {x1 : Nat} {θ1 θ2 : Gt} (hb : yI H 11700 x1 = v1 ∧ yokF 11700 (yK H x1) = true) (hd : 3 ≤ d) (S : SS C B X t Γ H σ η ((gn 53 [p0] [], some a) :: (θ1, (some x1)) :: (θ2, x2) :: M) g h) (hk : ∀ H1, SS C B X t Γ H1 σ η ((oO 53 [11700, v1] [oF 15901 θ1, oF 15902 θ2], some a) :: M) g h → zW (k H1) Q) : zW (zV (ycs (YL C) d 434 (some a) [.inr (.inr (some x1)), .inr (.inr x2)] H) k) Q := by
  obtain ⟨d, rfl⟩ : ∃ e, d = e + 3 := ⟨d - 3, by omega⟩
  obtain ⟨a', e, q1, q2, q3, q4, -⟩ := Lv_at (by decide) S.2.1
  cases e
  rw [ycs_s]
  refine zW_V (P := fun H1 => SS C B X t Γ H1 σ η ((oO 53 [11700, v1] [oF 15901 θ1, oF 15902 θ2], some a) :: M) g h) (T := fun _ => False) (zW_c (yl_Apply_init ?_)) (fun H1 q => hk H1 q) (fun _ q => q.elim)
  unfold yb_Apply_init
  refine zW_t (by exact hb.2) ?_
  rw [hb.1]
  rw [ycs_s]
  refine zW_Ve (c_Exp ⟨by rw [q2]; decide, by rw [q2]; rfl⟩) ?_
  refine zW_pR (by exact q2) (by decide) ?_
  refine zW_pR (by exact q2) (by decide) ?_
  refine zW_rV (SS_obj (K := [(θ1, (some x1)), (θ2, x2)]) [15901, 15902] (by decide) S (yEx_putR (yEx_putR (yEx_put yEx_refl (fun _ => rfl)) (fun _ => rfl)) (fun _ => rfl)) rfl (And.intro (by exact (yputR_I).trans ((yputR_I).trans (yput_at))) (trivial)) (fun i hi => ?_))
  have hi : i = 0 ∨ i = 1 := by
    have : i < 2 := hi
    omega
  rcases hi with rfl | rfl
  · exact (yputR_f (by decide)).trans (yputR_at)
  · exact yputR_at
theorem m_Infix {v1 : Int} {x1 x3 : Option Nat} {x2 : Nat} {θ1 θ2 θ3 : Gt} (hb : yI H 11700 x2 = v1 ∧ yokF 11700 (yK H x2) = true) (hd : 3 ≤ d) (S : SS C B X t Γ H σ η ((gn 54 [p0] [], some a) :: (θ1, x1) :: (θ2, (some x2)) :: (θ3, x3) :: M) g h) (hk : ∀ H1, SS C B X t Γ H1 σ η ((oO 54 [11700, v1] [oF 16201 θ1, oF 16202 θ2, oF 16203 θ3], some a) :: M) g h → zW (k H1) Q) : zW (zV (ycs (YL C) d 439 (some a) [.inr (.inr x1), .inr (.inr (some x2)), .inr (.inr x3)] H) k) Q := by
  obtain ⟨d, rfl⟩ : ∃ e, d = e + 3 := ⟨d - 3, by omega⟩
  obtain ⟨a', e, q1, q2, q3, q4, -⟩ := Lv_at (by decide) S.2.1
  cases e
  rw [ycs_s]
  refine zW_V (P := fun H1 => SS C B X t Γ H1 σ η ((oO 54 [11700, v1] [oF 16201 θ1, oF 16202 θ2, oF 16203 θ3], some a) :: M) g h) (T := fun _ => False) (zW_c (yl_Infix_init ?_)) (fun H1 q => hk H1 q) (fun _ q => q.elim)
  unfold yb_Infix_init
  refine zW_t (by exact hb.2) ?_
  rw [hb.1]
  rw [ycs_s]
  refine zW_Ve (c_Exp ⟨by rw [q2]; decide, by rw [q2]; rfl⟩) ?_
  refine zW_pR (by exact q2) (by decide) ?_
  refine zW_pR (by exact q2) (by decide) ?_
  refine zW_pR (by exact q2) (by decide) ?_
  refine zW_rV (SS_obj (K := [(θ1, x1), (θ2, (some x2)), (θ3, x3)]) [16201, 16202, 16203] (by decide) S (yEx_putR (yEx_putR (yEx_putR (yEx_put yEx_refl (fun _ => rfl)) (fun _ => rfl)) (fun _ => rfl)) (fun _ => rfl)) rfl (And.intro (by exact (yputR_I).trans ((yputR_I).trans ((yputR_I).trans (yput_at)))) (trivial)) (fun i hi => ?_))
  have hi : i = 0 ∨ i = 1 ∨ i = 2 := by
    have : i < 3 := hi
    omega
  rcases hi with rfl | rfl | rfl
  · exact (yputR_f (by decide)).trans ((yputR_f (by decide)).trans (yputR_at))
  · exact (yputR_f (by decide)).trans (yputR_at)
  · exact yputR_at
theorem m_Typed {v1 : Int} {x2 : Option Nat} {x1 : Nat} {θ1 θ2 : Gt} (hb : yI H 11700 x1 = v1 ∧ yokF 11700 (yK H x1) = true) (hd : 3 ≤ d) (S : SS C B X t Γ H σ η ((gn 55 [p0] [], some a) :: (θ1, (some x1)) :: (θ2, x2) :: M) g h) (hk : ∀ H1, SS C B X t Γ H1 σ η ((oO 55 [11700, v1] [oF 16501 θ1, oF 16502 θ2], some a) :: M) g h → zW (k H1) Q) : zW (zV (ycs (YL C) d 443 (some a) [.inr (.inr (some x1)), .inr (.inr x2)] H) k) Q := by
  obtain ⟨d, rfl⟩ : ∃ e, d = e + 3 := ⟨d - 3, by omega⟩
  obtain ⟨a', e, q1, q2, q3, q4, -⟩ := Lv_at (by decide) S.2.1
  cases e
  rw [ycs_s]
  refine zW_V (P := fun H1 => SS C B X t Γ H1 σ η ((oO 55 [11700, v1] [oF 16501 θ1, oF 16502 θ2], some a) :: M) g h) (T := fun _ => False) (zW_c (yl_Typed_init ?_)) (fun H1 q => hk H1 q) (fun _ q => q.elim)
  unfold yb_Typed_init
  refine zW_t (by exact hb.2) ?_
  rw [hb.1]
  rw [ycs_s]
  refine zW_Ve (c_Exp ⟨by rw [q2]; decide, by rw [q2]; rfl⟩) ?_
  refine zW_pR (by exact q2) (by decide) ?_
  refine zW_pR (by exact q2) (by decide) ?_
  refine zW_rV (SS_obj (K := [(θ1, (some x1)), (θ2, x2)]) [16501, 16502] (by decide) S (yEx_putR (yEx_putR (yEx_put yEx_refl (fun _ => rfl)) (fun _ => rfl)) (fun _ => rfl)) rfl (And.intro (by exact (yputR_I).trans ((yputR_I).trans (yput_at))) (trivial)) (fun i hi => ?_))
  have hi : i = 0 ∨ i = 1 := by
    have : i < 2 := hi
    omega
  rcases hi with rfl | rfl
  · exact (yputR_f (by decide)).trans (yputR_at)
  · exact yputR_at
theorem m_Both {x1 : Int} {v1 : Int} {x3 : Option Nat} {x2 : Nat} {θ2 θ3 : Gt} (hx1 : x1 = 0 ∨ x1 = 1) (hb : yI H 11700 x2 = v1 ∧ yokF 11700 (yK H x2) = true) (hd : 3 ≤ d) (S : SS C B X t Γ H σ η ((gn 56 [p0] [], some a) :: (θ2, (some x2)) :: (θ3, x3) :: M) g h) (hk : ∀ H1, SS C B X t Γ H1 σ η ((oO 56 [11700, v1, 16801, x1] [oF 16802 θ2, oF 16803 θ3], some a) :: M) g h → zW (k H1) Q) : zW (zV (ycs (YL C) d 447 (some a) [.inl x1, .inr (.inr (some x2)), .inr (.inr x3)] H) k) Q := by
  obtain ⟨d, rfl⟩ : ∃ e, d = e + 3 := ⟨d - 3, by omega⟩
  obtain ⟨a', e, q1, q2, q3, q4, -⟩ := Lv_at (by decide) S.2.1
  cases e
  rw [ycs_s]
  refine zW_V (P := fun H1 => SS C B X t Γ H1 σ η ((oO 56 [11700, v1, 16801, x1] [oF 16802 θ2, oF 16803 θ3], some a) :: M) g h) (T := fun _ => False) (zW_c (yl_Both_init ?_)) (fun H1 q => hk H1 q) (fun _ q => q.elim)
  unfold yb_Both_init
  refine zW_t (by exact hb.2) ?_
  rw [hb.1]
  rw [ycs_s]
  refine zW_Ve (c_Exp ⟨by rw [q2]; decide, by rw [q2]; rfl⟩) ?_
  refine zW_pI (by exact q2) (by decide) (by rcases hx1 with w | w <;> rw [w] <;> rfl) ?_
  refine zW_pR (by exact q2) (by decide) ?_
  refine zW_pR (by exact q2) (by decide) ?_
  refine zW_rV (SS_obj (K := [(θ2, (some x2)), (θ3, x3)]) [16802, 16803] (by decide) S (yEx_putR (yEx_putR (yEx_put (yEx_put yEx_refl (fun _ => rfl)) (fun _ => rfl)) (fun _ => rfl)) (fun _ => rfl)) rfl (And.intro (by exact (yputR_I).trans ((yputR_I).trans ((yput_f (by decide)).trans (yput_at)))) (And.intro (by exact (yputR_I).trans ((yputR_I).trans (yput_at))) (trivial))) (fun i hi => ?_))
  have hi : i = 0 ∨ i = 1 := by
    have : i < 2 := hi
    omega
  rcases hi with rfl | rfl
  · exact (yputR_f (by decide)).trans (yputR_at)
  · exact yputR_at
theorem m_Handle {x3 : Int} {v1 : Int} {x2 : Option Nat} {x1 : Nat} {θ1 θ2 : Gt} (hb : yI H 11700 x1 = v1 ∧ yokF 11700 (yK H x1) = true) (hd : 3 ≤ d) (S : SS C B X t Γ H σ η ((gn 57 [p0] [], some a) :: (θ1, (some x1)) :: (θ2, x2) :: M) g h) (hk : ∀ H1, SS C B X t Γ H1 σ η ((oO 57 [11700, v1, 17103, x3] [oF 17101 θ1, oF 17102 θ2], some a) :: M) g h → zW (k H1) Q) : zW (zV (ycs (YL C) d 450 (some a) [.inr (.inr (some x1)), .inr (.inr x2), .inl x3] H) k) Q := by
  obtain ⟨d, rfl⟩ : ∃ e, d = e + 3 := ⟨d - 3, by omega⟩
  obtain ⟨a', e, q1, q2, q3, q4, -⟩ := Lv_at (by decide) S.2.1
  cases e
  rw [ycs_s]
  refine zW_V (P := fun H1 => SS C B X t Γ H1 σ η ((oO 57 [11700, v1, 17103, x3] [oF 17101 θ1, oF 17102 θ2], some a) :: M) g h) (T := fun _ => False) (zW_c (yl_Handle_init ?_)) (fun H1 q => hk H1 q) (fun _ q => q.elim)
  unfold yb_Handle_init
  refine zW_t (by exact hb.2) ?_
  rw [hb.1]
  rw [ycs_s]
  refine zW_Ve (c_Exp ⟨by rw [q2]; decide, by rw [q2]; rfl⟩) ?_
  refine zW_pR (by exact q2) (by decide) ?_
  refine zW_pR (by exact q2) (by decide) ?_
  refine zW_pI (by exact q2) (by decide) rfl ?_
  refine zW_rV (SS_obj (K := [(θ1, (some x1)), (θ2, x2)]) [17101, 17102] (by decide) S (yEx_put (yEx_putR (yEx_putR (yEx_put yEx_refl (fun _ => rfl)) (fun _ => rfl)) (fun _ => rfl)) (fun _ => rfl)) rfl (And.intro (by exact (yput_f (by decide)).trans ((yputR_I).trans ((yputR_I).trans (yput_at)))) (And.intro (by exact yput_at) (trivial))) (fun i hi => ?_))
  have hi : i = 0 ∨ i = 1 := by
    have : i < 2 := hi
    omega
  rcases hi with rfl | rfl
  · exact (yput_R).trans ((yputR_f (by decide)).trans (yputR_at))
  · exact (yput_R).trans (yputR_at)
theorem m_Clause {x2 : Int} {x1 x3 x4 x5 : Option Nat} {θ1 θ3 θ4 θ5 : Gt} (hd : 3 ≤ d) (S : SS C B X t Γ H σ η ((gn 60 [p0] [], some a) :: (θ1, x1) :: (θ3, x3) :: (θ4, x4) :: (θ5, x5) :: M) g h) (hk : ∀ H1, SS C B X t Γ H1 σ η ((oO 60 [18001, x2] [oF 18000 θ1, oF 18002 θ3, oF 18003 θ4, oF 18004 θ5], some a) :: M) g h → zW (k H1) Q) : zW (zV (ycs (YL C) d 460 (some a) [.inr (.inr x1), .inl x2, .inr (.inr x3), .inr (.inr x4), .inr (.inr x5)] H) k) Q := by
  obtain ⟨d, rfl⟩ : ∃ e, d = e + 3 := ⟨d - 3, by omega⟩
  obtain ⟨a', e, q1, q2, q3, q4, -⟩ := Lv_at (by decide) S.2.1
  cases e
  rw [ycs_s]
  refine zW_V (P := fun H1 => SS C B X t Γ H1 σ η ((oO 60 [18001, x2] [oF 18000 θ1, oF 18002 θ3, oF 18003 θ4, oF 18004 θ5], some a) :: M) g h) (T := fun _ => False) (zW_c (yl_Clause_init ?_)) (fun H1 q => hk H1 q) (fun _ q => q.elim)
  unfold yb_Clause_init
  refine zW_nn ?_
  refine zW_pR (by exact q2) (by decide) ?_
  refine zW_pI (by exact q2) (by decide) rfl ?_
  refine zW_pR (by exact q2) (by decide) ?_
  refine zW_pR (by exact q2) (by decide) ?_
  refine zW_pR (by exact q2) (by decide) ?_
  refine zW_rV (SS_obj (K := [(θ1, x1), (θ3, x3), (θ4, x4), (θ5, x5)]) [18000, 18002, 18003, 18004] (by decide) S (yEx_putR (yEx_putR (yEx_putR (yEx_put (yEx_putR yEx_refl (fun _ => rfl)) (fun _ => rfl)) (fun _ => rfl)) (fun _ => rfl)) (fun _ => rfl)) rfl (And.intro (by exact (yputR_I).trans ((yputR_I).trans ((yputR_I).trans (yput_at)))) (trivial)) (fun i hi => ?_))
  have hi : i = 0 ∨ i = 1 ∨ i = 2 ∨ i = 3 := by
    have : i < 4 := hi
    omega
  rcases hi with rfl | rfl | rfl | rfl
  · exact (yputR_f (by decide)).trans ((yputR_f (by decide)).trans ((yputR_f (by decide)).trans ((yput_R).trans (yputR_at))))
  · exact (yputR_f (by decide)).trans ((yputR_f (by decide)).trans (yputR_at))
  · exact (yputR_f (by decide)).trans (yputR_at)
  · exact yputR_at
theorem m_TypeDec {x3 : Int} {x1 x2 x4 : Option Nat} {θ1 θ2 θ4 : Gt} (hd : 3 ≤ d) (S : SS C B X t Γ H σ η ((gn 61 [p0] [], some a) :: (θ1, x1) :: (θ2, x2) :: (θ4, x4) :: M) g h) (hk : ∀ H1, SS C B X t Γ H1 σ η ((oO 61 [18302, x3] [oF 18300 θ1, oF 18301 θ2, oF 18303 θ4], some a) :: M) g h → zW (k H1) Q) : zW (zV (ycs (YL C) d 461 (some a) [.inr (.inr x1), .inr (.inr x2), .inl x3, .inr (.inr x4)] H) k) Q := by
  obtain ⟨d, rfl⟩ : ∃ e, d = e + 3 := ⟨d - 3, by omega⟩
  obtain ⟨a', e, q1, q2, q3, q4, -⟩ := Lv_at (by decide) S.2.1
  cases e
  rw [ycs_s]
  refine zW_V (P := fun H1 => SS C B X t Γ H1 σ η ((oO 61 [18302, x3] [oF 18300 θ1, oF 18301 θ2, oF 18303 θ4], some a) :: M) g h) (T := fun _ => False) (zW_c (yl_TypeDec_init ?_)) (fun H1 q => hk H1 q) (fun _ q => q.elim)
  unfold yb_TypeDec_init
  rw [ycs_s]
  refine zW_Ve (c_Dec) ?_
  refine zW_pR (by exact q2) (by decide) ?_
  refine zW_pR (by exact q2) (by decide) ?_
  refine zW_pI (by exact q2) (by decide) rfl ?_
  refine zW_pR (by exact q2) (by decide) ?_
  refine zW_rV (SS_obj (K := [(θ1, x1), (θ2, x2), (θ4, x4)]) [18300, 18301, 18303] (by decide) S (yEx_putR (yEx_put (yEx_putR (yEx_putR yEx_refl (fun _ => rfl)) (fun _ => rfl)) (fun _ => rfl)) (fun _ => rfl)) rfl (And.intro (by exact (yputR_I).trans (yput_at)) (trivial)) (fun i hi => ?_))
  have hi : i = 0 ∨ i = 1 ∨ i = 2 := by
    have : i < 3 := hi
    omega
  rcases hi with rfl | rfl | rfl
  · exact (yputR_f (by decide)).trans ((yput_R).trans ((yputR_f (by decide)).trans (yputR_at)))
  · exact (yputR_f (by decide)).trans ((yput_R).trans (yputR_at))
  · exact yputR_at
theorem m_ConDec {x2 : Int} {x1 x3 : Option Nat} {θ1 θ3 : Gt} (hd : 3 ≤ d) (S : SS C B X t Γ H σ η ((gn 64 [p0] [], some a) :: (θ1, x1) :: (θ3, x3) :: M) g h) (hk : ∀ H1, SS C B X t Γ H1 σ η ((oO 64 [19201, x2] [oF 19200 θ1, oF 19202 θ3], some a) :: M) g h → zW (k H1) Q) : zW (zV (ycs (YL C) d 471 (some a) [.inr (.inr x1), .inl x2, .inr (.inr x3)] H) k) Q := by
  obtain ⟨d, rfl⟩ : ∃ e, d = e + 3 := ⟨d - 3, by omega⟩
  obtain ⟨a', e, q1, q2, q3, q4, -⟩ := Lv_at (by decide) S.2.1
  cases e
  rw [ycs_s]
  refine zW_V (P := fun H1 => SS C B X t Γ H1 σ η ((oO 64 [19201, x2] [oF 19200 θ1, oF 19202 θ3], some a) :: M) g h) (T := fun _ => False) (zW_c (yl_ConDec_init ?_)) (fun H1 q => hk H1 q) (fun _ q => q.elim)
  unfold yb_ConDec_init
  refine zW_nn ?_
  refine zW_pR (by exact q2) (by decide) ?_
  refine zW_pI (by exact q2) (by decide) rfl ?_
  refine zW_pR (by exact q2) (by decide) ?_
  refine zW_rV (SS_obj (K := [(θ1, x1), (θ3, x3)]) [19200, 19202] (by decide) S (yEx_putR (yEx_put (yEx_putR yEx_refl (fun _ => rfl)) (fun _ => rfl)) (fun _ => rfl)) rfl (And.intro (by exact (yputR_I).trans (yput_at)) (trivial)) (fun i hi => ?_))
  have hi : i = 0 ∨ i = 1 := by
    have : i < 2 := hi
    omega
  rcases hi with rfl | rfl
  · exact (yputR_f (by decide)).trans ((yput_R).trans (yputR_at))
  · exact yputR_at
theorem m_ExceptionDec {x2 x5 : Int} {x1 x3 x4 : Option Nat} {θ1 θ3 θ4 : Gt} (hd : 3 ≤ d) (S : SS C B X t Γ H σ η ((gn 65 [p0] [], some a) :: (θ1, x1) :: (θ3, x3) :: (θ4, x4) :: M) g h) (hk : ∀ H1, SS C B X t Γ H1 σ η ((oO 65 [19501, x2, 19504, x5] [oF 19500 θ1, oF 19502 θ3, oF 19503 θ4], some a) :: M) g h → zW (k H1) Q) : zW (zV (ycs (YL C) d 472 (some a) [.inr (.inr x1), .inl x2, .inr (.inr x3), .inr (.inr x4), .inl x5] H) k) Q := by
  obtain ⟨d, rfl⟩ : ∃ e, d = e + 3 := ⟨d - 3, by omega⟩
  obtain ⟨a', e, q1, q2, q3, q4, -⟩ := Lv_at (by decide) S.2.1
  cases e
  rw [ycs_s]
  refine zW_V (P := fun H1 => SS C B X t Γ H1 σ η ((oO 65 [19501, x2, 19504, x5] [oF 19500 θ1, oF 19502 θ3, oF 19503 θ4], some a) :: M) g h) (T := fun _ => False) (zW_c (yl_ExceptionDec_init ?_)) (fun H1 q => hk H1 q) (fun _ q => q.elim)
  unfold yb_ExceptionDec_init
  rw [ycs_s]
  refine zW_Ve (c_Dec) ?_
  refine zW_pR (by exact q2) (by decide) ?_
  refine zW_pI (by exact q2) (by decide) rfl ?_
  refine zW_pR (by exact q2) (by decide) ?_
  refine zW_pR (by exact q2) (by decide) ?_
  refine zW_pI (by exact q2) (by decide) rfl ?_
  refine zW_rV (SS_obj (K := [(θ1, x1), (θ3, x3), (θ4, x4)]) [19500, 19502, 19503] (by decide) S (yEx_put (yEx_putR (yEx_putR (yEx_put (yEx_putR yEx_refl (fun _ => rfl)) (fun _ => rfl)) (fun _ => rfl)) (fun _ => rfl)) (fun _ => rfl)) rfl (And.intro (by exact (yput_f (by decide)).trans ((yputR_I).trans ((yputR_I).trans (yput_at)))) (And.intro (by exact yput_at) (trivial))) (fun i hi => ?_))
  have hi : i = 0 ∨ i = 1 ∨ i = 2 := by
    have : i < 3 := hi
    omega
  rcases hi with rfl | rfl | rfl
  · exact (yput_R).trans ((yputR_f (by decide)).trans ((yputR_f (by decide)).trans ((yput_R).trans (yputR_at))))
  · exact (yput_R).trans ((yputR_f (by decide)).trans (yputR_at))
  · exact (yput_R).trans (yputR_at)
theorem m_LocalDec {x1 x2 : Option Nat} {θ1 θ2 : Gt} (hd : 3 ≤ d) (S : SS C B X t Γ H σ η ((gn 66 [p0] [], some a) :: (θ1, x1) :: (θ2, x2) :: M) g h) (hk : ∀ H1, SS C B X t Γ H1 σ η ((oO 66 [] [oF 19800 θ1, oF 19801 θ2], some a) :: M) g h → zW (k H1) Q) : zW (zV (ycs (YL C) d 475 (some a) [.inr (.inr x1), .inr (.inr x2)] H) k) Q := by
  obtain ⟨d, rfl⟩ : ∃ e, d = e + 3 := ⟨d - 3, by omega⟩
  obtain ⟨a', e, q1, q2, q3, q4, -⟩ := Lv_at (by decide) S.2.1
  cases e
  rw [ycs_s]
  refine zW_V (P := fun H1 => SS C B X t Γ H1 σ η ((oO 66 [] [oF 19800 θ1, oF 19801 θ2], some a) :: M) g h) (T := fun _ => False) (zW_c (yl_LocalDec_init ?_)) (fun H1 q => hk H1 q) (fun _ q => q.elim)
  unfold yb_LocalDec_init
  rw [ycs_s]
  refine zW_Ve (c_Dec) ?_
  refine zW_pR (by exact q2) (by decide) ?_
  refine zW_pR (by exact q2) (by decide) ?_
  refine zW_rV (SS_obj (K := [(θ1, x1), (θ2, x2)]) [19800, 19801] (by decide) S (yEx_putR (yEx_putR yEx_refl (fun _ => rfl)) (fun _ => rfl)) rfl (trivial) (fun i hi => ?_))
  have hi : i = 0 ∨ i = 1 := by
    have : i < 2 := hi
    omega
  rcases hi with rfl | rfl
  · exact (yputR_f (by decide)).trans (yputR_at)
  · exact yputR_at
end YCtor
