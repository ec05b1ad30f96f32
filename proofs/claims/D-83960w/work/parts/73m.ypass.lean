set_option maxRecDepth 100000
/-! THE HOUSE'S PARSER: a token's word; the step to the next token -/
section YPass
variable {B P : Nat → Prop} {C : YC} {X : Nat → Nat} {H H' H1 H3 : YS} {a a' e s c d f g i j x cap cap' r c0 s0 n : Nat} {v : Int} {t b b' : List Int} {KW KW' : List (List Int)} {Q : Option (Option ZV) → YS → Prop}
/-- the kinds' objects are different ones -/
def KD (C : YC) : Prop := ∀ i j, i ≤ 6 → j ≤ 6 → tkK C i = tkK C j → i = j
theorem y_tokIs {k : Tok} (hKD : KD C) (hC : CW C) (h : TokY C B H a k) (hk : k.1 ≤ 6) (hl : k.2.2.1.length ≤ 10000) (hs : StrY B H s b) : YL C (d + 2) 316 [zr a, zr s] H = some (some (some (.inl (if k.1 = 0 ∧ k.2.2.1 = b then 1 else 0))), H) := by
  obtain ⟨h1, h2, h3, h4, ⟨x, h5, h6⟩, h7⟩ := h
  refine zW_get (yl_Token_is ?_)
  unfold yb_Token_is
  refine zW_gR h2 rfl (zW_svR ?_)
  rw [h3]
  refine zW_if (fun y => zW_gR h2 rfl ?_) (fun y => zW_rN rfl ⟨?_, rfl⟩)
  · have k0 : k.1 = 0 := hKD k.1 0 hk (by decide) y
    rw [h5, ycv_str h6.2.1]
    refine zW_Ie (y_equals hC h6 hs (by omega)) (zW_if (fun z => zW_rN rfl ⟨?_, rfl⟩) (fun z => zW_rN rfl ⟨?_, rfl⟩))
    · rw [if_neg]
      rintro ⟨-, q⟩
      rw [if_pos q] at z
      cases z
    · rw [if_pos]
      refine ⟨k0, ?_⟩
      by_cases w : k.2.2.1 = b
      · exact w
      · rw [if_neg w] at z; exact absurd rfl z
  · rw [if_neg]
    rintro ⟨q, -⟩
    rw [q] at y
    exact y rfl
/-- the parser (X 8): the token at hand, the next one -/
def PsY (C : YC) (B : Nat → Prop) (X : Nat → Nat) (H : YS) (c k : Tok) : Prop := X 8 < ynx H ∧ yK H (X 8) = 6 ∧ yR H 1800 (X 8) = some (X 3) ∧ yR H 1801 (X 8) = some (X 0) ∧ (∃ a, yR H 1804 (X 8) = some a ∧ TokY C B H a c) ∧ ∃ a, yR H 1805 (X 8) = some a ∧ TokY C B H a k
/-- a step is had: k is at hand, k' is next -/
def PaOk (C : YC) (B : Nat → Prop) (X : Nat → Nat) (t : List Int) (KW : List (List Int)) (cap n : Nat) (H : YS) (k k' : Tok) (j : Nat) (H' : YS) : Prop := PsY C B X H' k k' ∧ Lf C B X H' ∧ Lt X H' t j ∧ ∃ KW' cap', LnY B X H' KW' cap' ∧ KW'.length ≤ KW.length + 1 ∧ cap ≤ cap' ∧ yI H' 2405 (X 0) = ((n + (if k'.1 = 6 then 0 else 1) : Nat) : Int) ∧ yEx (fun x => PL X H x ∨ x = X 8) (50 + (j - k'.2.1)) (300 + 8 * (j - k'.2.1) + 4 * (cap' - cap)) H H' ∧ (∀ x, x < ynx H → PL X H' x → PL X H x) ∧ (∀ f, f ≠ 1804 → f ≠ 1805 → yR H' f (X 8) = yR H f (X 8)) ∧ ∀ f, yI H' f (X 8) = yI H f (X 8)
theorem PL_22 (hF : Lf C B X H) {a : Nat} (h : yK H a = 22 ∨ yK H a = 6) : ¬ PL X H a := by
  obtain ⟨k0, k1, k2, k3, k4, k5, k6, k7⟩ := hF.1.2.1
  rintro (rfl | rfl | rfl | rfl | rfl | ⟨_, q⟩) <;> omega
theorem TokY_putR {k : Tok} {w : Option Nat} (h : TokY C B H a k) (hf : f = 1804 ∨ f = 1805) : TokY C B (yputR H f x w) a k := by
  obtain ⟨h1, h2, h3, h4, ⟨s, h5, h6⟩, h7⟩ := h
  refine ⟨h1, h2, (yputR_f (by omega)).trans h3, h4, ⟨s, (yputR_f (by omega)).trans h5, ?_⟩, h7⟩
  obtain ⟨g1, g2, g3, e, g4, g5⟩ := h6
  exact ⟨g1, g2, g3, e, (yputR_f (by omega)).trans g4, g5⟩
theorem y_pass {c k : Tok} (hKD : KD C) (hC : CW C) (hE : CE C H) (hB : ∀ x, B x → x < ynx H) (hP : PsY C B X H c k) (hk : k.1 ≤ 6) (hF : Lf C B X H) (hT : Lt X H t i) (hN : LnY B X H KW cap) (hKW : KW.length ≤ n) (hn : yI H 2405 (X 0) = (n : Int)) (hn2 : n ≤ 1000)
    (h6 : k.1 = 6 → ∀ H', PsY C B X H' k k → H' = yputR H 1804 (X 8) (yR H 1805 (X 8)) → Q (some none) H')
    (hok : k.1 ≠ 6 → ∀ k' j H', sRead t n i = .inr (k', j) → PaOk C B X t KW cap n H k k' j H' → Q (some none) H')
    (her : k.1 ≠ 6 → ∀ (e : Int) p H', sRead t n i = .inl (e, p) → ThOk C B X t KW cap (yputR H 1804 (X 8) (yR H 1805 (X 8))) e p H' → Q none H') :
    zW (YL C (d + 11) 106 [zr (X 8)] H) Q := by
  obtain ⟨p1, p2, p3, p4, ⟨ac, p5, p6⟩, ak, p7, p8⟩ := hP
  refine yl_Parser_pass ?_
  unfold yb_Parser_pass
  refine zW_gR p2 rfl ?_
  rw [p7]
  rw [p7] at h6 her
  refine zW_pR p2 (by decide) (zW_gR (by exact p2) rfl ?_)
  rw [yputR_at]
  have t1 : TokY C B (yputR H 1804 (X 8) (some ak)) ak k := TokY_putR p8 (Or.inl rfl)
  have ps1 : PsY C B X (yputR H 1804 (X 8) (some ak)) k k := ⟨p1, p2, (yputR_f (by decide)).trans p3, (yputR_f (by decide)).trans p4, ⟨ak, yputR_at, t1⟩, ak, (yputR_f (by decide)).trans p7, t1⟩
  refine zW_gR t1.2.1 rfl (zW_svR ?_)
  rw [t1.2.2.1]
  refine zW_if (fun y => zW_rV (h6 (hKD k.1 6 hk (by decide) y) _ ps1 rfl)) (fun y => ?_)
  have hk6 : k.1 ≠ 6 := fun q => y (by rw [q]; rfl)
  have h8 : ∀ j, j < 8 → X j ≠ X 8 := by
    intro j hj q
    obtain ⟨k0, k1, k2, k3, k4, k5, k6, k7⟩ := hF.1.2.1
    have := congrArg (yK H) q
    have hj : j = 0 ∨ j = 1 ∨ j = 2 ∨ j = 3 ∨ j = 4 ∨ j = 5 ∨ j = 6 ∨ j = 7 := by omega
    rcases hj with rfl | rfl | rfl | rfl | rfl | rfl | rfl | rfl <;> omega
  have ex1 : yEx (fun x => x = X 8) 0 0 H (yputR H 1804 (X 8) (some ak)) := yEx_putR yEx_refl (fun _ => rfl)
  have PN1 : PN B (fun x => x = X 8) H := by
    rintro x rfl _
    omega
  have F1 := Lf_ex hF ex1 PN1 (h8 0 (by decide)) (h8 1 (by decide)) (h8 3 (by decide))
  have T1 := Lt_ex hF hT ex1 (h8 0 (by decide)) (h8 2 (by decide))
  have N1 := LnY_ex hF hN ex1 PN1 (h8 5 (by decide)) (h8 6 (by decide)) (h8 7 (by decide)) (fun e _ q z => by rw [z] at q; omega)
  have E1 := CE_ex hE ex1
  have M1 := PL_ex hF ex1 (h8 5 (by decide))
  have n1 : yI (yputR H 1804 (X 8) (some ak)) 2405 (X 0) = (n : Int) := hn
  have hPL : ∀ x, x < ynx H → PL X H x → PL X (yputR H 1804 (X 8) (some ak)) x := by
    rintro x hx (q | q | q | q | q | ⟨q1, q2⟩)
    · exact Or.inl q
    · exact Or.inr (Or.inl q)
    · exact Or.inr (Or.inr (Or.inl q))
    · exact Or.inr (Or.inr (Or.inr (Or.inl q)))
    · exact Or.inr (Or.inr (Or.inr (Or.inr (Or.inl q))))
    · exact Or.inr (Or.inr (Or.inr (Or.inr (Or.inr ⟨(yputR_f (by decide)).trans q1, q2⟩))))
  refine zW_gR (by exact p2) rfl ?_
  rw [ps1.2.2.2.1, ycv_lex' F1]
  refine zW_Q (P := fun ro H2 => ∃ k' j, sRead t n i = .inr (k', j) ∧ NxOk C B X t KW cap n (yputR H 1804 (X 8) (some ak)) k' j ro H2) (T := fun H2 => Q none H2) (zW_c (y_next (d := d) (fun q => by have := hKD 4 5 (by decide) (by decide) q; omega) hC E1 hB F1 T1 N1 hKW n1 hn2 (fun k' j r H' q1 q2 => ⟨k', j, q1, q2⟩) (fun e p H' q1 q2 => her hk6 e p H' q1 q2))) ?_ (fun _ q => q)
  rintro ro H2 ⟨k', j, hr, tk, KW', cap', rfl, g2, g3, g4, g5, g6, g7, g8, g9, g10⟩
  have nP8 : ¬ PL X (yputR H 1804 (X 8) (some ak)) (X 8) := PL_22 F1 (Or.inr p2)
  have s8 := g9.1 (X 8) p1 nP8
  have k8 : yK H2 (X 8) = 6 := (g9.2.1 (X 8) p1).1.trans p2
  have x8 : X 8 < ynx H2 := Nat.lt_of_lt_of_le p1 g9.2.2.1
  have PNn : PN B (PL X (yputR H 1804 (X 8) (some ak))) (yputR H 1804 (X 8) (some ak)) := PN_PL F1
  have tk2 : TokY C B H2 ak k := TokY_ex t1 g9 PNn (PL_22 F1 (Or.inl t1.2.1))
  have ex3 : yEx (fun x => x = X 8) 0 0 H2 (yputR H2 1805 (X 8) (some tk)) := yEx_putR yEx_refl (fun _ => rfl)
  have PN3 : PN B (fun x => x = X 8) H2 := by
    rintro x rfl _
    omega
  refine zW_pR k8 (by decide) (zW_rV (hok hk6 k' j _ hr ⟨⟨x8, k8, ?_, ?_, ⟨ak, ?_, TokY_putR tk2 (Or.inr rfl)⟩, tk, yputR_at, TokY_putR g2 (Or.inr rfl)⟩, ?_, ?_, KW', cap', ?_, g6, g7, g8, ?_, fun x hx q => ?_, fun f hf1 hf2 => ?_, fun f => ?_⟩))
  · exact (yputR_f (by decide)).trans ((s8.2.1 1800).trans ps1.2.2.1)
  · exact (yputR_f (by decide)).trans ((s8.2.1 1801).trans ps1.2.2.2.1)
  · exact (yputR_f (by decide)).trans ((s8.2.1 1804).trans yputR_at)
  · exact Lf_ex g3 ex3 PN3 (h8 0 (by decide)) (h8 1 (by decide)) (h8 3 (by decide))
  · exact Lt_ex g3 g4 ex3 (h8 0 (by decide)) (h8 2 (by decide))
  · exact LnY_ex g3 g5 ex3 PN3 (h8 5 (by decide)) (h8 6 (by decide)) (h8 7 (by decide)) (fun e _ q z => by rw [z] at q; omega)
  · refine yEx_mono (yEx_trans (yEx_trans (P := fun x => PL X H x ∨ x = X 8) (yEx_mono ex1 (fun _ _ z => Or.inr z) (Nat.le_refl _) (Nat.le_refl _)) g9 (fun x hx q => Or.inl (M1 x hx q))) ex3 (fun x hx q => Or.inr q)) (fun _ _ z => z) (by omega) (by omega)
  · exact M1 x hx (g10 x hx (PL_ex g3 ex3 (h8 5 (by decide)) x (by have := g9.2.2.1; exact Nat.lt_of_lt_of_le hx this) q))
  · exact (yputR_f hf2).trans ((s8.2.1 f).trans (yputR_f hf1))
  · exact s8.1 f
end YPass
