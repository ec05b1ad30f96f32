set_option maxRecDepth 100000
/-! NUMBERS as digits: in the House -/
theorem zdivL_pos {a b : Int} (ha : 0 ≤ a ∧ a < 9223372036854775808) (hb : 0 < b ∧ b < 9223372036854775808) : zdivL a b = a / b := by
  have h1 : (i64 a).toInt = a := i64_toInt ⟨by omega, by omega⟩
  have h2 : (i64 b).toInt = b := i64_toInt ⟨by omega, by omega⟩
  unfold zdivL
  rw [Int64.toInt_div, h1, h2, Int.tdiv_eq_ediv_of_nonneg ha.1]
  have h3 : 0 ≤ a / b := Int.ediv_nonneg ha.1 (by omega)
  have h4 : a / b ≤ a := Int.ediv_le_self b ha.1
  exact Int.bmod_eq_of_le (by omega) (by omega)
/-- m + 1 digits -/
def dgm : Nat → Nat → List Int
  | 0, n => [((48 + n % 10 : Nat) : Int)]
  | m + 1, n => ((48 + n / 10 ^ (m + 1) % 10 : Nat) : Int) :: dgm m n
theorem dgm_last : ∀ m n, dgm (m + 1) n = dgm m (n / 10) ++ [((48 + n % 10 : Nat) : Int)]
  | 0, n => by
    show [_, _] = [_, _]
    rw [Nat.pow_one]
  | m + 1, n => by
    show _ :: dgm (m + 1) n = _ :: dgm m (n / 10) ++ _
    rw [dgm_last m n, Nat.div_div_eq_div_mul, show 10 * 10 ^ (m + 1) = 10 ^ (m + 1 + 1) by rw [Nat.pow_succ 10 (m + 1), Nat.mul_comm]]
    rfl
theorem toDigits_step {n : Nat} (h : 10 ≤ n) : Nat.toDigits 10 n = Nat.toDigits 10 (n / 10) ++ [Nat.digitChar (n % 10)] := by
  rw [Nat.toDigits_of_base_le (by decide) h]
theorem digc : ∀ k, k < 10 → ((Nat.digitChar k).toNat : Int) = ((48 + k : Nat) : Int) := by decide
theorem dgs_dgm : ∀ m n, n < 10 ^ (m + 1) → (m = 0 ∨ 10 ^ m ≤ n) → dgs n = dgm m n
  | 0, n, h, _ => by
    have hn : n < 10 := by simpa using h
    unfold dgs
    rw [Nat.toDigits_of_lt_base hn]
    show [((Nat.digitChar n).toNat : Int)] = [((48 + n % 10 : Nat) : Int)]
    rw [digc n hn, Nat.mod_eq_of_lt hn]
  | m + 1, n, h, h2 => by
    have h2 : 10 ^ (m + 1) ≤ n := h2.resolve_left (by omega)
    have h10 : 10 ≤ n := Nat.le_trans (by have := Nat.pow_le_pow_right (n := 10) (by decide) (show 1 ≤ m + 1 by omega); simpa using this) h2
    have e1 : dgs n = dgs (n / 10) ++ [((48 + n % 10 : Nat) : Int)] := by
      unfold dgs
      rw [toDigits_step h10, List.map_append]
      congr 1
      show [((Nat.digitChar (n % 10)).toNat : Int)] = [_]
      rw [digc _ (Nat.mod_lt _ (by decide))]
    rw [e1, dgm_last]
    congr 1
    refine dgs_dgm m (n / 10) ?_ ?_
    · rw [Nat.div_lt_iff_lt_mul (by decide)]
      rw [Nat.pow_succ] at h; omega
    · by_cases hm : m = 0
      · exact Or.inl hm
      · right
        rw [Nat.le_div_iff_mul_le (by decide)]
        rw [Nat.pow_succ] at h2; omega
theorem dgm_len : ∀ m n, (dgm m n).length = m + 1
  | 0, _ => rfl
  | m + 1, n => congrArg (· + 1) (dgm_len m n)
section YDig
variable {C : YC} {B P : Nat → Prop} {H H' : YS} {a e c s d n cap : Nat} {b : List Int} {Q : Option (Option ZV) → YS → Prop}
/-- the digits that are still to come, from 10 ^ m on -/
theorem y_dgLoop (hC : CW C) : ∀ (m : Nat) (H : YS) (e cap : Nat) (b : List Int), SbY H a e cap b → n < 10000000000 → m ≤ 10 → b.length + m ≤ 400 → cap ≤ 2000 → zW (YL C (d + 6) 759 [zr a, .inr (.inl (n : Int)), .inr (.inl ((10 ^ m : Nat) : Int))] H) (fun o H1 => o = some none ∧ ∃ e1 cap1, SbY H1 a e1 cap1 (b ++ dgm m n) ∧ cap ≤ cap1 ∧ cap1 ≤ max cap (2 * (b.length + m) + 2) ∧ (e1 = e ∨ ynx H ≤ e1) ∧ yEx (fun x => x = a ∨ x = e) (m + 1) (2 * (cap1 - cap)) H H1) := by
  intro m
  induction m with
  | zero =>
    intro H e cap b hb hn hm hl hcap
    refine yl_MlHouse_sayNumber_p42 ?_
    unfold yb_MlHouse_sayNumber_p42
    rw [show ((10 ^ 0 : Nat) : Int) = 1 from rfl]
    refine zW_f (by omega) (zW_G (by omega) ?_)
    rw [zdivL_pos (by omega) (by omega), Int.ediv_one, zdivL_pos (by omega) (by omega)]
    have hv : (48 : Int) + ((n : Int) - (n : Int) / 10 * 10) = ((48 + n % 10 : Nat) : Int) := by omega
    rw [hv, zl2i_in ⟨by omega, by omega⟩, zchar_x (by omega), ycv_s hb.2.1 ⟨by decide, rfl⟩]
    refine zW_Q (P := fun _ H1 => ∃ e1 cap1, SbY H1 a e1 cap1 (b ++ [((48 + n % 10 : Nat) : Int)]) ∧ cap ≤ cap1 ∧ cap1 ≤ max cap (2 * b.length + 2) ∧ (e1 = e ∨ ynx H ≤ e1) ∧ yEx (fun x => x = a ∨ x = e) 1 (2 * (cap1 - cap)) H H1) (T := fun _ => False) (zW_c (zW_mono (y_sbAppend (d := d) hC hb (by omega) (by omega)) (fun o H1 q => by rw [q.1]; exact q.2))) ?_ (fun _ q => q.elim)
    rintro v H1 ⟨e1, cap1, q1, q2, q3, q4, q5⟩
    rw [zdivL_pos (by omega) (by omega)]
    refine zW_let (yl_MlHouse_sayNumber_p42 ?_)
    unfold yb_MlHouse_sayNumber_p42
    refine zW_t (by decide) (zW_rV ⟨rfl, e1, cap1, q1, q2, by omega, q4, yEx_mono q5 (fun _ _ z => z) (by omega) (Nat.le_refl _)⟩)
  | succ m ih =>
    intro H e cap b hb hn hm hl hcap
    have hp : (1 : Int) ≤ ((10 ^ m : Nat) : Int) ∧ ((10 ^ m : Nat) : Int) ≤ 1000000000 := by
      have h1 : 10 ^ m ≤ 10 ^ 9 := Nat.pow_le_pow_right (by decide) (by omega)
      have h2 : 0 < 10 ^ m := Nat.pow_pos (by decide)
      omega
    have hs : ((10 ^ (m + 1) : Nat) : Int) = 10 * ((10 ^ m : Nat) : Int) := by rw [Nat.pow_succ]; omega
    refine yl_MlHouse_sayNumber_p42 ?_
    unfold yb_MlHouse_sayNumber_p42
    refine zW_f (by omega) (zW_G (by omega) ?_)
    have e1 : zdivL (n : Int) ((10 ^ (m + 1) : Nat) : Int) = ((n / 10 ^ (m + 1) : Nat) : Int) := by
      rw [zdivL_pos (by omega) (by omega)]; exact (Int.natCast_ediv _ _).symm
    have hq : n / 10 ^ (m + 1) ≤ n := Nat.div_le_self _ _
    have hq0 : 0 ≤ ((n / 10 ^ (m + 1) : Nat) : Int) ∧ ((n / 10 ^ (m + 1) : Nat) : Int) < 10000000000 := ⟨Int.natCast_nonneg _, by omega⟩
    rw [e1, zdivL_pos ⟨hq0.1, by omega⟩ (by omega)]
    generalize hqq : n / 10 ^ (m + 1) = q at *
    have hv : (48 : Int) + ((q : Int) - (q : Int) / 10 * 10) = ((48 + q % 10 : Nat) : Int) := by omega
    rw [hv, zl2i_in ⟨by omega, by omega⟩, zchar_x (by omega), ycv_s hb.2.1 ⟨by decide, rfl⟩]
    refine zW_Q (P := fun _ H1 => ∃ e1 cap1, SbY H1 a e1 cap1 (b ++ [((48 + q % 10 : Nat) : Int)]) ∧ cap ≤ cap1 ∧ cap1 ≤ max cap (2 * b.length + 2) ∧ (e1 = e ∨ ynx H ≤ e1) ∧ yEx (fun x => x = a ∨ x = e) 1 (2 * (cap1 - cap)) H H1) (T := fun _ => False) (zW_c (zW_mono (y_sbAppend (d := d) hC hb (by omega) (by omega)) (fun o H1 q => by rw [q.1]; exact q.2))) ?_ (fun _ q => q.elim)
    rintro v H1 ⟨e1, cap1, q1, q2, q3, q4, q5⟩
    have hlen : (b ++ [((48 + q % 10 : Nat) : Int)]).length = b.length + 1 := by rw [List.length_append]; rfl
    have hdv : zdivL ((10 ^ (m + 1) : Nat) : Int) 10 = ((10 ^ m : Nat) : Int) := by rw [zdivL_pos (by omega) (by omega)]; omega
    rw [hdv]
    refine zW_let (zW_mono (ih H1 e1 cap1 _ q1 hn (by omega) (by omega) (by omega)) ?_)
    rintro o H2 ⟨rfl, e2, cap2, w1, w2, w3, w4, w5⟩
    have hn1 := q5.2.2.1
    refine ⟨rfl, e2, cap2, ?_, by omega, by omega, ?_, ?_⟩
    · rw [List.append_assoc] at w1
      have : dgm (m + 1) n = ((48 + q % 10 : Nat) : Int) :: dgm m n := by rw [← hqq]; rfl
      rw [this]; exact w1
    · rcases w4 with w4 | w4
      · rw [w4]; exact q4
      · right; omega
    · refine yEx_mono (yEx_trans q5 w5 (fun x hx z => ?_)) (fun _ _ z => z) (by omega) (by omega)
      rcases z with z | z
      · exact Or.inl z
      · rcases q4 with q4 | q4
        · exact Or.inr (z.trans q4)
        · omega
/-- up to the highest digit -/
theorem y_dgUp (hC : CW C) {b : List Int} {K : Nat} (hK : n < 10 ^ K ∧ K ≤ 10 ∧ 0 < K) (hn : n < 10000000000) (hb : SbY H a e cap b) (hl : b.length ≤ 300) (hcap : cap ≤ 2000) : ∀ (i m : Nat), K ≤ m + i → m < K → (m = 0 ∨ 10 ^ m ≤ n) → zW (YL C (d + 6) 513 [zr a, .inr (.inl (n : Int)), .inr (.inl ((10 ^ m : Nat) : Int))] H) (fun o H1 => o = some none ∧ ∃ e1 cap1, SbY H1 a e1 cap1 (b ++ dgs n) ∧ cap ≤ cap1 ∧ cap1 ≤ max cap (2 * (b.length + K) + 2) ∧ (e1 = e ∨ ynx H ≤ e1) ∧ yEx (fun x => x = a ∨ x = e) K (2 * (cap1 - cap)) H H1) := by
  intro i
  induction i with
  | zero => intro m h1 h2; omega
  | succ i ih =>
    intro m h1 h2 h3
    have hp : (1 : Int) ≤ ((10 ^ m : Nat) : Int) ∧ ((10 ^ m : Nat) : Int) ≤ 1000000000 := by
      have h1 : 10 ^ m ≤ 10 ^ 9 := Nat.pow_le_pow_right (by decide) (by omega)
      have h2 : 0 < 10 ^ m := Nat.pow_pos (by decide)
      omega
    refine yl_MlHouse_sayNumber_p20 ?_
    unfold yb_MlHouse_sayNumber_p20
    have e1 : zdivL (n : Int) ((10 ^ m : Nat) : Int) = ((n / 10 ^ m : Nat) : Int) := by
      rw [zdivL_pos (by omega) (by omega)]; exact (Int.natCast_ediv _ _).symm
    rw [e1]
    refine zW_G (by omega) (zW_if (fun y => ?_) (fun y => ?_))
    · have hlt : n < 10 ^ (m + 1) := by
        have : n / 10 ^ m < 10 := by omega
        rw [Nat.div_lt_iff_lt_mul (Nat.pow_pos (by decide))] at this
        rw [Nat.pow_succ]; omega
      rw [dgs_dgm m n hlt h3]
      refine zW_mono (y_dgLoop (d := d) hC m H e cap b hb hn (by omega) (by omega) hcap) ?_
      rintro o H1 ⟨rfl, e1, cap1, q1, q2, q3, q4, q5⟩
      exact ⟨rfl, e1, cap1, q1, q2, by omega, q4, yEx_mono q5 (fun _ _ z => z) (by omega) (Nat.le_refl _)⟩
    · have hge : 10 ^ (m + 1) ≤ n := by
        have : 10 ≤ n / 10 ^ m := by omega
        rw [Nat.le_div_iff_mul_le (Nat.pow_pos (by decide))] at this
        rw [Nat.pow_succ]; omega
      have hm9 : m + 1 < K := by
        by_cases w : m + 1 = K
        · exfalso
          rw [w] at hge
          omega
        · omega
      refine zW_G (by omega) (zW_let ?_)
      rw [show ((10 ^ m : Nat) : Int) * 10 = ((10 ^ (m + 1) : Nat) : Int) by rw [Nat.pow_succ]; omega]
      exact ih (m + 1) (by omega) hm9 (Or.inr hge)
theorem y_digits (hC : CW C) (hB : ∀ x, B x → x < ynx H) (hn : n < 10000) : zW (YL C (d + 8) 224 [.inl (n : Int)] H) (fun o H1 => ∃ s, o = some (some (.inr (.inr (some s)))) ∧ StrY B H1 s (dgs n) ∧ yEx (fun _ => False) 8 24 H H1) := by
  refine yl_Machine_digits ?_
  unfold yb_Machine_digits
  refine zW_new ?_
  rw [if_neg (by decide), ycs_s]
  have x0 : yEx (fun _ => False) 1 4 H (ymk H 23 0 4) := yEx_mono (yEx_mk (c := 0) (s := 0) yEx_refl) (fun _ _ z => z) (by omega) (by omega)
  have k0 : yK (ymk H 23 0 4) (ynx H) = 23 := by rw [ymk_K, if_pos rfl]
  have i0 : yI (ymk H 23 0 4) 6901 (ynx H) = 0 := by rw [ymk_I, if_pos rfl]
  have i1 : yI (ymk H 23 0 4) 6903 (ynx H) = 0 := by rw [ymk_I, if_pos rfl]
  have l0 : ynx H < ynx (ymk H 23 0 4) := by rw [ymk_x]; omega
  have l1 : ynx (ymk H 23 0 4) = ynx H + 1 := rfl
  generalize ymk H 23 0 4 = H0 at *
  generalize ha : ynx H = a at *
  refine zW_V (P := fun H1 => SbY H1 a (ynx H0) 11 [] ∧ yEx (fun x => x = a) 1 11 H0 H1) (T := fun _ => False) (zW_c (zW_mono (y_sbInit (d := d + 6) (n := 11) hC l0 k0 i0 i1 (by decide)) (fun o H1 q => by rw [q.1]; exact q.2))) ?_ (fun _ q => q.elim)
  rintro H1 ⟨b1, x1⟩
  have hn1 := x1.2.2
  refine zW_let ?_
  have abs : YL C (d + 6) 511 [.inr (.inl (n : Int))] H1 = some (some (some (.inr (.inl (n : Int)))), H1) := by
    refine zW_get (yl_Math_abs ?_)
    unfold yb_Math_abs
    exact zW_f (by omega) (zW_rL ⟨rfl, rfl⟩)
  refine zW_V (P := fun H2 => ∃ e2 cap2, SbY H2 a e2 cap2 (dgs n) ∧ 11 ≤ cap2 ∧ cap2 ≤ 11 ∧ yEx (fun x => x = a ∨ x = ynx H0) 4 (2 * (cap2 - 11)) H1 H2) (T := fun _ => False) (zW_c (yl_MlHouse_sayNumber ?_)) ?_ (fun _ q => q.elim)
  · unfold yb_MlHouse_sayNumber
    refine zW_Je abs (zW_let (zW_f (by omega) (zW_let (zW_mono (y_dgUp (d := d + 1) (K := 4) hC ⟨by omega, by decide, by decide⟩ (by omega) b1 (by decide) (by decide) 4 0 (by decide) (by decide) (Or.inl rfl)) ?_))))
    rintro o H2 ⟨rfl, e2, cap2, q1, q2, q3, q4, q5⟩
    have : ([] : List Int).length = 0 := rfl
    exact ⟨e2, cap2, q1, q2, by omega, q5⟩
  · rintro H2 ⟨e2, cap2, b2, c1, c2, x2⟩
    have hn2 := x2.2.2
    have hB2 : ∀ x, B x → x < ynx H2 := fun x q => by have := hB x q; omega
    rw [ycv_s b2.2.1 ⟨by decide, rfl⟩]
    refine zW_Q (P := fun v H3 => v = some (ynx H2) ∧ StrY B H3 (ynx H2) (dgs n) ∧ yEx (fun _ => False) 2 (4 + (dgs n).length) H2 H3) (T := fun _ => False) (zW_c (zW_mono (y_toString (d := d + 2) hC hB2 b2 (by omega)) (fun o H3 q => by rw [q.1]; exact ⟨rfl, q.2.1, q.2.2.1⟩))) ?_ (fun _ q => q.elim)
    rintro v H3 ⟨rfl, s3, x3⟩
    have hlen : (dgs n).length ≤ 4 := by
      have : ∀ m n : Nat, n < 10 ^ (m + 1) → (dgs n).length ≤ m + 1 := by
        intro m
        induction m with
        | zero => intro n h; rw [dgs_dgm 0 n h (Or.inl rfl)]; exact Nat.le_refl _
        | succ m ih =>
          intro n h
          by_cases w : n < 10 ^ (m + 1)
          · have := ih n w; omega
          · rw [dgs_dgm (m + 1) n h (Or.inr (by omega)), dgm_len]; exact Nat.le_refl _
      exact this 3 n (by omega)
    refine zW_rQ ⟨ynx H2, rfl, s3, yEx_mono (yEx_trans (yEx_trans (yEx_trans (P := fun _ => False) x0 x1 (fun x hx z => by omega)) x2 (fun x hx z => by omega)) x3 (fun _ _ z => z)) (fun _ _ z => z) (by omega) (by omega)⟩
/-- numbers' cells apart, the owner's row of labels -/
theorem PB0_11 {X : Nat → Nat} {dp : Nat} {F : List (List Int × Int × Int)} {η : Et} (h : PB0 C B X H dp F η) (hx : yEx (fun x => x = X 11) c s H H') (hnum : ∀ j : Nat, j < 1001 → yB H' (X 11) j = none ∨ ∃ s, yB H' (X 11) j = some s ∧ StrY B H' s (dgs j)) : PB0 C B X H' dp F η := by
  obtain ⟨⟨a1, a2, a3, a4, a5, a6⟩, ⟨b1, b2, b3, b4, b5, ea, b6, b7⟩, ⟨c1, c2, c3, c4, c5, c6, c7, c8⟩, ⟨d1, d2, d3⟩, e1, ⟨f1, f2, f3, f4, f5⟩, g1, O2, o1, o2⟩ := h
  have hn := hx.2.2.1
  have lt := a6.1.1
  obtain ⟨k0, k1, k2, k3, k4, k5, k6, k7⟩ := a6.1.2.1
  have im : Im B (fun x => x = X 11) H := by
    refine ⟨fun x q _ => ?_, fun x q _ => ?_⟩ <;> rw [q, f2] <;> omega
  have ne : ∀ x, yK H x ≠ 1006 → x ≠ X 11 := fun x q w => q (by rw [w]; exact f2)
  have s5 := hx.1 (X 5) (lt 5 (by decide)) (ne _ (by omega))
  have s8 := hx.1 (X 8) c1 (ne _ (by omega))
  have pl : ∀ x, PL X H' x → PL X H x := by
    rintro x (q | q | q | q | q | ⟨q1, q2⟩)
    · exact Or.inl q
    · exact Or.inr (Or.inl q)
    · exact Or.inr (Or.inr (Or.inl q))
    · exact Or.inr (Or.inr (Or.inr (Or.inl q)))
    · exact Or.inr (Or.inr (Or.inr (Or.inr (Or.inl q))))
    · rw [s5.2.1, b6] at q1
      have := Option.some.inj q1
      subst this
      exact Or.inr (Or.inr (Or.inr (Or.inr (Or.inr ⟨b6, by rw [← (hx.2.1 ea b7).1]; exact q2⟩))))
  exact ⟨⟨fun x q => by have := a1 x q; omega, fun x q => by have := a2 x q; omega, a3, a4, ⟨CE_ex a5.1 hx, KI_ex a5.2 hx im⟩, Lf_ex a6 hx im.1 (ne _ (by omega)) (fun q => f4 q.symm) (ne _ (by omega))⟩, ⟨fun x q => b1 x (pl x q), b2, b3, b4, b5, ea, (s5.2.1 _).trans b6, by omega⟩, ⟨by omega, (hx.2.1 _ c1).1.trans c2, (s8.2.1 _).trans c3, (s8.2.1 _).trans c4, (s8.2.1 _).trans c5, (s8.2.1 _).trans c6, (s8.2.1 _).trans c7, (s8.2.1 _).trans c8⟩, ⟨(s8.1 _).trans d1, d2, (s8.1 _).trans d3⟩, ImY_ex e1 hx im, ⟨by omega, (hx.2.1 _ f1).1.trans f2, (hx.2.1 _ f1).2.trans f3, f4, hnum⟩, g1, O2, fun x q => ⟨(o1 x q).1, fun w => (o1 x q).2.1 (pl x w), (o1 x q).2.2⟩, sep_ex hx im _ O2 (fun x q => (o1 x q).2.2.2.1) o2⟩
/-- a number as a label -/
theorem zW_number {X : Nat → Nat} {t : List Int} {Γ : Gm} {σ : Ps} {η : Et} {M : List (Gt × Option Nat)} {g h : Int} {k : Option Nat → YS → ZR YS} (hd : 12 ≤ d) (hn : n < 1001) (S : SS C B X t Γ H σ η M g h) (hk : ∀ H1 s, SS C B X t Γ H1 σ η ((oS (dgs n), some s) :: M) (g + 8) (h + 24) → zW (k (some s) H1) Q) : zW (zQ (ycv (YL C) d [(6, 121)] (some (X 8)) [.inl (n : Int)] H) k) Q := by
  obtain ⟨d, rfl⟩ : ∃ e, d = e + 11 := ⟨d - 11, by omega⟩
  have p0 := S.1.1
  obtain ⟨f1, f2, f3, f4, f5⟩ := p0.2.2.2.2.2.1
  have r11 := p0.2.2.1.2.2.2.2.2.2.2
  rw [ycv_s (SS_8 S) ⟨by decide, rfl⟩]
  refine zW_Q (P := fun v H1 => ∃ s, v = some s ∧ SS C B X t Γ H1 σ η ((oS (dgs n), some s) :: M) (g + 8) (h + 24)) (T := fun _ => False) (zW_c (yl_Parser_number ?_)) (fun v H1 ⟨s, q1, q2⟩ => by rw [q1]; exact hk H1 s q2) (fun _ q => q.elim)
  unfold yb_Parser_number
  refine zW_gR (SS_8 S) rfl ?_
  rw [r11]
  refine zW_aR (by omega) (by omega) ?_
  rcases f5 n hn with q | ⟨s, q1, q2⟩
  · rw [q]
    refine zW_n0 (zW_gR (SS_8 S) rfl ?_)
    rw [r11]
    refine zW_Q (P := fun v H1 => ∃ s, v = some s ∧ StrY B H1 s (dgs n) ∧ yEx (fun _ => False) 8 24 H H1) (T := fun _ => False) (zW_c (zW_mono (y_digits (d := d + 1) (SS_W S) p0.1.2.1 (by omega)) (fun o H1 ⟨s, q1, q2⟩ => by rw [q1]; exact ⟨s, rfl, q2⟩))) ?_ (fun _ q => q.elim)
    rintro v H1 ⟨s, rfl, s1, x1⟩
    have imF : Im B (fun _ => False) H := ⟨PN_F, fun _ q => q.elim⟩
    have S1 := SS_loc S x1 imF (fun _ _ q => q.elim) (Lv_ex S.2.1 x1 imF (fun _ _ q => q.elim) (fun _ _ q => q))
    have p1 := S1.1.1
    obtain ⟨g1, g2, g3, g4, g5⟩ := p1.2.2.2.2.2.1
    have k8 := SS_8 S1
    have r1 := p1.2.2.1.2.2.2.2.2.2.2
    have x2 : yEx (fun x => x = X 11) 0 0 H1 (ysetR H1 (X 11) (n : Int) (some s)) := yEx_setR yEx_refl (fun _ => rfl)
    have im : Im B (fun x => x = X 11) H1 := by
      refine ⟨fun x q _ => ?_, fun x q _ => ?_⟩ <;> rw [q, g2] <;> omega
    have s2 := StrY_ex s1 x2 im.1
    refine zW_sR (by omega) (by omega) ?_ ?_
    · rw [g2]
      show yokE 1006 (yK H1 s) = true
      rcases s1.2.1 with w | w <;> rw [w] <;> decide +kernel
    refine zW_gR (by exact k8) rfl ?_
    rw [show yR (ysetR H1 (X 11) (n : Int) (some s)) 1809 (X 8) = some (X 11) from r1]
    refine zW_aR (by show (1005 ≤ yK H1 (X 11) ∧ yK H1 (X 11) < 1012) ∨ _; omega) (by show 0 ≤ (n : Int) ∧ (n : Int) < yN H1 (X 11); omega) ?_
    rw [ysetR_at]
    have hO := p1.2.1.2.2.1
    refine zW_rQ ⟨s, rfl, SS_im (Or.inl rfl) ⟨s2.1, s2⟩ ?_⟩
    obtain ⟨⟨h0, h1, h2, ⟨KW, h3, h4⟩, h5, h6⟩, L, E, hOO, hg1, hh1, hw1⟩ := S1
    have lt := h0.1.2.2.2.2.2.1.1
    obtain ⟨k0, k1, k2, k3, k4, k5, k6, k7⟩ := h0.1.2.2.2.2.2.1.2.1
    have ne : ∀ x, yK H1 x ≠ 1006 → x ≠ X 11 := fun x q w => q (by rw [w]; exact g2)
    refine ⟨⟨PB0_11 h0 x2 (fun j hj => ?_), tkO_ex h0 h1 x2 im (ne _ (by omega)), Lt_ex h0.1.2.2.2.2.2 h2 x2 (ne _ (by omega)) (ne _ (by omega)), ⟨KW, LnY_ex h0.1.2.2.2.2.2 h3 x2 im.1 (ne _ (by omega)) (ne _ (by omega)) (ne _ (by omega)) (fun e _ q w => ne e (by omega) w), h4⟩, h5, h6⟩, Lv_ex L x2 im (fun x _ w => by rw [w]; exact hO) (fun _ _ w => w), Gm_ex E x2 (fun x q w => hOO x q (by rw [w]; exact hO)), hOO, by show (ynx H1 : Int) + _ + _ ≤ _; omega, by show (ysl H1 : Int) + _ + _ ≤ _; omega, hw1⟩
    by_cases hjn : (j : Int) = (n : Int)
    · right
      rw [hjn]
      refine ⟨s, ysetR_at, ?_⟩
      have : j = n := by omega
      rw [this]; exact s2
    · rw [show yB (ysetR H1 (X 11) (n : Int) (some s)) (X 11) (j : Int) = yB H1 (X 11) (j : Int) from ysetR_j hjn]
      exact (g5 j hj).imp id (fun ⟨s, q1, q2⟩ => ⟨s, q1, StrY_ex q2 x2 im.1⟩)
  · rw [q1]
    refine zW_nn (zW_gR (SS_8 S) rfl ?_)
    rw [r11]
    refine zW_aR (by omega) (by omega) ?_
    rw [q1]
    exact zW_rQ ⟨s, rfl, SS_im (Or.inl rfl) ⟨q2.1, q2⟩ (SS_mono S (by omega) (by omega))⟩
end YDig
