set_option maxRecDepth 100000
/-! THE HOUSE'S LEXER: a name's String -/
section YPiece
variable {B P : Nat → Prop} {C : YC} {X : Nat → Nat} {H H' H1 : YS} {a a' e e' c s d f g i j x cap : Nat} {v : Int} {t b b' : List Int} {KW : List (List Int)} {Q : Option (Option ZV) → YS → Prop}
theorem PN_PL (hF : Lf C B X H) : PN B (PL X H) H := by
  obtain ⟨k0, k1, k2, k3, k4, k5, k6, k7⟩ := hF.1.2.1
  intro x hx _
  rcases hx with rfl | rfl | rfl | rfl | rfl | ⟨_, q⟩ <;> omega
theorem PN_F : PN B (fun _ => False) H := fun _ q => q.elim
/-- what a name's String is, once it is had -/
def PcOk (C : YC) (B : Nat → Prop) (X : Nat → Nat) (t : List Int) (a i : Nat) (KW : List (List Int)) (cap : Nat) (H : YS) (r : Option Nat) (H' : YS) : Prop := ∃ s KW' cap', r = some s ∧ StrY B H' s (sl t a (i - a)) ∧ Lf C B X H' ∧ Lt X H' t i ∧ LnY B X H' KW' cap' ∧ KW'.length ≤ KW.length + 1 ∧ cap ≤ cap' ∧ yEx (PL0 X H) 40 (200 + 4 * (cap' - cap)) H H' ∧ ∀ x, x < ynx H → PL0 X H' x → PL0 X H x
theorem sl_snoc {n : Nat} (h : a + n < t.length) : sl t a (n + 1) = sl t a n ++ [tch t (a + n)] := by
  unfold sl tch
  rw [List.take_succ, List.getElem?_drop, List.getElem?_eq_getElem h]
  rfl
theorem StrY_cast (h : StrY B H x b) {k : ZR YS} (hk : zW k Q) : zW (ycc 12 9 (some x) H k) Q := by
  rcases h.2.1 with q | q
  · exact zW_cc q (by decide +kernel) hk
  · exact zW_cc q (by decide +kernel) hk
theorem y_pieceNew (hC : CW C) (hE : CE C H) (hB : ∀ x, B x → x < ynx H) (hF : Lf C B X H) (hT : Lt X H t i) (hN : LnY B X H KW cap) (hKW : KW.length ≤ 1000) (ha : a < i) (hn : i - a ≤ 30) (hsm : ∀ k, a ≤ k → k < i → tch t k < 128) {hh : Int} (hhh : 0 ≤ hh ∧ hh < 256) :
    zW (YL C (d + 7) 622 [zr (X 0), .inl (a : Int), .inl hh, .inl (-1)] H) (oQ (PcOk C B X t a i KW cap H) fun _ => False) := by
  obtain ⟨k0, k1, k2, k3, k4, k5, k6, k7⟩ := hF.1.2.1
  have hi := hT.2.2.2.1
  have hl := hT.2.2.1.1
  have lt := hF.1.1
  refine yl_Lexer_piece_p43 ?_
  unfold yb_Lexer_piece_p43
  refine zW_t rfl (zW_new ?_)
  rw [if_neg (by decide)]
  have exS : yEx (fun _ => False) 1 4 H (ymk H 23 0 4) := yEx_mono (yEx_mk (c := 0) (s := 0) yEx_refl) (fun _ _ z => z) (by omega) (by omega)
  generalize hS : ymk H 23 0 4 = HS
  rw [hS] at exS
  have kS : yK HS (ynx H) = 23 := by rw [← hS, ymk_K, if_pos rfl]
  have xS : ynx HS = ynx H + 1 := by rw [← hS]; rfl
  have iS : ∀ f, yI HS f (ynx H) = 0 := fun f => by rw [← hS, ymk_I, if_pos rfl]
  have FS := Lf_ex hF exS PN_F (fun z => z) (fun z => z) (fun z => z)
  have TS := Lt_ex hF hT exS (fun z => z) (fun z => z)
  refine zW_gI FS.1.2.1.1 rfl ?_
  rw [TS.2.1, ycs_s]
  refine zW_G (by omega) ?_
  rw [show (i : Int) - (a : Int) = ((i - a : Nat) : Int) by omega]
  refine zW_V (P := fun H1 => SbY H1 (ynx H) (ynx HS) (i - a) [] ∧ yEx (fun x => x = ynx H) 1 (i - a) HS H1) (T := fun _ => False) (zW_c (zW_mono (y_sbInit (n := i - a) hC (by omega) kS (iS _) (iS _) (by omega)) ?_)) ?_ (fun _ q => q.elim)
  · rintro o H1 ⟨rfl, q⟩
    exact q
  rintro H1 ⟨s1, x1⟩
  refine zW_let (zW_let ?_)
  have ex1 : yEx (fun _ => False) 2 (4 + (i - a)) H H1 := yEx_trans exS x1 (fun y hy q => by omega)
  -- the signs, one behind the other
  have loop : ∀ (n k : Nat) (Hk : YS) (ek capk : Nat), i < n + k → a ≤ k → k ≤ i → SbY Hk (ynx H) ek capk (sl t a (k - a)) → ynx H ≤ ek → i - a ≤ capk → capk ≤ 2 * (i - a) + 2 → yEx (fun _ => False) (2 + (k - a)) (4 + (i - a) + 2 * (capk - (i - a))) H Hk →
      (∀ (Hk : YS) (ek capk : Nat), SbY Hk (ynx H) ek capk (sl t a (i - a)) → ynx H ≤ ek → capk ≤ 2 * (i - a) + 2 → yEx (fun _ => False) 32 160 H Hk → zW (YL C (d + 7) 813 [zr (X 0), .inl hh, zr (ynx H), .inl (i : Int)] Hk) (oQ (PcOk C B X t a i KW cap H) fun _ => False)) →
      zW (YL C (d + 7) 813 [zr (X 0), .inl hh, zr (ynx H), .inl (k : Int)] Hk) (oQ (PcOk C B X t a i KW cap H) fun _ => False) := by
    intro n
    induction n with
    | zero => intro k Hk ek capk q1 q2 q3; omega
    | succ n ih =>
      intro k Hk ek capk q1 q2 q3 q4 q5 q5' q6 q7 fin
      by_cases hk : k = i
      · subst hk
        exact fin Hk ek capk q4 q5 q6 (yEx_mono q7 (fun _ _ z => z) (by omega) (by omega))
      · have Fk := Lf_ex hF q7 PN_F (fun z => z) (fun z => z) (fun z => z)
        have Tk := Lt_ex hF hT q7 (fun z => z) (fun z => z)
        have hin := tc0_in hT.2.2.1 k
        have hch := hsm k q2 (by omega)
        refine yl_Lexer_piece_p106 ?_
        unfold yb_Lexer_piece_p106
        refine zW_gI Fk.1.2.1.1 rfl ?_
        rw [Tk.2.1]
        refine zW_t (by omega) (zW_gR Fk.1.2.1.1 rfl ?_)
        rw [Fk.1.2.2.1.2.1]
        have hn2 := Fk.1.2.2.2.1.2.1
        refine zW_aI Fk.1.2.1.2.2.1 rfl (by omega) ?_
        rw [Tk.2.2.2.2 k (by omega), zbyte_small ⟨by omega, hch⟩, zchar_x ⟨by omega, by omega⟩, ycv_s q4.2.1 ⟨by decide, rfl⟩]
        have hsl : (sl t a (k - a)).length = k - a := sl_len (by omega)
        refine zW_Q (P := fun r H2 => ∃ e1 cap1, SbY H2 (ynx H) e1 cap1 (sl t a (k - a) ++ [tch t k]) ∧ capk ≤ cap1 ∧ cap1 ≤ max capk (2 * (sl t a (k - a)).length + 2) ∧ (e1 = ek ∨ ynx Hk ≤ e1) ∧ yEx (fun x => x = ynx H ∨ x = ek) 1 (2 * (cap1 - capk)) Hk H2) (T := fun _ => False) (zW_c (zW_mono (y_sbAppend (d := d + 1) hC q4 ⟨by omega, by omega⟩ (by omega)) ?_)) ?_ (fun _ q => q.elim)
        · rintro o H2 ⟨rfl, q⟩
          exact q
        · rintro r H2 ⟨e1, cap1, p1, p2, p3, p4, p5⟩
          rw [hsl] at p3
          refine zW_G (by omega) (zW_let ?_)
          rw [show (k : Int) + 1 = ((k + 1 : Nat) : Int) by omega]
          have l7 := q7.2.2.1
          refine ih (k + 1) H2 e1 cap1 (by omega) (by omega) (by omega) ?_ (by omega) (by omega) (by omega) (yEx_mono (yEx_trans q7 p5 (fun y hy q => by omega)) (fun _ _ z => z) (by omega) (by omega)) fin
          rw [show k + 1 - a = (k - a) + 1 by omega, sl_snoc (by omega), show a + (k - a) = k by omega]
          exact p1
  refine loop (i + 1) a H1 (ynx HS) (i - a) (by omega) (Nat.le_refl _) (by omega) (by rw [Nat.sub_self]; exact s1) (by omega) (Nat.le_refl _) (by omega) (yEx_mono ex1 (fun _ _ z => z) (by omega) (by omega)) ?_
  intro Hn en capn sn hen hcn exn
  have xn := exn.2.2.1
  have Fn := Lf_ex hF exn PN_F (fun z => z) (fun z => z) (fun z => z)
  have Tn := Lt_ex hF hT exn (fun z => z) (fun z => z)
  have Nn := LnY_ex hF hN exn PN_F (fun z => z) (fun z => z) (fun z => z) (fun _ _ _ z => z)
  obtain ⟨g0, e, KA, g1, g2, g3, g4, g5⟩ := Nn
  have hKA : (KA.map some).length = KW.length := by rw [List.length_map, g2]
  have R7 := Fn.1.2.2.1.2.2.2.2.2.1
  have R6 := Fn.1.2.2.1.2.2.2.2.1
  have R5 := Fn.1.2.2.1.2.2.2.1
  have N6 := Fn.1.2.2.2.1.2.2.1
  have N7 := Fn.1.2.2.2.1.2.2.2
  obtain ⟨n0, n1, n2, n3, n4, n5, n6, n7⟩ := Fn.1.2.1
  refine yl_Lexer_piece_p106 ?_
  unfold yb_Lexer_piece_p106
  refine zW_gI n0 rfl ?_
  rw [Tn.2.1]
  refine zW_f (by omega) (zW_gR n0 rfl ?_)
  rw [R7]
  refine zW_gR n0 rfl ?_
  rw [R5, ycv_s n5 ⟨by decide, rfl⟩]
  refine zW_Ie (y_size g1) (zW_gR n0 rfl ?_)
  rw [R6, hKA]
  refine zW_aI n6 rfl (by omega) ?_
  generalize hv0 : yA Hn (X 6) hh = v0
  have hv : -1 ≤ v0 ∧ v0 < KW.length := by rw [← hv0]; exact g4 hh hhh.1 hhh.2
  refine zW_yst n7 rfl (by omega) ?_
  rw [show ynar 1000 v0 = v0 from rfl]
  have exA : yEx (fun x => x = X 7 ∨ x = X 6) 0 0 Hn (yset Hn (X 7) (KW.length : Int) v0) := yEx_set yEx_refl (fun _ => Or.inl rfl)
  refine zW_gR (by exact n0) rfl ?_
  rw [show yR (yset Hn (X 7) (KW.length : Int) v0) 2407 (X 0) = some (X 6) from R6]
  refine zW_gR (by exact n0) rfl ?_
  rw [show yR (yset Hn (X 7) (KW.length : Int) v0) 2406 (X 0) = some (X 5) from R5, ycv_s (H := yset Hn (X 7) (KW.length : Int) v0) n5 ⟨by decide, rfl⟩]
  have g1A : AlY (yset Hn (X 7) (KW.length : Int) v0) (X 5) e cap (KA.map some) := g1
  refine zW_Ie (y_size g1A) ?_
  rw [hKA]
  refine zW_yst (kd := 1000) (by exact n6) rfl (by show 0 ≤ hh ∧ hh < yN Hn (X 6); omega) ?_
  rw [show ynar 1000 (KW.length : Int) = (KW.length : Int) from rfl]
  have ex2 : yEx (fun x => x = X 7 ∨ x = X 6) 0 0 Hn (yset (yset Hn (X 7) (KW.length : Int) v0) (X 6) hh (KW.length : Int)) := yEx_set exA (fun _ => Or.inr rfl)
  have A6 : ∀ h : Int, 0 ≤ h → h < 256 → -1 ≤ yA (yset (yset Hn (X 7) (KW.length : Int) v0) (X 6) hh (KW.length : Int)) (X 6) h ∧ yA (yset (yset Hn (X 7) (KW.length : Int) v0) (X 6) hh (KW.length : Int)) (X 6) h < KW.length + 1 := by
    intro h q1 q2
    by_cases q : h = hh
    · rw [q, yset_at]; omega
    · rw [yset_j q, yset_b Fn.1.2.2.2.2.1]
      have := g4 h q1 q2
      omega
  have A7 : ∀ k : Nat, k < KW.length + 1 → -1 ≤ yA (yset (yset Hn (X 7) (KW.length : Int) v0) (X 6) hh (KW.length : Int)) (X 7) k ∧ yA (yset (yset Hn (X 7) (KW.length : Int) v0) (X 6) hh (KW.length : Int)) (X 7) k < k := by
    intro k hk
    rw [yset_b (fun q => Fn.1.2.2.2.2.1 q.symm)]
    by_cases q : k = KW.length
    · rw [q, yset_at]; exact hv
    · rw [yset_j (by omega)]; exact g5 k (by omega)
  have g12 : AlY (yset (yset Hn (X 7) (KW.length : Int) v0) (X 6) hh (KW.length : Int)) (X 5) e cap (KA.map some) := g1
  generalize yset (yset Hn (X 7) (KW.length : Int) v0) (X 6) hh (KW.length : Int) = H2 at *
  have PN2 : PN B (fun x => x = X 7 ∨ x = X 6) Hn := by
    intro x hx _
    rcases hx with rfl | rfl <;> omega
  have F2 : Lf C B X H2 := Lf_ex Fn ex2 PN2 (fun q => by rcases q with q | q <;> (have := congrArg (yK Hn) q; omega)) (fun q => by rcases q with q | q <;> (have := congrArg (yK Hn) q; omega)) (fun q => by rcases q with q | q <;> (have := congrArg (yK Hn) q; omega))
  have T2 : Lt X H2 t i := Lt_ex Fn Tn ex2 (fun q => by rcases q with q | q <;> (have := congrArg (yK Hn) q; omega)) (fun q => by rcases q with q | q <;> (have := congrArg (yK Hn) q; omega))
  have l6 := lt 6 (by decide)
  have l7 := lt 7 (by decide)
  have s2 : SbY H2 (ynx H) en capn (sl t a (i - a)) := SbY_ex sn ex2 ⟨fun q => by omega, fun q => by omega⟩
  have str2 : ∀ k, k < KW.length → StrY B H2 (KA.getD k 0) (KW.getD k []) := fun k hk => StrY_ex (g3 k hk).1 ex2 PN2
  have hsl : (sl t a (i - a)).length = i - a := sl_len (by omega)
  refine zW_gR F2.1.2.1.1 rfl ?_
  rw [F2.1.2.2.1.2.2.2.1, ycv_s s2.2.1 ⟨by decide, rfl⟩]
  have x2 := ex2.2.2.1
  refine zW_Q (P := fun r H3 => r = some (ynx H2) ∧ StrY B H3 (ynx H2) (sl t a (i - a)) ∧ yEx (fun _ => False) 2 (4 + (i - a)) H2 H3 ∧ ynx H3 = ynx H2 + 2) (T := fun _ => False) (zW_c (zW_mono (y_toString (d := d + 1) hC (fun x hx => by have := hB x hx; omega) s2 (by omega)) ?_)) ?_ (fun _ q => q.elim)
  · rintro o H3 ⟨rfl, q2, q3, q4⟩
    rw [hsl] at q3
    exact ⟨rfl, q2, q3, q4⟩
  rintro r H3 ⟨rfl, st3, ex3, x3⟩
  have F3 := Lf_ex F2 ex3 PN_F (fun z => z) (fun z => z) (fun z => z)
  have T3 := Lt_ex F2 T2 ex3 (fun z => z) (fun z => z)
  have g13 := AlY_ex g12 ex3 (fun z => z) (fun _ z => z)
  have E3 : CE C H3 := CE_ex (CE_ex (CE_ex hE exn) ex2) ex3
  obtain ⟨m0, m1, m2, m3, m4, m5, m6, m7⟩ := F3.1.2.1
  have kst : yokE 1005 (yK H3 (ynx H2)) = true := by
    rcases st3.2.1 with q | q
    · rw [q]; decide +kernel
    · rw [q]; decide +kernel
  rw [ycv_s m5 ⟨by decide, rfl⟩]
  refine zW_I (P := fun v H4 => ∃ e1 cap1, AlY H4 (X 5) e1 cap1 (KA.map some ++ [some (ynx H2)]) ∧ yK H4 e1 = 1005 ∧ cap ≤ cap1 ∧ cap1 ≤ max cap (2 * (KA.map some).length + 10) ∧ (e1 = e ∧ yK H3 e = 1005 ∨ ynx H3 ≤ e1) ∧ yEx (PA H3 (X 5) e) 1 (4 * (cap1 - cap)) H3 H4) (T := fun _ => False) (zW_c (zW_mono (y_alAdd (w := some (ynx H2)) E3 g13 (by omega) (fun x hx => by cases hx; exact ⟨by omega, kst⟩)) ?_)) ?_ (fun _ q => q.elim)
  · rintro o H4 ⟨rfl, q⟩
    exact q
  rintro v1 H4 ⟨e1, cap1, p1, p2, p3, p4, p5, p6⟩
  rw [hKA] at p4
  have he3 := g13.2.2.2.2.2.1
  have hek := g13.2.2.2.2.2.2.1
  have PN4 : PN B (PA H3 (X 5) e) H3 := by
    intro x hx _
    rcases hx with rfl | ⟨rfl, q⟩ <;> omega
  have nX : ∀ k, k < 8 → k ≠ 5 → ¬ PA H3 (X 5) e (X k) := by
    intro k hk hk5 q
    have hk : k = 0 ∨ k = 1 ∨ k = 2 ∨ k = 3 ∨ k = 4 ∨ k = 6 ∨ k = 7 := by omega
    rcases q with q | ⟨q, q2⟩
    · have := congrArg (yK H3) q
      rcases hk with rfl | rfl | rfl | rfl | rfl | rfl | rfl <;> omega
    · have := congrArg (yK H3) q
      rcases hk with rfl | rfl | rfl | rfl | rfl | rfl | rfl <;> omega
  have F4 := Lf_ex F3 p6 PN4 (nX 0 (by decide) (by decide)) (nX 1 (by decide) (by decide)) (nX 3 (by decide) (by decide))
  have T4 := Lt_ex F3 T3 p6 (nX 0 (by decide) (by decide)) (nX 2 (by decide) (by decide))
  have st4 := StrY_ex st3 p6 PN4
  have hlen4 : (KA.map some ++ [some (ynx H2)]).length = KW.length + 1 := by rw [List.length_append, hKA]; rfl
  refine zW_gR F4.1.2.1.1 rfl ?_
  rw [F4.1.2.2.1.2.2.2.1]
  refine zW_gR F4.1.2.1.1 rfl ?_
  rw [F4.1.2.2.1.2.2.2.1, ycv_s p1.2.1 ⟨by decide, rfl⟩]
  refine zW_Ie (y_size p1) (zW_G (by omega) ?_)
  rw [hlen4, show ((KW.length + 1 : Nat) : Int) - 1 = (KW.length : Int) by omega, ycv_s p1.2.1 ⟨by decide, rfl⟩]
  have hget : (KA.map some ++ [some (ynx H2)]).getD KW.length none = some (ynx H2) := by
    rw [List.getD_eq_getElem?_getD, List.getElem?_append_right (by omega), hKA, Nat.sub_self]; rfl
  have hg := y_get (d := d + 4) (C := C) p1 (k := KW.length) (by omega)
  rw [hget] at hg
  refine zW_Qe hg (StrY_cast st4 (zW_rQ ⟨ynx H2, KW ++ [sl t a (i - a)], cap1, rfl, st4, F4, T4, ⟨by omega, e1, KA ++ [ynx H2], ?_, ?_, fun k hk => ?_, fun h q1 q2 => ?_, fun k hk => ?_⟩, by rw [List.length_append]; exact Nat.le_refl _, p3, ?_, ?_⟩))
  · rw [List.map_append]; exact p1
  · rw [List.length_append, List.length_append, g2]; rfl
  · rw [List.length_append] at hk
    have hk : k < KW.length + 1 := hk
    by_cases q : k = KW.length
    · rw [q, getD_app_last]
      rw [show (KA ++ [ynx H2]).getD KW.length 0 = ynx H2 by rw [List.getD_eq_getElem?_getD, List.getElem?_append_right (by omega), g2, Nat.sub_self]; rfl]
      refine ⟨st4, by omega, fun w hw => ?_⟩
      obtain ⟨j, hj, rfl⟩ := List.mem_iff_getElem.mp hw
      have e1 := sl_at (t := t) (a := a) (n := i - a) (k := j) (by omega) (by omega)
      rw [List.getD_eq_getElem?_getD, List.getElem?_eq_getElem hj] at e1
      have e1 : (sl t a (i - a))[j] = tch t (a + j) := e1
      rw [e1]
      exact hsm (a + j) (by omega) (by omega)
    · rw [getD_app (by omega)]
      rw [show (KA ++ [ynx H2]).getD k 0 = KA.getD k 0 by rw [List.getD_eq_getElem?_getD, List.getD_eq_getElem?_getD, List.getElem?_append_left (by omega)]]
      exact ⟨StrY_ex (StrY_ex (str2 k (by omega)) ex3 PN_F) p6 PN4, (g3 k (by omega)).2⟩
  · rw [List.length_append]
    have s6a := ex3.1 (X 6) (F2.1.1 6 (by decide)) (fun z => z)
    have s6b := p6.1 (X 6) (F3.1.1 6 (by decide)) (nX 6 (by decide) (by decide))
    rw [s6b.2.2.1, s6a.2.2.1]
    exact A6 h q1 q2
  · rw [List.length_append] at hk
    have s7a := ex3.1 (X 7) (F2.1.1 7 (by decide)) (fun z => z)
    have s7b := p6.1 (X 7) (F3.1.1 7 (by decide)) (nX 7 (by decide) (by decide))
    rw [s7b.2.2.1, s7a.2.2.1]
    exact A7 k hk
  · have eA : yR H 1501 (X 5) = some e ∧ (e < ynx H → yK H3 e = 1005 → yK H e = 1005) := by
      obtain ⟨_, e', _, g1', _⟩ := hN
      have s5 := exn.1 (X 5) (lt 5 (by decide)) (fun z => z)
      refine ⟨by rw [← s5.2.1]; exact g1.2.2.1, fun hlt q => ?_⟩
      rw [(ex3.2.1 e (by omega)).1, (ex2.2.1 e (by omega)).1, (exn.2.1 e hlt).1] at q
      exact q
    refine yEx_mono (yEx_trans (yEx_trans (yEx_trans (P := PL0 X H) (yEx_mono exn (fun _ _ z => z.elim) (Nat.le_refl _) (Nat.le_refl _)) ex2 ?_) ex3 (fun _ _ z => z.elim)) p6 ?_) (fun _ _ z => z) (by omega) (by omega)
    · rintro x hx (rfl | rfl)
      · exact Or.inr (Or.inr (Or.inl rfl))
      · exact Or.inr (Or.inl rfl)
    · rintro x hx (rfl | ⟨rfl, q⟩)
      · exact Or.inl rfl
      · exact Or.inr (Or.inr (Or.inr ⟨eA.1, eA.2 hx q⟩))
  · have x3' := ex3.2.2.1
    rintro x hx (q | q | q | ⟨q1, q2⟩)
    · exact Or.inl q
    · exact Or.inr (Or.inl q)
    · exact Or.inr (Or.inr (Or.inl q))
    · rw [p1.2.2.1] at q1
      have := Option.some.inj q1
      subst this
      rcases p5 with ⟨rfl, q⟩ | q
      · have s5 := exn.1 (X 5) (lt 5 (by decide)) (fun z => z)
        refine Or.inr (Or.inr (Or.inr ⟨by rw [← s5.2.1]; exact g1.2.2.1, ?_⟩))
        rw [(ex3.2.1 _ (by omega)).1, (ex2.2.1 _ (by omega)).1, (exn.2.1 _ hx).1] at q
        exact q
      · omega
end YPiece
