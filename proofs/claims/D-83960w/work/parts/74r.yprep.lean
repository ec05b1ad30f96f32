set_option maxRecDepth 100000
/-! THE HOUSE'S PARSER: normal form of the grammar's functions; kinds; objects that are written again, nested, looked at -/
/-! kinds -/
abbrev okTy : Ps → Gt → Prop := fun _ τ => 50 ≤ gk τ ∧ gk τ ≤ 54
abbrev okPa : Ps → Gt → Prop := fun σ τ => (30 ≤ gk τ ∧ gk τ ≤ 41) ∧ (gk τ = 31 → gs τ = [] ∧ gbg τ = ((pc σ).2.1 : Int))
abbrev okEx : Ps → Gt → Prop := fun _ τ => (3 ≤ gk τ ∧ gk τ ≤ 20) ∨ (90 ≤ gk τ ∧ gk τ ≤ 92)
theorem hq_d0 {b : Int} {p : List (List Int)} : hq ((b :: (p.getD 0 []).drop 1) :: p.drop 1) 0 = b := rfl
theorem getD_drop1 {l : List Int} {j : Nat} : (l.drop 1).getD j 0 = l.getD (j + 1) 0 := by
  cases l with
  | nil => rfl
  | cons x l => rfl
theorem hq_d1 {b : Int} {p : List (List Int)} : hq ((b :: (p.getD 0 []).drop 1) :: p.drop 1) 1 = hq p 1 := getD_drop1
theorem hq_d2 {b : Int} {p : List (List Int)} : hq ((b :: (p.getD 0 []).drop 1) :: p.drop 1) 2 = hq p 2 := getD_drop1
theorem hnm_d {b : Int} {p : List (List Int)} : hnm ((b :: (p.getD 0 []).drop 1) :: p.drop 1) = hnm p := by
  cases p with
  | nil => rfl
  | cons x p => rfl
def allK (f : Nat) (i : List Int) : Prop := ∀ (H : YS) (a : Nat) (v : Int), allI H a i → allI (yput H f a v) a i
theorem allK_0 {f : Nat} : allK f [] := fun _ _ _ h => h
theorem allK_2 {f g : Nat} {v : Int} {i : List Int} (h : g ≠ f) (hi : allK f i) : allK f ((g : Int) :: v :: i) := fun H a w q => ⟨(yput_f (f := f) (H := H) (v := w) h).trans q.1, hi H a w q.2⟩
theorem hoG_P {k : Nat} {p p' : List (List Int)} {s : List (Gt × Gt)} (h : 30 ≤ k ∧ k ≤ 41) (h1 : hq p' 1 = hq p 1) (h2 : hq p' 2 = hq p 2) (h3 : hnm p' = hnm p) : ∃ kd i fs, hoG k p s = oO kd (7500 :: hq p 0 :: i) fs ∧ hoG k p' s = oO kd (7500 :: hq p' 0 :: i) fs ∧ (kd = 25 ∨ (32 ≤ kd ∧ kd ≤ 38)) ∧ (k = 31 ↔ kd = 33) ∧ allK 7500 i := by
  have hk : k = 30 ∨ k = 31 ∨ k = 32 ∨ k = 33 ∨ k = 34 ∨ k = 35 ∨ k = 36 ∨ k = 37 ∨ k = 38 ∨ k = 39 ∨ k = 40 ∨ k = 41 := by omega
  rcases hk with rfl | rfl | rfl | rfl | rfl | rfl | rfl | rfl | rfl | rfl | rfl | rfl
  · exact ⟨_, _, _, rfl, rfl, by decide, by decide, allK_0⟩
  · exact ⟨33, [9902, hq p 1, 9903, hq p 2], [oF 9901 (oS (hnm p))], rfl, by rw [← h1, ← h2, ← h3]; rfl, by decide, by decide, allK_2 (g := 9902) (by decide) (allK_2 (g := 9903) (by decide) allK_0)⟩
  · exact ⟨37, [], [oF 11101 (oT ((32 : Int) - 29) (hq p 1) (hnm p))], rfl, by rw [← h1, ← h3]; rfl, by decide, by decide, allK_0⟩
  · exact ⟨37, [], [oF 11101 (oT ((33 : Int) - 29) (hq p 1) (hnm p))], rfl, by rw [← h1, ← h3]; rfl, by decide, by decide, allK_0⟩
  · exact ⟨37, [], [oF 11101 (oT ((34 : Int) - 29) (hq p 1) (hnm p))], rfl, by rw [← h1, ← h3]; rfl, by decide, by decide, allK_0⟩
  · exact ⟨25, [7505, hq p 2, 7504, hq p 1], [oF 7501 (oL (hlb s)), oF 7502 (oL (hpl s)), oF 7503 (oL (hs s))], rfl, by rw [← h1, ← h2]; rfl, by decide, by decide, allK_2 (g := 7505) (by decide) (allK_2 (g := 7504) (by decide) allK_0)⟩
  · exact ⟨38, [11402, hq p 1, 11403, 0], [oF 11401 (oS (hnm p)), oF 11404 (hi s 0)], rfl, by rw [← h1, ← h3]; rfl, by decide, by decide, allK_2 (g := 11402) (by decide) (allK_2 (g := 11403) (by decide) allK_0)⟩
  · exact ⟨32, [9602, hq p 1], [oF 9601 (oS (hnm p)), oF 9603 (hi s 1), oF 9604 (hi s 0)], rfl, by rw [← h1, ← h3]; rfl, by decide, by decide, allK_2 (g := 9602) (by decide) allK_0⟩
  · exact ⟨_, _, _, rfl, rfl, by decide, by decide, allK_0⟩
  · exact ⟨_, _, _, rfl, rfl, by decide, by decide, allK_0⟩
  · exact ⟨38, [11402, hq p 1, 11403, 1], [oF 11401 (oS (hnm p)), oF 11404 (oO 25 [7500, gbg (s.getD 0 (oN, oN)).1, 7504, 0] [oF 7501 (oL (nlb 2)), oF 7502 oN, oF 7503 (oL (hs s))])], rfl, by rw [← h1, ← h3]; rfl, by decide, by decide, allK_2 (g := 11402) (by decide) (allK_2 (g := 11403) (by decide) allK_0)⟩
  · exact ⟨25, [7504, 0], _, rfl, rfl, by decide, by decide, allK_2 (g := 7504) (by decide) allK_0⟩
theorem hoG_X {k : Nat} {p p' : List (List Int)} {s : List (Gt × Gt)} (h : (3 ≤ k ∧ k ≤ 20) ∨ (90 ≤ k ∧ k ≤ 92)) (h1 : hq p' 1 = hq p 1) (h3 : hnm p' = hnm p) : ∃ kd i fs, hoG k p s = oO kd (11700 :: hq p 0 :: i) fs ∧ hoG k p' s = oO kd (11700 :: hq p' 0 :: i) fs ∧ (39 ≤ kd ∧ kd ≤ 57 ∧ kd ≠ 43 ∧ kd ≠ 44) ∧ allK 11700 i := by
  have hk : k = 3 ∨ k = 4 ∨ k = 5 ∨ k = 6 ∨ k = 7 ∨ k = 8 ∨ k = 9 ∨ k = 10 ∨ k = 11 ∨ k = 12 ∨ k = 13 ∨ k = 14 ∨ k = 15 ∨ k = 16 ∨ k = 17 ∨ k = 18 ∨ k = 19 ∨ k = 20 ∨ k = 90 ∨ k = 91 ∨ k = 92 := by omega
  rcases hk with rfl | rfl | rfl | rfl | rfl | rfl | rfl | rfl | rfl | rfl | rfl | rfl | rfl | rfl | rfl | rfl | rfl | rfl | rfl | rfl | rfl
  · exact ⟨51, [15302, hq p 1], [oF 15301 (oS (hnm p))], rfl, by rw [← h1, ← h3]; rfl, by decide, allK_2 (g := 15302) (by decide) allK_0⟩
  · exact ⟨50, [15002, hq p 1], [oF 15001 (oS (hnm p))], rfl, by rw [← h1, ← h3]; rfl, by decide, allK_2 (g := 15002) (by decide) allK_0⟩
  · exact ⟨47, _, _, rfl, rfl, by decide, allK_0⟩
  · exact ⟨53, _, _, rfl, rfl, by decide, allK_0⟩
  · exact ⟨54, [], [oF 16201 (oO 51 [11700, hq p 1, 15302, hq p 1] [oF 15301 (oS (hnm p))]), oF 16202 (hi s 0), oF 16203 (hi s 1)], rfl, by rw [← h1, ← h3]; rfl, by decide, allK_0⟩
  · exact ⟨39, _, _, rfl, rfl, by decide, allK_0⟩
  · exact ⟨40, _, _, rfl, rfl, by decide, allK_0⟩
  · exact ⟨41, _, _, rfl, rfl, by decide, allK_0⟩
  · exact ⟨42, [12603, hq p 1], _, rfl, by rw [← h1]; rfl, by decide, allK_2 (g := 12603) (by decide) allK_0⟩
  · exact ⟨45, [13502, hq p 1], _, rfl, by rw [← h1]; rfl, by decide, allK_2 (g := 13502) (by decide) allK_0⟩
  · exact ⟨57, [17103, hq p 1], _, rfl, by rw [← h1]; rfl, by decide, allK_2 (g := 17103) (by decide) allK_0⟩
  · exact ⟨56, [16801, 0], _, rfl, rfl, by decide, allK_2 (g := 16801) (by decide) allK_0⟩
  · exact ⟨56, [16801, 1], _, rfl, rfl, by decide, allK_2 (g := 16801) (by decide) allK_0⟩
  · exact ⟨55, _, _, rfl, rfl, by decide, allK_0⟩
  · exact ⟨46, _, _, rfl, rfl, by decide, allK_0⟩
  · exact ⟨49, _, _, rfl, rfl, by decide, allK_0⟩
  · exact ⟨48, _, _, rfl, rfl, by decide, allK_0⟩
  · exact ⟨47, _, _, rfl, rfl, by decide, allK_0⟩
  · exact ⟨52, [], [oF 15601 (oT ((90 : Int) - 87) (hq p 1) (hnm p))], rfl, by rw [← h1, ← h3]; rfl, by decide, allK_0⟩
  · exact ⟨52, [], [oF 15601 (oT ((91 : Int) - 87) (hq p 1) (hnm p))], rfl, by rw [← h1, ← h3]; rfl, by decide, allK_0⟩
  · exact ⟨52, [], [oF 15601 (oT ((92 : Int) - 87) (hq p 1) (hnm p))], rfl, by rw [← h1, ← h3]; rfl, by decide, allK_0⟩
theorem ho_P {τ : Gt} (h : 30 ≤ gk τ ∧ gk τ ≤ 41) : ∃ kd i fs, ho τ = oO kd (7500 :: gbg τ :: i) fs ∧ (∀ b, ho (gsb b τ) = oO kd (7500 :: b :: i) fs) ∧ (kd = 25 ∨ (32 ≤ kd ∧ kd ≤ 38)) ∧ (gk τ = 31 ↔ kd = 33) ∧ allK 7500 i := by
  cases τ with
  | leaf p => exact absurd h.1 (by show ¬ 30 ≤ 0; decide)
  | branch k l r =>
    have h : 30 ≤ k ∧ k ≤ 41 := h
    obtain ⟨kd, i, fs, e1, -, e3, e4, e5⟩ := hoG_P (k := k) (p := gpl l) (p' := gpl l) (s := (gsp r).map fun x => (x, ho x)) h rfl rfl rfl
    refine ⟨kd, i, fs, ?_, fun b => ?_, e3, e4, e5⟩
    · rw [ho_br, e1]; rfl
    · obtain ⟨kd', i', fs', f1, f2, -⟩ := hoG_P (k := k) (p := gpl l) (p' := (b :: ((gpl l).getD 0 []).drop 1) :: (gpl l).drop 1) (s := (gsp r).map fun x => (x, ho x)) h hq_d1 hq_d2 hnm_d
      have e : ho (gsb b (.branch k l r)) = hoG k ((b :: ((gpl l).getD 0 []).drop 1) :: (gpl l).drop 1) ((gsp r).map fun x => (x, ho x)) := by
        unfold gsb
        rw [ho_gn]; rfl
      rw [e, f2]
      rw [e1] at f1
      have hp := congrArg gp f1
      have hs := congrArg gs f1
      have hk := congrArg gk f1
      unfold oO at hp hs hk
      rw [gp_gn, gp_gn] at hp
      rw [gs_gn, gs_gn] at hs
      rw [gk_gn, gk_gn] at hk
      have hp := (List.cons.inj (List.cons.inj (List.cons.inj hp).1).2).2
      rw [hp, hs, hk]; rfl
theorem ho_X {τ : Gt} (h : (3 ≤ gk τ ∧ gk τ ≤ 20) ∨ (90 ≤ gk τ ∧ gk τ ≤ 92)) : ∃ kd i fs, ho τ = oO kd (11700 :: gbg τ :: i) fs ∧ (∀ b, ho (gsb b τ) = oO kd (11700 :: b :: i) fs) ∧ (39 ≤ kd ∧ kd ≤ 57 ∧ kd ≠ 43 ∧ kd ≠ 44) ∧ allK 11700 i := by
  cases τ with
  | leaf p => exact absurd h (by show ¬ ((3 ≤ 0 ∧ 0 ≤ 20) ∨ (90 ≤ 0 ∧ 0 ≤ 92)); decide)
  | branch k l r =>
    have h : (3 ≤ k ∧ k ≤ 20) ∨ (90 ≤ k ∧ k ≤ 92) := h
    obtain ⟨kd, i, fs, e1, -, e3, e5⟩ := hoG_X (k := k) (p := gpl l) (p' := gpl l) (s := (gsp r).map fun x => (x, ho x)) h rfl rfl
    refine ⟨kd, i, fs, ?_, fun b => ?_, e3, e5⟩
    · rw [ho_br, e1]; rfl
    · obtain ⟨kd', i', fs', f1, f2, -⟩ := hoG_X (k := k) (p := gpl l) (p' := (b :: ((gpl l).getD 0 []).drop 1) :: (gpl l).drop 1) (s := (gsp r).map fun x => (x, ho x)) h hq_d1 hnm_d
      have e : ho (gsb b (.branch k l r)) = hoG k ((b :: ((gpl l).getD 0 []).drop 1) :: (gpl l).drop 1) ((gsp r).map fun x => (x, ho x)) := by
        unfold gsb
        rw [ho_gn]; rfl
      rw [e, f2]
      rw [e1] at f1
      have hp := congrArg gp f1
      have hs := congrArg gs f1
      have hk := congrArg gk f1
      unfold oO at hp hs hk
      rw [gp_gn, gp_gn] at hp
      rw [gs_gn, gs_gn] at hs
      rw [gk_gn, gk_gn] at hk
      have hp := (List.cons.inj (List.cons.inj (List.cons.inj hp).1).2).2
      rw [hp, hs, hk]; rfl
theorem okP_G {τ : Gt} (h : 30 ≤ gk τ ∧ gk τ ≤ 41) : okG (ho τ) := by
  obtain ⟨kd, i, fs, e, -, h2, -⟩ := ho_P h
  rw [e]
  exact Or.inl (by show kd < 72; omega)
theorem okX_G {τ : Gt} (h : (3 ≤ gk τ ∧ gk τ ≤ 20) ∨ (90 ≤ gk τ ∧ gk τ ≤ 92)) : okG (ho τ) := by
  obtain ⟨kd, i, fs, e, -, h2, -⟩ := ho_X h
  rw [e]
  exact Or.inl (by show kd < 72; omega)
theorem Er_len {η η1 : Et} {l : List Gt} (h : Er η η1 l) : (eV η1).length = (eV η).length := VR_len h.2
section YWr
variable {C : YC} {B P O : Nat → Prop} {X : Nat → Nat} {t : List Int} {Γ : Gm} {H H' : YS} {σ σ1 : Ps} {η η1 : Et} {M : List (Gt × Option Nat)} {g h g' h' : Int} {a e c s d dp n : Nat} {F : List (List Int × Int × Int)} {Q : Option (Option ZV) → YS → Prop} {r : (Int × Nat) ⊕ (Gt × Ps)} {f : Ps → PR} {θ τ : Gt} {w : Option Nat}
theorem YO_oF {f : Nat} {G : Nat → Prop} : YO C B H (oF f θ) G w ↔ YO C B H θ G w := by
  unfold oF
  rw [YO_gn]
  unfold hoA
  rw [if_neg (by omega), if_neg (by omega), if_neg (by omega), if_neg (by omega), if_neg (by omega), if_neg (by omega)]
  exact Iff.rfl
theorem YO_oA {b : Nat} {G : Nat → Prop} : YO C B H (oA b) G w ↔ w = some b := by
  unfold oA
  rw [YO_gn]
  unfold hoA
  rw [if_neg (by decide), if_neg (by decide), if_neg (by decide), if_pos rfl]
  exact Iff.rfl
theorem sep_flds (hx : yEx P c s H H') (hi : Im B P H) : ∀ (l : List Gt) (F : Nat → Prop), (∀ x, F x → ¬ P x) → (∀ q ∈ l, yR H' (gk q - 200) a = yR H (gk q - 200) a) → sep F (l.map fun x => (YO C B H x, yR H (gk x - 200) a)) → sep F (l.map fun x => (YO C B H' x, yR H' (gk x - 200) a))
  | [], _, _, _, _ => trivial
  | y :: l, F, hF, hr, ⟨G, F2, g1, g2, g3, g4, g5⟩ => ⟨G, F2, g1, g2, g3, by
      show YO C B H' y G (yR H' (gk y - 200) a)
      rw [hr y List.mem_cons_self]
      exact YO_ex hx hi y G _ (fun x q => hF x (g1 x q)) g4, sep_flds hx hi l F2 (fun x q => hF x (g2 x q)) (fun q w => hr q (List.mem_cons_of_mem _ w)) g5⟩
theorem sep_lits : ∀ (l : List (Nat × Nat)) (F : Nat → Prop), (∀ q ∈ l, yR H q.1 a = some q.2) → sep F ((l.map fun q => oF q.1 (oA q.2)).map fun x => (YO C B H x, yR H (gk x - 200) a))
  | [], _, _ => trivial
  | q :: l, F, hr => ⟨fun _ => False, F, fun _ w => w.elim, fun _ w => w, fun _ w => w.elim, by
      show YO C B H (oF q.1 (oA q.2)) (fun _ => False) (yR H (200 + q.1 - 200) a)
      rw [Nat.add_sub_cancel_left, hr q List.mem_cons_self]
      exact YO_oF.mpr (YO_oA.mpr rfl), sep_lits l F (fun q w => hr q (List.mem_cons_of_mem _ w))⟩
/-- an object's own cell is written -/
theorem SS_wr {kd : Nat} {p p' : List Int} {s : List Gt} (s2 : List (Nat × Nat)) (hkd : kd < 100 ∧ kd ≠ 21 ∧ kd ≠ 22 ∧ kd ≠ 26 ∧ kd ≠ 27 ∧ kd ≠ 7) (S : SS C B X t Γ H σ η ((gn kd [p] s, some a) :: M) g h) (hx : yEx (fun x => x = a) 0 0 H H') (hp : allI H a p → allI H' a p') (hs : ∀ q ∈ s, yR H' (gk q - 200) a = yR H (gk q - 200) a) (h2 : ∀ q ∈ s2, yR H' q.1 a = some q.2) : SS C B X t Γ H' σ η ((gn kd [p'] (s ++ s2.map fun q => oF q.1 (oA q.2)), some a) :: M) g h := by
  obtain ⟨F, h1, G, F1, g1, g2, g3, g4, g5⟩ := S.2.1
  have g4 : YO C B H (gn kd [p] s) G (some a) := g4
  rw [YO_gn] at g4
  unfold hoA at g4
  rw [if_pos hkd.1] at g4
  obtain ⟨a', ha, q1, q2, q3, q4, q5⟩ := g4
  cases ha
  have im := Im_1 (B := B) q3 hkd
  have hn := h1 a (g1 a q1)
  rw [List.map_map] at q5
  refine SS_mono (SS_loc S hx im (fun x _ q => by rw [q]; exact ⟨hn.1, hn.2.2⟩) ⟨F, fun x q => ⟨(h1 x q).1, Nat.lt_of_lt_of_le (h1 x q).2.1 hx.2.2.1, (h1 x q).2.2⟩, G, F1, g1, g2, g3, ?_, sep_ex hx im M F1 (fun x q w => g3 a q1 (w ▸ q)) g5⟩) (by omega) (by omega)
  show YO C B H' (gn kd [p'] _) G (some a)
  rw [YO_gn]
  unfold hoA
  rw [if_pos hkd.1]
  refine ⟨a, rfl, q1, Nat.lt_of_lt_of_le q2 hx.2.2.1, (hx.2.1 a q2).1.trans q3, hp q4, ?_⟩
  rw [List.map_map, List.map_append]
  exact sep_app.mpr ⟨fun x => G x ∧ x ≠ a, fun _ => False, fun _ w => w, fun _ w => w.elim, fun _ _ w => w, sep_flds hx im s _ (fun x w => w.2) hs q5, sep_lits s2 _ h2⟩
theorem SS_setI {kd f : Nat} {v b : Int} {i : List Int} {s : List Gt} (hkd : kd < 100 ∧ kd ≠ 21 ∧ kd ≠ 22 ∧ kd ≠ 26 ∧ kd ≠ 27 ∧ kd ≠ 7) (hi : allK f i) (S : SS C B X t Γ H σ η ((oO kd ((f : Int) :: v :: i) s, some a) :: M) g h) : SS C B X t Γ (yput H f a b) σ η ((oO kd ((f : Int) :: b :: i) s, some a) :: M) g h := by
  have := SS_wr (p' := (f : Int) :: b :: i) [] hkd S (yEx_put (f := f) (v := b) yEx_refl (fun _ => rfl)) (fun q => ⟨yput_at, hi H a b q.2⟩) (fun _ _ => rfl) (fun _ w => nomatch w)
  rw [show s ++ (List.map (fun q : Nat × Nat => oF q.1 (oA q.2)) []) = s from List.append_nil s] at this
  exact this
/-- less is told of its numbers -/
theorem SS_wk {kd : Nat} {p p' : List Int} {s : List Gt} (hkd : kd < 100 ∧ kd ≠ 21 ∧ kd ≠ 22 ∧ kd ≠ 26 ∧ kd ≠ 27 ∧ kd ≠ 7) (hp : allI H a p → allI H a p') (S : SS C B X t Γ H σ η ((gn kd [p] s, some a) :: M) g h) : SS C B X t Γ H σ η ((gn kd [p'] s, some a) :: M) g h := by
  have := SS_wr (p' := p') [] hkd S yEx_refl hp (fun _ _ => rfl) (fun _ w => nomatch w)
  rw [show s ++ (List.map (fun q : Nat × Nat => oF q.1 (oA q.2)) []) = s from List.append_nil s] at this
  exact this
/-- a part known by its address gets nested -/
theorem SS_nest {kd f b : Nat} {p : List Int} (s1 : List Gt) {s2 : List Gt} (hkd : kd < 100) (S : SS C B X t Γ H σ η ((gn kd [p] (s1 ++ oF f (oA b) :: s2), w) :: (θ, some b) :: M) g h) : SS C B X t Γ H σ η ((gn kd [p] (s1 ++ oF f θ :: s2), w) :: M) g h := by
  obtain ⟨F, h1, G, F1, g1, g2, g3, g4, G2, F2, k1, k2, k3, k4, k5⟩ := S.2.1
  have g4 : YO C B H (gn kd [p] (s1 ++ oF f (oA b) :: s2)) G w := g4
  rw [YO_gn] at g4
  unfold hoA at g4
  rw [if_pos hkd] at g4
  obtain ⟨a, ha, q1, q2, q3, q4, q5⟩ := g4
  rw [List.map_map, List.map_append] at q5
  obtain ⟨A1, A2, r1, r2, r3, r4, E1, E2, e1, e2, e3, e4, e5⟩ := sep_app.mp q5
  have e4 : YO C B H (oF f (oA b)) E1 (yR H (200 + f - 200) a) := e4
  rw [Nat.add_sub_cancel_left] at e4
  have hb := YO_oA.mp (YO_oF.mp e4)
  refine ⟨S.1, ⟨F, h1, fun x => G x ∨ G2 x, F2, fun x z => z.elim (g1 x) (fun z => g2 x (k1 x z)), fun x z => g2 x (k2 x z), fun x z y => z.elim (fun z => g3 x z (k2 x y)) (fun z => k3 x z y), ?_, k5⟩, S.2.2⟩
  show YO C B H (gn kd [p] _) _ w
  rw [YO_gn]
  unfold hoA
  rw [if_pos hkd]
  refine ⟨a, ha, Or.inl q1, q2, q3, q4, ?_⟩
  rw [List.map_map, List.map_append]
  have na : ∀ x, G2 x → x ≠ a := fun x z y => g3 a q1 (k1 a (y ▸ z))
  refine sep_app.mpr ⟨A1, fun x => A2 x ∨ G2 x, fun x z => ⟨Or.inl (r1 x z).1, (r1 x z).2⟩, fun x z => z.elim (fun z => ⟨Or.inl (r2 x z).1, (r2 x z).2⟩) (fun z => ⟨Or.inr z, na x z⟩), fun x z y => y.elim (r3 x z) (fun y => g3 x (r1 x z).1 (k1 x y)), r4, fun x => G2 x, E2, fun x z => Or.inr z, fun x z => Or.inl (e2 x z), fun x z y => g3 x (r2 x (e2 x y)).1 (k1 x z), ?_, e5⟩
  show YO C B H (oF f θ) G2 (yR H (200 + f - 200) a)
  rw [Nat.add_sub_cancel_left, hb]
  exact YO_oF.mpr k4
/-- what stands in front, looked at -/
theorem SS_P0 (hk : 30 ≤ gk τ ∧ gk τ ≤ 41) (S : SS C B X t Γ H σ η ((ho τ, w) :: M) g h) : ∃ x kd i fs, w = some x ∧ yK H x = kd ∧ ho τ = oO kd (7500 :: gbg τ :: i) fs ∧ (∀ b, ho (gsb b τ) = oO kd (7500 :: b :: i) fs) ∧ (kd = 25 ∨ (32 ≤ kd ∧ kd ≤ 38)) ∧ (gk τ = 31 ↔ kd = 33) ∧ allK 7500 i ∧ yI H 7500 x = gbg τ ∧ yokF 7500 kd = true := by
  obtain ⟨kd, i, fs, e1, e2, e3, e4, e5⟩ := ho_P hk
  rw [e1] at S
  obtain ⟨x, q1, q2, q3, -, -, q6⟩ := Lv_at (kd := kd) (by omega) S.2.1
  refine ⟨x, kd, i, fs, q1, q3, e1, e2, e3, e4, e5, q6.1, ?_⟩
  have hk : kd = 25 ∨ kd = 32 ∨ kd = 33 ∨ kd = 34 ∨ kd = 35 ∨ kd = 36 ∨ kd = 37 ∨ kd = 38 := by omega
  rcases hk with rfl | rfl | rfl | rfl | rfl | rfl | rfl | rfl <;> decide +kernel
theorem SS_X0 (hk : (3 ≤ gk τ ∧ gk τ ≤ 20) ∨ (90 ≤ gk τ ∧ gk τ ≤ 92)) (S : SS C B X t Γ H σ η ((ho τ, w) :: M) g h) : ∃ x kd i fs, w = some x ∧ yK H x = kd ∧ ho τ = oO kd (11700 :: gbg τ :: i) fs ∧ (∀ b, ho (gsb b τ) = oO kd (11700 :: b :: i) fs) ∧ (39 ≤ kd ∧ kd ≤ 57 ∧ kd ≠ 43 ∧ kd ≠ 44) ∧ allK 11700 i ∧ yI H 11700 x = gbg τ ∧ yokF 11700 kd = true := by
  obtain ⟨kd, i, fs, e1, e2, e3, e5⟩ := ho_X hk
  rw [e1] at S
  obtain ⟨x, q1, q2, q3, -, -, q6⟩ := Lv_at (kd := kd) (by omega) S.2.1
  refine ⟨x, kd, i, fs, q1, q3, e1, e2, e3, e5, q6.1, ?_⟩
  have hk : kd = 39 ∨ kd = 40 ∨ kd = 41 ∨ kd = 42 ∨ kd = 45 ∨ kd = 46 ∨ kd = 47 ∨ kd = 48 ∨ kd = 49 ∨ kd = 50 ∨ kd = 51 ∨ kd = 52 ∨ kd = 53 ∨ kd = 54 ∨ kd = 55 ∨ kd = 56 ∨ kd = 57 := by omega
  rcases hk with rfl | rfl | rfl | rfl | rfl | rfl | rfl | rfl | rfl | rfl | rfl | rfl | rfl | rfl | rfl | rfl | rfl <;> decide +kernel
theorem SS_bgP (hk : 30 ≤ gk τ ∧ gk τ ≤ 41) (S : SS C B X t Γ H σ η ((ho τ, w) :: M) g h) : ∃ x, w = some x ∧ yI H 7500 x = gbg τ ∧ yokF 7500 (yK H x) = true := by
  obtain ⟨x, kd, i, fs, e1, e2, -, -, -, -, -, e3, e4⟩ := SS_P0 hk S
  exact ⟨x, e1, e3, by rw [e2]; exact e4⟩
theorem SS_bgE (hk : (3 ≤ gk τ ∧ gk τ ≤ 20) ∨ (90 ≤ gk τ ∧ gk τ ≤ 92)) (S : SS C B X t Γ H σ η ((ho τ, w) :: M) g h) : ∃ x, w = some x ∧ yI H 11700 x = gbg τ ∧ yokF 11700 (yK H x) = true := by
  obtain ⟨x, kd, i, fs, e1, e2, -, -, -, -, e3, e4⟩ := SS_X0 hk S
  exact ⟨x, e1, e3, by rw [e2]; exact e4⟩
theorem SS_kT (hk : 50 ≤ gk τ ∧ gk τ ≤ 54) (S : SS C B X t Γ H σ η ((ho τ, w) :: M) g h) : ∃ x, w = some x ∧ 28 ≤ yK H x ∧ yK H x ≤ 31 := by
  obtain ⟨h1, h2, p, s, e⟩ := ho_T hk
  rw [e] at S
  obtain ⟨x, q1, q2, q3, -⟩ := Lv_at (by omega) S.2.1
  exact ⟨x, q1, by omega, by omega⟩
theorem cc_T {k : Nat} (h : 28 ≤ k ∧ k ≤ 31) : ycast 10 441 k = true := by
  have hk : k = 28 ∨ k = 29 ∨ k = 30 ∨ k = 31 := by omega
  rcases hk with rfl | rfl | rfl | rfl <;> decide +kernel
theorem cc_P {kd : Nat} (h : kd = 25 ∨ (32 ≤ kd ∧ kd ≤ 38)) : ycast 10 303 kd = true := by
  have hk : kd = 25 ∨ kd = 32 ∨ kd = 33 ∨ kd = 34 ∨ kd = 35 ∨ kd = 36 ∨ kd = 37 ∨ kd = 38 := by omega
  rcases hk with rfl | rfl | rfl | rfl | rfl | rfl | rfl | rfl <;> decide +kernel
theorem cc_X {kd : Nat} (h : 39 ≤ kd ∧ kd ≤ 57 ∧ kd ≠ 43 ∧ kd ≠ 44) : ycast 10 639 kd = true := by
  have hk : kd = 39 ∨ kd = 40 ∨ kd = 41 ∨ kd = 42 ∨ kd = 45 ∨ kd = 46 ∨ kd = 47 ∨ kd = 48 ∨ kd = 49 ∨ kd = 50 ∨ kd = 51 ∨ kd = 52 ∨ kd = 53 ∨ kd = 54 ∨ kd = 55 ∨ kd = 56 ∨ kd = 57 := by omega
  rcases hk with rfl | rfl | rfl | rfl | rfl | rfl | rfl | rfl | rfl | rfl | rfl | rfl | rfl | rfl | rfl | rfl | rfl <;> decide +kernel
theorem io_P {kd : Nat} (h : kd = 25 ∨ (32 ≤ kd ∧ kd ≤ 38)) : yinst 10 165 kd = some (if kd = 33 then 1 else 0) := by
  have hk : kd = 25 ∨ kd = 32 ∨ kd = 33 ∨ kd = 34 ∨ kd = 35 ∨ kd = 36 ∨ kd = 37 ∨ kd = 38 := by omega
  rcases hk with rfl | rfl | rfl | rfl | rfl | rfl | rfl | rfl <;> decide +kernel
/-- a constant String; the token at hand -/
theorem SS_cst (j : Nat) (hj : j ∈ cstrs) (S : SS C B X t Γ H σ η M g h) : SS C B X t Γ H σ η ((oS (cstr j), some (C.1 j)) :: M) g h := by
  have := (SS_F S).2 j hj
  exact SS_im (Or.inl rfl) ⟨this.1, this⟩ S
theorem zW_tokv {k : Option Nat → ZR YS} (S : SS C B X t Γ H σ η M g h) (hk : ∀ a, yI H 6601 a = ((pc σ).2.1 : Int) ∧ yK H a = 22 → SS C B X t Γ H σ η ((oT (pc σ).1 (pc σ).2.2.2 (pc σ).2.2.1, some a) :: M) g h → zW (k (some a)) Q) : zW (ygR 1804 (some (X 8)) H k) Q := by
  obtain ⟨a, e, S1⟩ := SS_tok S
  obtain ⟨b, e2, tk⟩ := SS_c S
  rw [e] at e2
  cases e2
  refine zW_gR (SS_8 S) rfl ?_
  rw [e]
  exact hk a ⟨tk.2.2.2.1, tk.2.1⟩ S1
theorem zW_isDc {k : Int → YS → ZR YS} (hd : 5 ≤ d) (S : SS C B X t Γ H σ η M g h) (h1 : tDec (pc σ) → zW (k 1 H) Q) (h0 : ¬ tDec (pc σ) → zW (k 0 H) Q) : zW (ygR 1804 (some (X 8)) H fun v => zI (zc (YL C) d 102 [.inr (.inr v)] H) k) Q := by
  obtain ⟨d, rfl⟩ : ∃ e, d = e + 4 := ⟨d - 4, by omega⟩
  obtain ⟨a, e, tk⟩ := SS_c S
  have hk := SS_tk S
  refine zW_gR (SS_8 S) rfl ?_
  rw [e]
  refine zW_Ie (y_isDec (d := d) (SS_D S) (SS_W S) (SS_F S) tk ⟨hk.1, by omega⟩) ?_
  by_cases q : tDec (pc σ)
  · rw [if_pos q]; exact h1 q
  · rw [if_neg q]; exact h0 q
theorem zW_isDn {k : Int → YS → ZR YS} (hd : 5 ≤ d) (S : SS C B X t Γ H σ η M g h) (h1 : tDec (pk σ) → zW (k 1 H) Q) (h0 : ¬ tDec (pk σ) → zW (k 0 H) Q) : zW (ygR 1805 (some (X 8)) H fun v => zI (zc (YL C) d 102 [.inr (.inr v)] H) k) Q := by
  obtain ⟨d, rfl⟩ : ∃ e, d = e + 4 := ⟨d - 4, by omega⟩
  obtain ⟨a, e, tk⟩ := SS_n S
  have hk := SS_tk S
  refine zW_gR (SS_8 S) rfl ?_
  rw [e]
  refine zW_Ie (y_isDec (d := d) (SS_D S) (SS_W S) (SS_F S) tk ⟨hk.2.1, by omega⟩) ?_
  by_cases q : tDec (pk σ)
  · rw [if_pos q]; exact h1 q
  · rw [if_neg q]; exact h0 q
theorem zW_strn {A D : YS → ZR YS} (hd : 6 ≤ d) (S : SS C B X t Γ H σ η M g h) (h1 : pSt (pF σ) (pk σ) = none → zW (A H) Q) (h0 : pSt (pF σ) (pk σ) ≠ none → zW (D H) Q) : zW (ygR 1805 (some (X 8)) H fun v => zQ (ycv (YL C) d [(6, 110)] (some (X 8)) [.inr (.inr v)] H) fun v2 h2 => ynull v2 (A h2) (D h2)) Q := by
  obtain ⟨d, rfl⟩ : ∃ e, d = e + 6 := ⟨d - 6, by omega⟩
  obtain ⟨a, e, tk⟩ := SS_n S
  have hk := SS_tk S
  refine zW_gR (SS_8 S) rfl ?_
  rw [e, ycv_s (SS_8 S) ⟨by decide, rfl⟩]
  obtain ⟨w, e1, e2⟩ := y_strength (d := d) (SS_D S) (SS_W S) S.1 tk ⟨hk.2.1, hk.2.2.2⟩
  refine zW_Qe e1 ?_
  rcases e2 with ⟨rfl, e2⟩ | ⟨s, q, rfl, e2, -⟩
  · exact zW_n0 (h1 e2)
  · exact zW_nn (h0 (fun z => by rw [e2] at z; cases z))
end YWr
