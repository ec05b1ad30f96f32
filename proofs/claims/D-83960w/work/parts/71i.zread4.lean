set_option maxRecDepth 100000
/-! THE REFERENCE READS A TOKEN: strings and signs in quotes -/
section ZRd4
variable {d : Nat} {t : List Int} {W : List (List Int)} {S S0 S' : ZS} {Q : Option (Option ZV) → ZS → Prop} {acc : List Int}
theorem sDig_in {i : Nat} {v b w : Int} (h : sDig t i v b = some w) (hv : 0 ≤ v) (hb : b = 100 ∨ b = 10 ∨ b = 1) : 0 ≤ w ∧ w ≤ 255 := by
  unfold sDig at h
  split at h
  · next q =>
    have e := Option.some.inj h
    have := of_decide_eq_true q.1
    have q2 := q.2
    rw [e] at q2
    rcases hb with rfl | rfl | rfl <;> omega
  · cases h
theorem sEsc_in {i j : Nat} {v : Int} (h : sEsc t i = .inr (v, j)) : 0 ≤ v ∧ v ≤ 255 := by
  unfold sEsc at h
  split at h
  · cases h; omega
  · split at h
    · cases h; omega
    · split at h
      · next q => cases h; omega
      · split at h
        · cases h
        · next w1 e1 =>
          have h1 := sDig_in e1 (by omega) (by omega)
          split at h
          · cases h
          · next w2 e2 =>
            have h2 := sDig_in e2 h1.1 (by omega)
            split at h
            · cases h
            · next w3 e3 =>
              have h3 := sDig_in e3 h2.1 (by omega)
              cases h
              exact h3
def FS0 : List Nat := [25, 27, 30]
/-- a string is being laid down -/
def StI (S0 S : ZS) (acc : List Int) : Prop := zAg FS0 [9] S0 S ∧ S.1 25 = S0.1 30 ∧ S.1 30 = S0.1 30 + 1 + acc.length ∧ (∀ k : Nat, k < acc.length → S.2.2.1 9 (S0.1 30 + 1 + k) = zbyte (acc.getD k 0)) ∧ (∀ x : Int, x < S0.1 30 → S.2.2.1 9 x = S0.2.2.1 9 x) ∧ ∀ v ∈ acc, 0 ≤ v ∧ v ≤ 255
theorem StI_27 {w : Int} (h : StI S0 S acc) : StI S0 (zput S 27 w) acc := ⟨zAg_put (by decide) h.1, h.2⟩
theorem StI_push {v : Int} (h : StI S0 S acc) (hp : PB S v S') (hv : 0 ≤ v ∧ v ≤ 255) : StI S0 S' (acc ++ [v]) := by
  obtain ⟨h1, h2, h3, h4, h5, h6⟩ := h
  obtain ⟨p1, p2, p3⟩ := hp
  refine ⟨zAg_trans h1 (zAg_mono p1 (by decide) (by decide)), (p1.1 25 (by decide)).trans h2, ?_, fun k hk => ?_, fun x hx => ?_, fun w hw => ?_⟩
  · rw [p2, h3, List.length_append]
    show _ = S0.1 30 + 1 + ((acc.length + 1 : Nat) : Int)
    omega
  · rw [List.length_append] at hk
    have hk : k < acc.length + 1 := hk
    rw [p3, h3]
    by_cases e : k = acc.length
    · rw [if_pos (by omega), e, List.getD_eq_getElem?_getD, List.getElem?_append_right (Nat.le_refl _), Nat.sub_self]; rfl
    · rw [if_neg (by omega), h4 k (by omega), List.getD_eq_getElem?_getD, List.getD_eq_getElem?_getD, List.getElem?_append_left (by omega)]
  · rw [p3, if_neg (by omega)]
    exact h5 x hx
  · rcases List.mem_append.mp hw with q | q
    · exact h6 w q
    · rw [List.mem_singleton.mp q]; exact hv
theorem RdEr_of {F : List Nat} {e : Int} {p : Nat} (h : zAg F [9] S0 S) (hF : ∀ f ∈ F, f ∈ FE0) (h9 : S0.1 30 ≤ S.1 30 ∧ ∀ i : Int, i < S0.1 30 → S.2.2.1 9 i = S0.2.2.1 9 i) (h2 : RdEr S e p S') : RdEr S0 e p S' := ⟨zAg_trans (zAg_mono h hF (by decide)) h2.1, h2.2.1, h2.2.2.1, fun i q => (h2.2.2.2 i (by omega)).trans (h9.2 i q)⟩
theorem z_str {x1 : Int} (h0 : 0 ≤ S0.1 30) (hL0 : Lx S0 t) :
    ∀ (n i : Nat) (acc : List Int) (S : ZS), t.length < n + i → i ≤ t.length → StI S0 S acc → S.1 27 = (i : Int) → S.1 30 + t.length < 184000 + i →
      (∀ b j S', sStr t i acc = .inr (b, j) → i < j → j ≤ t.length → b.length + i < acc.length + j → StI S0 S' b → S'.1 27 = (j : Int) → zW (if x1 = 0 then if (b.length : Int) ≤ 200 then ZL (d + 2) 711 [.inl x1, .inl (b.length : Int)] S' else zthrow 1 (S'.1 23) S' else if (b.length : Int) = 1 then ZL (d + 2) 711 [.inl x1, .inl (b.length : Int)] S' else zthrow 1 (S'.1 23) S') Q) →
      (∀ p S', sStr t i acc = .inl p → RdEr S0 1 p S' → Q none S') → zW (ZL (d + 2) 590 [.inl x1] S) Q := by
  intro n
  induction n with
  | zero => intro i acc S h1 h2; omega
  | succ n ih =>
    intro i acc S h1 h2 hS h27 hB hok her
    have hL : Lx S t := Lx_ag hS.1 (by decide) (by decide) hL0
    have hT := hL.2.1.1
    have hlt := tch_lt hL.2.1 i
    have hin := tch_in hL.2.1 i
    have h30 := hS.2.2.1
    refine zl_readString_p31 ?_
    unfold zb_readString_p31
    rw [sStr] at hok her
    have bad : ∀ p : Nat, S.1 27 = (p : Int) → (i < t.length → sStr t i acc = .inl p) → True := fun _ _ _ => trivial
    refine zW_Ie (z_here hL h27 (by omega)) (zW_if (fun y => ?_) (fun y => ?_))
    · rw [if_pos (by omega), if_pos y] at hok
      refine zW_G (by omega) (zW_p (zW_G (by show inI ((S.1 30 - S.1 25) - 1); rw [h30, hS.2.1]; omega) (zW_let ?_)))
      have e2 : ((zput S 27 (S.1 27 + 1)).1 30 - (zput S 27 (S.1 27 + 1)).1 25) - 1 = (acc.length : Int) := by
        show S.1 30 - S.1 25 - 1 = _
        rw [h30, hS.2.1]; omega
      rw [e2]
      exact hok acc (i + 1) _ rfl (by omega) (by omega) (by omega) (StI_27 hS) (by show S.1 27 + 1 = _; omega)
    · refine zW_Ie (z_here hL h27 (by omega)) (zW_let (zW_if (fun y1 => ?_) (fun y1 => ?_)))
      · rw [if_pos (by omega), if_neg y, if_pos y1] at hok her
        refine zW_G (by omega) (zW_p ?_)
        rw [show S.1 27 + 1 = ((i + 1 : Nat) : Int) by omega]
        have h1' : (zput S 27 ((i + 1 : Nat) : Int)).1 30 = S.1 30 := rfl
        refine zW_V (P := fun S1 => ∃ v j, sEsc t (i + 1) = .inr (v, j) ∧ i + 1 < j ∧ j ≤ t.length ∧ PB S v S1 ∧ S1.1 27 = (j : Int)) (T := fun S1 => Q none S1) (zW_c (z_readEscape (i := i + 1) (Lx_27 hL) (by omega) rfl (by omega) (by omega) (fun v j S1 e1 e2 e3 e4 e5 => ⟨v, j, e1, e2, e3, PB_27' e4, e5⟩) (fun p S1 e1 e2 => ?_))) ?_ (fun S' q => q)
        · rw [e1] at her
          exact her p S1 rfl (RdEr_of hS.1 (by decide) ⟨by have := hS.2.2.1; omega, hS.2.2.2.2.1⟩ (RdEr_put e2))
        · rintro S1 ⟨v, j, e1, e2, e3, e4, e5⟩
          rw [e1] at hok her
          dsimp only at hok her
          rw [if_pos (by omega)] at hok her
          refine ih j (acc ++ [v]) S1 (by omega) e3 (StI_push hS e4 (sEsc_in e1)) e5 (by rw [e4.2.1]; omega) (fun b j' S2 g1 g2 g3 g4 g5 g6 => hok b j' S2 g1 (by omega) g3 ?_ g5 g6) (fun p S2 g1 g2 => her p S2 g1 g2)
          rw [List.length_append] at g4
          have g4 : b.length + j < acc.length + 1 + j' := g4
          omega
      · have thr : (i < t.length → ¬ (tch t i < 32 ∨ 126 < tch t i) → False) → zW (zthrow 1 (S.1 27) S) Q := by
          intro hf
          refine zW_thr ?_
          rw [h27]
          refine her i _ ?_ ⟨zAg_put (by decide) (zAg_put (by decide) (zAg_mono hS.1 (by decide) (by decide))), rfl, rfl, hS.2.2.2.2.1⟩
          by_cases hb : i < t.length
          · rw [if_pos hb, if_neg y, if_neg y1, if_pos (Classical.byContradiction fun q => hf hb q)]
          · rw [if_neg hb]
        refine zW_if (fun y2 => thr (fun _ q => q (Or.inl y2))) (fun y2 => zW_if (fun y3 => ?_) (fun y3 => thr (fun _ q => q (Or.inr (by omega)))))
        rw [if_pos (by omega), if_neg y, if_neg y1, if_neg (by omega)] at hok her
        refine zW_Ve (z_pushByte (by omega) (by omega)) (zW_G (by show inI (S.1 27 + 1); omega) (zW_p ?_))
        refine ih (i + 1) (acc ++ [tch t i]) _ (by omega) (by omega) (StI_27 (StI_push hS PB_push (by omega))) ?_ ?_ (fun b j' S2 g1 g2 g3 g4 g5 g6 => hok b j' S2 g1 (by omega) g3 ?_ g5 g6) (fun p S2 g1 g2 => her p S2 g1 g2)
        · show S.1 27 + 1 = _; omega
        · show S.1 30 + 1 + _ < _; omega
        · rw [List.length_append] at g4
          have g4 : b.length + (i + 1) < acc.length + 1 + j' := g4
          omega
/-- its length is laid before it -/
theorem SB_fin {b : List Int} (hS : StI S0 S b) : SB (zset S 9 (S.1 25) (zbyte b.length)) (S0.1 30) b := by
  obtain ⟨h1, h2, h3, h4, h5, h6⟩ := hS
  refine ⟨?_, fun k hk => ?_⟩
  · rw [zset_3, if_pos ⟨rfl, h2.symm⟩]
  · rw [zset_3, if_neg (fun q => by have := q.2; omega)]
    exact h4 k hk
theorem getD_one {b : List Int} (h : b.length = 1) (k : ∀ v ∈ b, 0 ≤ v ∧ v ≤ 255) : 0 ≤ b.getD 0 0 ∧ b.getD 0 0 ≤ 255 := by
  match b, h with
  | [v], _ => exact k v (List.mem_singleton.mpr rfl)
theorem z_readString {a : Nat} {x1 : Int} (hx : x1 = 0 ∨ x1 = 1) (hQ1 : ∀ k j S', (if x1 = 0 then sString t a else sChar t a) = .inr (k, j) → RdOk S W k j S' → Q (some none) S') (hQ2 : ∀ (x : Int) p S', (if x1 = 0 then sString t a else sChar t a) = .inl (x, p) → RdEr S x p S' → Q none S') (hL : Lx S t) (hN : NW S W) (h23 : S.1 23 = (a : Int)) (h27 : S.1 27 = (a : Int)) (hle : (if x1 = 0 then a + 1 else a + 2) ≤ t.length) (h30 : 0 ≤ S.1 30) (hB : S.1 30 + t.length < 183990) :
    zW (ZL (d + 2) 37 [.inl x1] S) Q := by
  have hT := hL.2.1.1
  obtain ⟨i0, hi0⟩ : ∃ i0 : Nat, i0 = if x1 = 0 then a + 1 else a + 2 := ⟨_, rfl⟩
  rw [← hi0] at hle
  have hai : a < i0 := by split at hi0 <;> omega
  have eS : (if x1 = 0 then sString t a else sChar t a) = match sStr t i0 [] with
      | .inl p => .inl (1, p)
      | .inr (b, j) => if x1 = 0 then (if 200 < b.length then .inl (1, a) else .inr ((4, a, b, 0), j)) else (if b.length ≠ 1 then .inl (1, a) else .inr ((5, a, b, b.getD 0 0), j)) := by
    split
    · next q => rw [hi0, if_pos q]; unfold sString; rfl
    · next q => rw [hi0, if_neg q]; unfold sChar; rfl
  rw [eS] at hQ1 hQ2
  have main : zW (ZL (d + 2) 363 [.inl x1, .inl ((i0 - a : Nat) : Int), .inl (S.1 27)] S) Q := by
    refine zl_readString_p14 ?_
    unfold zb_readString_p14
    refine zW_G (by omega) (zW_p (zW_p ?_))
    rw [show S.1 27 + ((i0 - a : Nat) : Int) = (i0 : Int) by omega]
    have e0 : (zput S 27 (i0 : Int)).1 30 = S.1 30 := rfl
    rw [e0]
    refine zW_Ve (z_pushByte (by show 0 ≤ S.1 30; omega) (by show S.1 30 < _; omega)) ?_
    refine z_str (S0 := S) h30 hL (t.length + 1) i0 [] _ (by omega) hle ⟨?_, rfl, ?_, fun k hk => absurd hk (Nat.not_lt_zero k), fun x hx => ?_, fun v hv => nomatch hv⟩ rfl ?_ (fun b j S' g1 g2 g3 g4 g5 g6 => ?_) (fun p S' g1 g2 => ?_)
    · exact zAg_put (by decide) (zAg_set (by decide) (zAg_put (by decide) (zAg_put (by decide) zAg_refl)))
    · show S.1 30 + 1 = S.1 30 + 1 + ((0 : Nat) : Int); omega
    · exact if_neg (fun q : (9 : Nat) = 9 ∧ x = S.1 30 => by have := q.2; omega)
    · show S.1 30 + 1 + _ < _; omega
    · rw [g1] at hQ1 hQ2
      dsimp only at hQ1 hQ2
      have g4 : b.length + i0 < 0 + j := g4
      have h23' : S'.1 23 = (a : Int) := (g5.1.1 _ (by decide)).trans h23
      have h25' := g5.2.1
      have h30' := g5.2.2.1
      have lay : ∀ y0 : Int, (x1 = 0 ∧ y0 = 4 ∧ b.length ≤ 200 ∨ x1 = 1 ∧ y0 = 5 ∧ b.length = 1) → zW (ZL (d + 2) 786 [.inl x1, .inl y0] (zset S' 9 (S'.1 25) (zbyte b.length))) Q := by
        intro y0 hy
        refine zl_readString_p180 ?_
        unfold zb_readString_p180
        have hag : ∀ v : Int, zAg FR0 AR0 S (zput (zput (zset S' 9 (S'.1 25) (zbyte b.length)) 22 y0) 24 v) := fun v => zAg_put (by decide) (zAg_put (by decide) (zAg_set (by decide) (zAg_mono g5.1 (by decide) (by decide))))
        have hNT : ∀ v : Int, NT (zput (zput (zset S' 9 (S'.1 25) (zbyte b.length)) 22 y0) 24 v) W := fun v => NT_put (by decide) (by decide) (NT_put (by decide) (by decide) (NT_ag (F := FS0) (A := [9]) (zAg_set (by decide) g5.1) (by decide) (by decide) hN.1))
        have hfr : ∀ v x : Int, x < S.1 30 → (zput (zput (zset S' 9 (S'.1 25) (zbyte b.length)) 22 y0) 24 v).2.2.1 9 x = S.2.2.1 9 x := fun v x hx => by
          show (if 9 = 9 ∧ x = S'.1 25 then _ else _) = _
          rw [if_neg (fun q => by have := q.2; omega)]
          exact g5.2.2.2.2.1 x hx
        have hle : ∀ v : Int, (zput (zput (zset S' 9 (S'.1 25) (zbyte b.length)) 22 y0) 24 v).1 30 = S.1 30 + ((1 + b.length : Nat) : Int) := fun v => by
          show S'.1 30 = _
          omega
        refine zW_p (zW_if (fun q => zW_p (zW_rV ?_)) (fun q => zW_a ?_ (zW_p (zW_rV ?_))))
        · rcases hy with ⟨-, rfl, hb⟩ | ⟨q1, -, -⟩
          · rw [if_pos q, if_neg (by omega)] at hQ1
            refine hQ1 _ j _ rfl ⟨hag 0, g6, ⟨W, List.prefix_rfl, by omega, by omega, hNT 0, rfl, h23', fun q => absurd (show (4 : Nat) < 3 from q) (by decide), fun q => absurd (show (4 : Nat) = 3 from q) (by decide), fun _ => ⟨?_, ?_, ?_⟩, fun q => absurd (show (4 : Nat) = 5 from q) (by decide)⟩, hle 0, hfr 0⟩
            · show 0 ≤ S'.1 25; omega
            · show S'.1 25 + 1 + (b.length : Int) ≤ S'.1 30; omega
            · have := SB_fin g5
              rw [← h25'] at this
              exact this
          · omega
        · show 0 ≤ S'.1 25 + 1 ∧ S'.1 25 + 1 < _; omega
        · rcases hy with ⟨q1, -, -⟩ | ⟨-, rfl, hb⟩
          · omega
          · rw [if_neg q, if_neg (fun z => z hb)] at hQ1
            refine hQ1 _ j _ rfl ⟨hag _, g6, ⟨W, List.prefix_rfl, by omega, by omega, hNT _, rfl, h23', fun q => absurd (show (5 : Nat) < 3 from q) (by decide), fun q => absurd (show (5 : Nat) = 3 from q) (by decide), fun q => absurd (show (5 : Nat) = 4 from q) (by decide), fun _ => ?_⟩, hle _, hfr _⟩
            have eg : (zput (zset S' 9 (S'.1 25) (zbyte b.length)) 22 5).2.2.1 9 ((zput (zset S' 9 (S'.1 25) (zbyte b.length)) 22 5).1 25 + 1) = S'.2.2.1 9 (S'.1 25 + 1) := if_neg (fun q : (9 : Nat) = 9 ∧ S'.1 25 + 1 = S'.1 25 => by have := q.2; omega)
            show zandI _ 255 = b.getD 0 0
            rw [eg, h25']
            have e4 := g5.2.2.2.1 0 (by omega)
            rw [show S.1 30 + 1 + ((0 : Nat) : Int) = S.1 30 + 1 by omega] at e4
            have hv := getD_one hb g5.2.2.2.2.2
            rw [e4]
            obtain ⟨m, hm⟩ : ∃ m : Nat, b.getD 0 0 = (m : Int) := ⟨(b.getD 0 0).toNat, by omega⟩
            rw [hm]
            exact zbyte_255 m (by omega)
      have mid : (x1 = 0 ∧ b.length ≤ 200 ∨ x1 = 1 ∧ b.length = 1) → zW (ZL (d + 2) 711 [.inl x1, .inl (b.length : Int)] S') Q := by
        intro hy
        refine zl_readString_p159 ?_
        unfold zb_readString_p159
        refine zW_st (by omega) (zW_if (fun q => lay 4 ?_) (fun q => lay 5 ?_))
        · omega
        · omega
      refine zW_if (fun q => zW_if (fun q1 => mid (by omega)) (fun q1 => ?_)) (fun q => zW_if (fun q1 => mid (by omega)) (fun q1 => ?_))
      · rw [if_pos q, if_pos (by omega)] at hQ2
        refine zW_thr ?_
        rw [h23']
        exact hQ2 1 a _ rfl ⟨zAg_put (by decide) (zAg_put (by decide) (zAg_mono g5.1 (by decide) (by decide))), rfl, rfl, g5.2.2.2.2.1⟩
      · rw [if_neg q, if_pos (by omega)] at hQ2
        refine zW_thr ?_
        rw [h23']
        exact hQ2 1 a _ rfl ⟨zAg_put (by decide) (zAg_put (by decide) (zAg_mono g5.1 (by decide) (by decide))), rfl, rfl, g5.2.2.2.2.1⟩
    · rw [g1] at hQ2
      exact hQ2 1 p S' rfl g2
  refine zl_readString ?_
  unfold zb_readString
  refine zW_if (fun q => ?_) (fun q => ?_)
  · rw [if_pos q] at hi0
    rw [show ((i0 - a : Nat) : Int) = 1 by omega] at main
    exact main
  · rw [if_neg q] at hi0
    rw [show ((i0 - a : Nat) : Int) = 2 by omega] at main
    exact main
end ZRd4
