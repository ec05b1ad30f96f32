set_option maxRecDepth 100000
/-! THE REFERENCE'S TYPES: merge whole -/
section ZMrg2
variable {adm : Nat → Bool} {d : Nat} {S S1 S' S0 : ZS} {μ : Zmp} {G G' G0 : TG} {n n' m x y z a b a0 b0 : Nat} {fl fl' : Nat → List Nat} {B B' : Nat → Zfl} {F P K T O L FA FB : List Nat} {N : TN} {Q : Option (Option ZV) → ZS → Prop} {i v w k c f l t : Int} {R R' : Nat → Prop} {W W1 : TW} {E : List Nat}
theorem z_mergeRows (hμ : Mok μ) (hw0 : tWF G0 n) (hx : x < n) (hy : y < n) (hJ : JI G0 n x y G n ((a0, b0) :: W)) (ea : G.1 a0 = a) (eb : G.1 b0 = b) (h : ZM adm S μ G n fl B R W E) (hab : a ≠ b) (ka : zyk S a = 3) (kb : zyk S b = 3) (hM : (E.length : Int) + W.length + 1 + tPhi G n ≤ 56999) (hY : zY (S.1 67) G n ≤ 4559920) : zW (ZL (d + 3) 142 [.inl (a : Int), .inl (b : Int)] S) (oI (fun r S' => ZStep adm G0 n x y S μ G R W E a b r S') (fun _ => False)) := by
  have hab0 : JAb G a0 b0 a b := Or.inl ⟨ea, eb⟩
  obtain ⟨⟨ha, ra⟩, hb, rb⟩ := JI_at hJ hab0
  obtain ⟨hn, hn2, hn3⟩ := h.1.2.1
  rcases h.1.2.2.2.2.1 a ha ra with ⟨q, _⟩ | ⟨q, _⟩ | ⟨q, _⟩ | ⟨_, ca0, gA, chA, srA, lvA⟩
  · rw [ka] at q; cases q
  · rw [ka] at q; cases q
  · rw [ka] at q; cases q
  rcases h.1.2.2.2.2.1 b hb rb with ⟨q, _⟩ | ⟨q, _⟩ | ⟨q, _⟩ | ⟨_, cb0, gB, chB, srB, lvB⟩
  · rw [kb] at q; cases q
  · rw [kb] at q; cases q
  · rw [kb] at q; cases q
  have ltA := ZCh_lt chA
  have ltB := ZCh_lt chB
  obtain ⟨m67, hm67⟩ : ∃ m : Nat, S.1 67 = (m : Int) := ⟨(S.1 67).toNat, by omega⟩
  have hm67' : m67 ≤ 56999 := by
    have := zY_67 (m := m67) (G := G) (n := n)
    rw [hm67] at hY; omega
  have hdis := h.1.2.2.2.2.2.1 a b ha hb ra rb hab
  have two := two_len (m := m67) (zsrt_nd srA) (zsrt_nd srB) hdis (fun f m => by have := ltA f m; omega) (fun f m => by have := ltB f m; omega)
  have tk : (fl a).length + (fl b).length ≤ tPhi G n := by
    have := isum_two (n := n) (x := a) (y := b) (d := fun z => @ite Int (G.1 z = z) (Classical.propDecidable _) ((tkids (G.2 z)).length : Int) 0) ha hb hab (fun z _ _ _ => by split <;> omega)
    have e1 : tkids (G.2 a) = zkd S (mK μ) (fl a) := by rw [gA]; rfl
    have e2 : tkids (G.2 b) = zkd S (mK μ) (fl b) := by rw [gB]; rfl
    simp only [ra, rb, if_true, e1, e2, zkd_len] at this
    exact this
  refine zl_mergeRows ?_
  unfold zb_mergeRows
  refine zW_a (by omega) ?_
  rw [show S.2.2.1 24 (a : Int) = zfb (B a) from h.1.2.2.2.1 a ha, zfb_8]
  have go : zW (ZL (d + 3) 433 [.inl (a : Int), .inl (b : Int), .inl (bI (B a).2.2.2.1)] S) (oI (fun r S' => ZStep adm G0 n x y S μ G R W E a b r S') (fun _ => False)) := by
    refine zl_mergeRows_p17 ?_
    unfold zb_mergeRows_p17
    refine zW_let (zW_a (by omega) ?_)
    rw [show S.2.2.1 24 (b : Int) = zfb (B b) from h.1.2.2.2.1 b hb, zfb_8]
    have go2 : zW (ZL (d + 3) 627 [.inl (a : Int), .inl (b : Int), .inl (bI (B a).2.2.2.1), .inl (bI (B b).2.2.2.1), .inl (zy1 S a)] S) (oI (fun r S' => ZStep adm G0 n x y S μ G R W E a b r S') (fun _ => False)) := by
      refine z_mr1 (d := d + 2) chB (by omega) (by omega) (fl a) _ chA (fun e ⟨f, mf, hf⟩ => ?_) (fun cb => ?_)
      · refine Or.inl ⟨rfl, ZJf_refl, fun w hq => ?_⟩
        have e : (B b).2.2.2.1 = false := bI_0.mp e
        rw [e] at gB
        refine tS_lack (l := mK μ (zfl S (f : Nat))) (c := (zft S (f : Nat)).toNat) ha hb ra rb gA gB (zkd_mem.mpr ⟨f, mf, rfl, rfl⟩) hJ.1 (fun c m => ?_) ⟨hq.1, hq.2.2⟩
        obtain ⟨g, mg, eg, _⟩ := zkd_mem.mp m
        exact hf g mg (hμ.2.2.2.2 _ _ (lvB g mg) (lvA f mf) eg.symm)
      refine z_mr2 (d := d + 2) chA (by omega) (by omega) (fl b) _ chB (fun e ⟨f, mf, hf⟩ => ?_) (fun ca => ?_)
      · refine Or.inl ⟨rfl, ZJf_refl, fun w hq => ?_⟩
        have e : (B a).2.2.2.1 = false := bI_0.mp e
        rw [e] at gA
        refine tS_lack (l := mK μ (zfl S (f : Nat))) (c := (zft S (f : Nat)).toNat) hb ha rb ra gB gA (zkd_mem.mpr ⟨f, mf, rfl, rfl⟩) hJ.1 (fun c m => ?_) ⟨hq.1, hq.2.2.symm⟩
        obtain ⟨g, mg, eg, _⟩ := zkd_mem.mp m
        exact hf g mg (hμ.2.2.2.2 _ _ (lvA g mg) (lvB f mf) eg.symm)
      obtain ⟨r, S1, e1, e2⟩ := zW_ex (z_allFields (d := d) (W := W) chA chB srA srB hdis h.2.1 ⟨⟨by omega, by omega, fun _ => by omega⟩, by omega, by omega, fun _ => by omega⟩ (by omega) hn)
      have fin : ∀ (T O : List Nat) (io : Bool), ((io = true ∧ T = fl b ∧ O = fl a) ∨ (io = false ∧ T = fl a ∧ O = fl b)) → O.length ≤ T.length → ZAr S T O W io r S1 → zW (ZL (d + 3) 724 [.inl (a : Int), .inl (b : Int), .inl (bI (B a).2.2.2.1), .inl (bI (B b).2.2.2.1), .inl (-1)] S) (oI (fun r S' => ZStep adm G0 n x y S μ G R W E a b r S') (fun _ => False)) := by
        rintro T O io hT hTO ⟨L, W1, rfl, hL, hA⟩
        have l2 := hA.2.2.2.2.2.2.2.1
        have l1 := hA.2.2.2.2.2.2.1
        rw [List.length_nil, Nat.add_zero] at l1
        have lTO : T.length + O.length = (fl a).length + (fl b).length := by
          rcases hT with ⟨_, e1, e2⟩ | ⟨_, e1, e2⟩ <;> rw [e1, e2]
          omega
        have a1 := hA.1
        refine z_mr3 (d := d + 2) (m := E.length) (ba := B a) (bb := B b) hab (by omega) (by omega) rfl rfl ⟨headO L, S1, zW_eq e1 ⟨rfl, rfl⟩, ⟨?_, ?_⟩, ⟨?_, by omega⟩, ?_⟩
        · show S1.2.2.1 24 _ = _
          rw [a1.2.2.1 24 (by decide)]; exact h.1.2.2.2.1 a ha
        · show S1.2.2.1 24 _ = _
          rw [a1.2.2.1 24 (by decide)]; exact h.1.2.2.2.1 b hb
        · rw [a1.1 79 (by decide)]; exact h.2.2.1.2.1
        · exact z_row_core hμ hw0 hx hy hJ ea eb h hab ka kb hT hTO (fun e => ca (bI_0.mpr e)) (fun e => cb (bI_0.mpr e)) hA hL (by omega)
      by_cases hle : (fl a).length ≤ (fl b).length
      · rw [if_pos hle] at e2
        exact fin _ _ true (Or.inl ⟨rfl, rfl, rfl⟩) hle e2
      · rw [if_neg hle] at e2
        exact fin _ _ false (Or.inr ⟨rfl, rfl, rfl⟩) (by omega) e2
    cases e : (B b).2.2.2.1 with
    | false => rw [e] at go2; exact zW_t rfl (zW_let (zW_a (by omega) (zW_let go2)))
    | true => rw [e] at go2; exact zW_f (by decide) (zW_let (zW_a (by omega) (zW_let go2)))
  cases e : (B a).2.2.2.1 with
  | false => rw [e] at go; exact zW_t rfl go
  | true => rw [e] at go; exact zW_f (by decide) go
/-- an unknown one becomes another one; b's entries first, as they are by then -/
theorem z_unk (hw0 : tWF G0 n) (hx : x < n) (hy : y < n) (h : ZM adm S μ G n fl B R W E) (hJw : tWF G n) (ha : a < n) (hb : b < n) (ra : G.1 a = a) (rb : G.1 b = b) (hab : a ≠ b) (ka : zyk S a = 0) (hJ' : JI G0 n x y (tlink G a b ((G.2 a).1 || (G.2 b).1, (G.2 b).2)) n W) (hM : (E.length : Int) ≤ 56998) (hbel : tBel G0 x y b) : ∃ S', ZL d 140 [.inl (a : Int), .inl (b : Int)] S = some (some none, S') ∧ ZStep adm G0 n x y S μ G R W E a b 1 S' := by
  obtain ⟨hn, hn2, hn3⟩ := h.1.2.1
  have h79 := h.2.2.1.2.1
  refine ⟨_, z_becomes (by omega) (by omega) hab (h.1.2.2.2.1 a ha) (h.1.2.2.2.1 b hb) h79 (by omega), ?_⟩
  have hM1 := ZM_bec hJw h ha hb ra rb hab (by rw [ka]; decide)
  have gA : (G.2 a).2 = .inl (if (B a).2.1 then 1 else 0) := by
    rcases h.1.2.2.2.2.1 a ha ra with ⟨_, q, _⟩ | ⟨q, _⟩ | ⟨q, _⟩ | ⟨q, _⟩
    · rw [q]
    · rw [ka] at q; cases q
    · rw [ka] at q; cases q
    · rw [ka] at q; cases q
  have hPhi := tPhi_link (N := ((G.2 a).1 || (G.2 b).1, (G.2 b).2)) ha hb ra rb hab
  rw [show tkids (((G.2 a).1 || (G.2 b).1, (G.2 b).2) : TN) = tkids (G.2 b) from rfl] at hPhi
  have l2 := zeb_len (b := b) (ba := B a) (bb := B b) (E := E)
  refine Or.inr ⟨rfl, zbec_Jf, _, fl, _, W, _, hJ', ZM_R hM1 (fun f hf => Or.inl hf), by omega, troots_link ha rb ra hab, ?_, zeb_bel hbel⟩
  rw [zbec_f (by decide)]
  obtain ⟨m, hm⟩ : ∃ m : Nat, S.1 67 = (m : Int) := ⟨(S.1 67).toNat, by omega⟩
  rw [hm]
  exact zY_same ha hb ra rb hab rfl (fun lab kids => by rw [gA]; intro q; cases q)
end ZMrg2
