set_option maxRecDepth 100000
/-! THE REFERENCE'S NAMES, further: one is looked for -/
section ZNm2
variable {d : Nat} {t : List Int} {W : List (List Int)} {S : ZS} {Q : Option (Option ZV) → ZS → Prop}
theorem eq_all {l l' : List Int} (hl : l.length = l'.length) : l = l' ↔ ∀ j, j < l.length → l.getD j 0 = l'.getD j 0 := by
  refine ⟨fun h j _ => by rw [h], fun h => List.ext_getElem hl fun i h1 h2 => ?_⟩
  have := h i h1
  rw [List.getD_eq_getElem?_getD, List.getD_eq_getElem?_getD, List.getElem?_eq_getElem h1, List.getElem?_eq_getElem h2] at this
  exact this
/-- two names are held against each other -/
theorem z_same {a n v : Nat} {h : Int} (hL : Lx S t) (hN : NT S W) (hn : a + n ≤ t.length) (hv : v < W.length) (hoff : off W W.length ≤ 44000) (hw : W.length ≤ 15000) (hk : zW (ZL d 817 [.inl (a : Int), .inl (n : Int), .inl h, .inl (v : Int), .inl (if W.getD v [] = sl t a n then 1 else 0)] S) Q) :
    ∀ (m k : Nat) (b : Int), n < m + k → k ≤ n → b = (if (W.getD v []).length = n ∧ ∀ j, j < k → (W.getD v []).getD j 0 = tch t (a + j) then 1 else 0) → zW (ZL d 784 [.inl (a : Int), .inl (n : Int), .inl h, .inl (v : Int), .inl b, .inl (k : Int)] S) Q := by
  intro m
  induction m with
  | zero => intro k b h1 h2; omega
  | succ m ih =>
    intro k b h1 h2 hb
    obtain ⟨q1, q2, q3, q4⟩ := hN.2.2.1 v hv
    have hT := hL.2.1.1
    refine zl_nameAt_text_p72 ?_
    unfold zb_nameAt_text_p72
    have fin : b = (if W.getD v [] = sl t a n then 1 else 0) → zW (ZL d 817 [.inl (a : Int), .inl (n : Int), .inl h, .inl (v : Int), .inl b] S) Q := fun e => by rw [e]; exact hk
    have no : b = 0 → zW (ZL d 817 [.inl (a : Int), .inl (n : Int), .inl h, .inl (v : Int), .inl b] S) Q := by
      intro e
      refine fin (e.trans ?_)
      rw [if_neg]
      intro q
      rw [e] at hb
      rw [if_pos] at hb
      · cases hb
      · rw [q]; exact ⟨sl_len hn, fun j hj => sl_at hn (by omega)⟩
    refine zW_if (fun z => zW_if (fun z1 => no z1) (fun z1 => ?_)) (fun z => ?_)
    · have hc : (W.getD v []).length = n ∧ ∀ j, j < k → (W.getD v []).getD j 0 = tch t (a + j) := by
        by_cases hc : (W.getD v []).length = n ∧ ∀ j, j < k → (W.getD v []).getD j 0 = tch t (a + j)
        · exact hc
        · rw [if_neg hc] at hb; exact absurd hb z1
      have hmono := off_mono (W := W) (v := v + 1) (w := W.length) (by omega) (Nat.le_refl _)
      rw [off_succ hv] at hmono
      refine zW_a (by omega) (zW_a (by omega) (zW_a (by omega) ?_))
      have e2 : S.2.2.1 3 (S.2.2.1 4 (v : Int) + (k : Int)) = (W.getD v []).getD k 0 := by
        rw [q1, show (off W v : Int) + (k : Int) = ((off W v + k : Nat) : Int) by omega]
        exact q4 k (by omega)
      have e3 : S.2.2.1 2 ((a : Int) + (k : Int)) = tch t (a + k) := by
        rw [show (a : Int) + (k : Int) = ((a + k : Nat) : Int) by omega]
        exact hL.2.2 _ (by omega)
      have step : ∀ c : Int, (c = if (W.getD v []).getD k 0 = tch t (a + k) then 1 else 0) → c = (if (W.getD v []).length = n ∧ ∀ j, j < k + 1 → (W.getD v []).getD j 0 = tch t (a + j) then 1 else 0) := by
        intro c hc2
        rw [hc2]
        by_cases e : (W.getD v []).getD k 0 = tch t (a + k)
        · rw [if_pos e, if_pos ⟨hc.1, fun j hj => (Decidable.em (j = k)).elim (fun q => by rw [q]; exact e) (fun q => hc.2 j (by omega))⟩]
        · rw [if_neg e, if_neg (fun q => e (q.2 k (by omega)))]
      refine zW_if (fun z2 => ?_) (fun z2 => ?_)
      · refine zW_let (zW_G (by omega) (zW_let ?_))
        rw [show (k : Int) + 1 = ((k + 1 : Nat) : Int) by omega]
        refine ih (k + 1) 1 (by omega) (by omega) (step 1 ?_)
        rw [e2, e3] at z2
        rw [if_pos z2]
      · refine zW_let (zW_G (by omega) (zW_let ?_))
        rw [show (k : Int) + 1 = ((k + 1 : Nat) : Int) by omega]
        refine ih (k + 1) 0 (by omega) (by omega) (step 0 ?_)
        rw [e2, e3] at z2
        rw [if_neg z2]
    · have hkn : k = n := by omega
      subst hkn
      refine fin (hb.trans ?_)
      by_cases e : W.getD v [] = sl t a k
      · rw [if_pos e, if_pos]
        rw [e]; exact ⟨sl_len hn, fun j hj => sl_at hn hj⟩
      · rw [if_neg e, if_neg]
        rintro ⟨g1, g2⟩
        refine e ((eq_all (by rw [sl_len hn]; exact g1)).mpr fun j hj => ?_)
        rw [sl_at hn (by omega)]
        exact g2 j (by omega)
/-- along the names of a hash -/
theorem z_seek {a n : Nat} (hL : Lx S t) (hN : NT S W) (hn : a + n ≤ t.length) (hn30 : n ≤ 30) (hc1 : W.length < 14990) (hc2 : off W W.length ≤ 43900)
    (ho : ∀ w : Nat, w < W.length → W.getD w [] = sl t a n → Q (some (some (.inl (w : Int)))) S)
    (hQ : sl t a n ∉ W → ∀ S', zAg FN0 AN0 S S' → NT S' (W ++ [sl t a n]) → Q (some (some (.inl (W.length : Int)))) S') :
    ∀ (m : Nat), m ≤ W.length → (∀ w, m ≤ w → w < W.length → W.getD w [] ≠ sl t a n) → zW (ZL d 708 [.inl (a : Int), .inl (n : Int), .inl (hsh (sl t a n)), .inl (lastW W (hsh (sl t a n)) m)] S) Q := by
  intro m
  have hh : 0 ≤ hsh (sl t a n) ∧ hsh (sl t a n) < 1024 := by
    obtain ⟨z, e, g1, g2, g3⟩ := hsh_take hL.2.1 hn n (Nat.le_refl _)
    rw [List.take_of_length_le (by rw [sl_len hn]; exact Nat.le_refl _)] at e
    have : hsh (sl t a n) = z := by unfold hsh; rw [sl_len hn]; exact e
    rw [this]; exact ⟨g1, g3 (by omega)⟩
  induction m using Nat.strongRecOn with
  | _ m ih =>
    intro hm hne
    have hT := hL.2.1.1
    rcases lastW_spec W (hsh (sl t a n)) m with ⟨g1, g2⟩ | ⟨v, g1, g2, g3, g4⟩
    · rw [g1]
      have hnew : sl t a n ∉ W := by
        intro q
        obtain ⟨i, hi, e⟩ := List.mem_iff_getElem.mp q
        have e2 : W.getD i [] = sl t a n := by rw [List.getD_eq_getElem?_getD, List.getElem?_eq_getElem hi]; exact e
        by_cases him : i < m
        · exact g2 i him (by rw [e2])
        · exact hne i (by omega) hi e2
      refine zl_nameAt_text_p45 ?_
      unfold zb_nameAt_text_p45
      refine zW_t rfl (zW_st (by rw [hN.1]; omega) (zW_st (by rw [zset_1, hN.1]; omega) (zW_a (by omega) (zW_st (by rw [zset_1, zset_1, hN.1]; omega) (zW_st (by omega) (zW_let ?_))))))
      simp only [zset_1]
      refine z_lay hL hN hn hn30 hc1 hc2 hnew (hQ hnew) (n + 1) 0 _ (by omega) (by omega) (zAg_set (by decide) (zAg_set (by decide) (zAg_set (by decide) (zAg_set (by decide) zAg_refl)))) hN.1 hN.2.1 (fun w hw => ?_) ?_ ?_ ?_ (fun h k1 k2 => ?_) (fun i hi => ?_) (fun j hj => by omega)
      · simp only [zset_3, hN.1]
        refine ⟨?_, ?_, ?_⟩ <;> simp <;> omega
      · simp only [zset_3, hN.1, hN.2.1]; simp
      · simp only [zset_3, hN.1]; simp
      · simp only [zset_3, hN.1]; simp
        exact hN.2.2.2.1 _ hh.1 hh.2
      · simp only [zset_3, hN.1]; simp
      · simp only [zset_3]; simp
    · rw [g2]
      refine zl_nameAt_text_p45 ?_
      unfold zb_nameAt_text_p45
      obtain ⟨q1, q2, q3, q4⟩ := hN.2.2.1 v (by omega)
      have behind : zW (ZL d 817 [.inl (a : Int), .inl (n : Int), .inl (hsh (sl t a n)), .inl (v : Int), .inl (if W.getD v [] = sl t a n then 1 else 0)] S) Q := by
        refine zl_nameAt_text_p120 ?_
        unfold zb_nameAt_text_p120
        by_cases e : W.getD v [] = sl t a n
        · rw [if_pos e]
          exact zW_f (by decide) (zW_rI (ho v (by omega) e))
        · rw [if_neg e]
          refine zW_t rfl (zW_a (by omega) (zW_let ?_))
          rw [q3, g3]
          refine ih v g1 (by omega) (fun w h1 h2 => ?_)
          by_cases hwv : w = v
          · rw [hwv]; exact e
          · by_cases hwm : w < m
            · exact fun q => g4 w (by omega) hwm (by rw [q])
            · exact hne w (by omega) h2
      refine zW_f (by omega) (zW_a (by omega) (zW_if (fun z => zW_let (zW_let ?_)) (fun z => zW_let (zW_let ?_))))
      · refine z_same hL hN hn (by omega) (by omega) (by omega) behind (n + 1) 0 1 (by omega) (by omega) ?_
        rw [if_pos ⟨by omega, fun j hj => by omega⟩]
      · refine z_same hL hN hn (by omega) (by omega) (by omega) behind (n + 1) 0 0 (by omega) (by omega) ?_
        rw [if_neg (fun q => z (by omega))]
/-- A NAME: its number -/
theorem z_nameAt {a n : Nat} (hL : Lx S t) (hN : NT S W) (hn : a + n ≤ t.length) (hn30 : n ≤ 30) (hc1 : W.length < 14990) (hc2 : off W W.length ≤ 43900)
    (ho : ∀ w : Nat, w < W.length → W.getD w [] = sl t a n → Q (some (some (.inl (w : Int)))) S)
    (hQ : sl t a n ∉ W → ∀ S', zAg FN0 AN0 S S' → NT S' (W ++ [sl t a n]) → Q (some (some (.inl (W.length : Int)))) S') :
    zW (ZL d 360 [.inl (a : Int), .inl (n : Int)] S) Q := by
  have hT := hL.2.1.1
  have loop : ∀ (m k : Nat) (h : Int), n < m + k → k ≤ n → h = ((sl t a n).take k).foldl (fun h c => (h * 31 + c) % 1024) (n : Int) → zW (ZL d 587 [.inl (a : Int), .inl (n : Int), .inl h, .inl (k : Int)] S) Q := by
    intro m
    induction m with
    | zero => intro k h h1 h2; omega
    | succ m ih =>
      intro k h h1 h2 hh
      obtain ⟨z, e, g1, g2, g3⟩ := hsh_take hL.2.1 hn k h2
      rw [e] at hh
      refine zl_nameAt_text_p6 ?_
      unfold zb_nameAt_text_p6
      refine zW_if (fun y => ?_) (fun y => ?_)
      · have e3 : S.2.2.1 2 ((a : Int) + (k : Int)) = tch t (a + k) := by
          rw [show (a : Int) + (k : Int) = ((a + k : Nat) : Int) by omega]
          exact hL.2.2 _ (by omega)
        have hin := tch_in hL.2.1 (a + k)
        have hlt := tch_lt hL.2.1 (a + k)
        refine zW_a (by omega) (zW_let (zW_G (by omega) (zW_let ?_)))
        rw [e3, zand_1023 (by omega) (by omega), show (k : Int) + 1 = ((k + 1 : Nat) : Int) by omega]
        refine ih (k + 1) _ (by omega) (by omega) ?_
        have hk2 : k < (sl t a n).length := by rw [sl_len hn]; omega
        rw [List.take_add_one, List.foldl_append, e, List.getElem?_eq_getElem hk2, hh]
        have := sl_at (t := t) (a := a) (n := n) (k := k) hn (by omega)
        rw [List.getD_eq_getElem?_getD, List.getElem?_eq_getElem hk2] at this
        show _ = (z * 31 + (sl t a n)[k]) % 1024
        rw [← this]
        rfl
      · have hkn : k = n := by omega
        subst hkn
        have hz : hsh (sl t a k) = z := by
          rw [List.take_of_length_le (by rw [sl_len hn]; exact Nat.le_refl _)] at e
          unfold hsh; rw [sl_len hn]; exact e
        refine zW_a (by omega) (zW_let ?_)
        rw [hN.2.2.2.1 h (by omega) (by omega), hh, ← hz]
        exact z_seek hL hN hn hn30 hc1 hc2 ho hQ W.length (Nat.le_refl _) (fun w h1 h2 => by omega)
  refine zl_nameAt_text ?_
  unfold zb_nameAt_text
  exact zW_let (zW_let (loop (n + 1) 0 n (by omega) (by omega) rfl))
end ZNm2
