set_option maxRecDepth 100000
/-! THE REFERENCE'S NAMES: a list of names, each once; nameAt finds one or lays it behind -/
theorem zand_mask (k : Nat) (hk : k ≤ 30) {a : Int} (h0 : 0 ≤ a) (h1 : a < 2147483648) : zandI a ((2 ^ k - 1 : Nat) : Int) = a % ((2 ^ k : Nat) : Int) := by
  obtain ⟨m, rfl⟩ := Int.eq_ofNat_of_zero_le h0
  have hp : 2 ^ k ≤ 2 ^ 30 := Nat.pow_le_pow_right (by decide) hk
  have hp0 : 0 < 2 ^ k := Nat.pow_pos (by decide)
  have hp2 : 2 ^ 30 = 1073741824 := by decide
  have e : ∀ n : Nat, n < 2147483648 → (i32 (n : Int)).toBitVec = BitVec.ofNat 32 n := by
    intro n hn
    apply BitVec.eq_of_toNat_eq
    rw [show (i32 (n : Int)).toBitVec = BitVec.ofInt 32 (n : Int) from rfl, BitVec.toNat_ofInt, BitVec.toNat_ofNat]
    omega
  have e2 : i32 (m : Int) &&& i32 ((2 ^ k - 1 : Nat) : Int) = i32 ((m % 2 ^ k : Nat) : Int) := by
    have hm : m % 2 ^ k < 2 ^ k := Nat.mod_lt _ hp0
    apply Int32.toBitVec_inj.mp
    rw [Int32.toBitVec_and, e m (by omega), e (2 ^ k - 1) (by omega), e (m % 2 ^ k) (by omega)]
    apply BitVec.eq_of_toNat_eq
    rw [BitVec.toNat_and, BitVec.toNat_ofNat, BitVec.toNat_ofNat, BitVec.toNat_ofNat, Nat.mod_eq_of_lt (show 2 ^ k - 1 < 2 ^ 32 by omega), Nat.and_two_pow_sub_one_eq_mod]
    rw [Nat.mod_eq_of_lt (show m < 2 ^ 32 by omega), Nat.mod_eq_of_lt (show m % 2 ^ k < 2 ^ 32 by omega)]
  unfold zandI
  rw [e2]
  have hm : m % 2 ^ k < 2 ^ k := Nat.mod_lt _ hp0
  rw [i32_toInt ⟨by omega, by omega⟩]
  first | exact Int.natCast_emod m (2 ^ k) | exact (Int.ofNat_emod m (2 ^ k)) | rfl
theorem zand_1023 {a : Int} (h0 : 0 ≤ a) (h1 : a < 2147483648) : zandI a 1023 = a % 1024 := zand_mask 10 (by decide) h0 h1
theorem zand_255 {a : Int} (h0 : 0 ≤ a) (h1 : a < 2147483648) : zandI a 255 = a % 256 := zand_mask 8 (by decide) h0 h1
def hsh (l : List Int) : Int := l.foldl (fun h c => (h * 31 + c) % 1024) (l.length : Int)
def off (W : List (List Int)) (w : Nat) : Nat := ((W.take w).map List.length).sum
def lastW (W : List (List Int)) (h : Int) : Nat → Int
  | 0 => -1
  | n + 1 => if hsh (W.getD n []) = h then (n : Int) else lastW W h n
def NT (S : ZS) (W : List (List Int)) : Prop := S.1 13 = (W.length : Int) ∧ S.1 12 = (off W W.length : Int) ∧
  (∀ w : Nat, w < W.length → S.2.2.1 4 w = (off W w : Int) ∧ S.2.2.1 5 w = ((W.getD w []).length : Int) ∧ S.2.2.1 6 w = lastW W (hsh (W.getD w [])) w ∧ ∀ k : Nat, k < (W.getD w []).length → S.2.2.1 3 ((off W w + k : Nat) : Int) = (W.getD w []).getD k 0) ∧
  (∀ h : Int, 0 ≤ h → h < 1024 → S.2.2.1 7 h = lastW W h W.length) ∧ W.Nodup ∧ (∀ l ∈ W, l.length ≤ 30)
theorem lastW_spec (W : List (List Int)) (h : Int) : ∀ m : Nat, (lastW W h m = -1 ∧ ∀ i, i < m → hsh (W.getD i []) ≠ h) ∨ (∃ i : Nat, i < m ∧ lastW W h m = (i : Int) ∧ hsh (W.getD i []) = h ∧ ∀ j, i < j → j < m → hsh (W.getD j []) ≠ h) := by
  intro m
  induction m with
  | zero => exact Or.inl ⟨rfl, fun i hi => by omega⟩
  | succ m ih =>
    by_cases e : hsh (W.getD m []) = h
    · exact Or.inr ⟨m, by omega, if_pos e, e, fun j h1 h2 => by omega⟩
    · have e1 : lastW W h (m + 1) = lastW W h m := if_neg e
      rcases ih with ⟨g1, g2⟩ | ⟨i, g1, g2, g3, g4⟩
      · refine Or.inl ⟨e1.trans g1, fun i hi => ?_⟩
        by_cases h1 : i = m
        · rw [h1]; exact e
        · exact g2 i (by omega)
      · refine Or.inr ⟨i, by omega, e1.trans g2, g3, fun j h1 h2 => ?_⟩
        by_cases h3 : j = m
        · rw [h3]; exact e
        · exact g4 j h1 (by omega)
theorem getD_app {W : List (List Int)} {l : List Int} {i : Nat} (h : i < W.length) : (W ++ [l]).getD i [] = W.getD i [] := by
  rw [List.getD_eq_getElem?_getD, List.getD_eq_getElem?_getD, List.getElem?_append_left h]
theorem getD_app_last {W : List (List Int)} {l : List Int} : (W ++ [l]).getD W.length [] = l := by
  rw [List.getD_eq_getElem?_getD, List.getElem?_append_right (Nat.le_refl _), Nat.sub_self]; rfl
theorem lastW_app {W : List (List Int)} {l : List Int} {h : Int} : ∀ m, m ≤ W.length → lastW (W ++ [l]) h m = lastW W h m := by
  intro m
  induction m with
  | zero => intro _; rfl
  | succ m ih =>
    intro hm
    unfold lastW
    rw [getD_app (by omega), ih (by omega)]
theorem off_app {W : List (List Int)} {l : List Int} {w : Nat} (h : w ≤ W.length) : off (W ++ [l]) w = off W w := by
  unfold off
  rw [List.take_append_of_le_length h]
theorem off_succ {W : List (List Int)} {w : Nat} (h : w < W.length) : off W (w + 1) = off W w + (W.getD w []).length := by
  unfold off
  rw [List.take_add_one, List.map_append, List.sum_append, List.getD_eq_getElem?_getD, List.getElem?_eq_getElem h]
  rfl
theorem off_mono {W : List (List Int)} : ∀ {v w : Nat}, v ≤ w → w ≤ W.length → off W v ≤ off W w := by
  intro v w
  induction w with
  | zero => intro h _; have : v = 0 := by omega
            subst this; exact Nat.le_refl _
  | succ w ih =>
    intro h1 h2
    by_cases e : v = w + 1
    · subst e; exact Nat.le_refl _
    · have := ih (by omega) (by omega)
      rw [off_succ (by omega)]
      omega
/-- a piece of the text -/
def sl (t : List Int) (a n : Nat) : List Int := (t.drop a).take n
theorem sl_len {t : List Int} {a n : Nat} (h : a + n ≤ t.length) : (sl t a n).length = n := by
  unfold sl
  rw [List.length_take, List.length_drop]
  omega
theorem sl_at {t : List Int} {a n k : Nat} (h : a + n ≤ t.length) (hk : k < n) : (sl t a n).getD k 0 = tch t (a + k) := by
  unfold sl tch
  rw [List.getD_eq_getElem?_getD, List.getElem?_take, if_pos hk, List.getElem?_drop, List.getElem?_eq_getElem (by omega)]
  rfl
theorem hsh_take {t : List Int} {a n : Nat} (hT : tOK t) (h : a + n ≤ t.length) : ∀ k, k ≤ n → ∃ z : Int, ((sl t a n).take k).foldl (fun h c => (h * 31 + c) % 1024) (n : Int) = z ∧ 0 ≤ z ∧ z ≤ 8000 ∧ (n < 1024 → z < 1024) := by
  intro k
  induction k with
  | zero => intro _; have := hT.1; exact ⟨(n : Int), rfl, by omega, by omega, fun q => by omega⟩
  | succ k ih =>
    intro hk
    obtain ⟨z, e, g1, g2, -⟩ := ih (by omega)
    refine ⟨_, rfl, ?_⟩
    rw [List.take_add_one, List.foldl_append, e]
    have hk2 : k < (sl t a n).length := by rw [sl_len h]; omega
    rw [List.getElem?_eq_getElem hk2]
    show 0 ≤ (z * 31 + _) % 1024 ∧ _
    refine ⟨Int.emod_nonneg _ (by decide), ?_, fun _ => Int.emod_lt_of_pos _ (by decide)⟩
    have := Int.emod_lt_of_pos (z * 31 + (sl t a n)[k]) (show (0 : Int) < 1024 by decide)
    show (z * 31 + (sl t a n)[k]) % 1024 ≤ 8000
    omega
def FN0 : List Nat := [12, 13]
def AN0 : List Nat := [3, 4, 5, 6, 7]
def zAg (F A : List Nat) (S S' : ZS) : Prop := (∀ f, f ∉ F → S'.1 f = S.1 f) ∧ S'.2.1 = S.2.1 ∧ (∀ j, j ∉ A → S'.2.2.1 j = S.2.2.1 j) ∧ S'.2.2.2 = S.2.2.2
theorem zAg_refl {F A : List Nat} {S : ZS} : zAg F A S S := ⟨fun _ _ => rfl, rfl, fun _ _ => rfl, rfl⟩
theorem zAg_trans {F A : List Nat} {S S1 S2 : ZS} (h1 : zAg F A S S1) (h2 : zAg F A S1 S2) : zAg F A S S2 := ⟨fun f h => (h2.1 f h).trans (h1.1 f h), h2.2.1.trans h1.2.1, fun f h => (h2.2.2.1 f h).trans (h1.2.2.1 f h), h2.2.2.2.trans h1.2.2.2⟩
theorem zAg_mono {F A F' A' : List Nat} {S S' : ZS} (h : zAg F A S S') (hF : ∀ f ∈ F, f ∈ F') (hA : ∀ f ∈ A, f ∈ A') : zAg F' A' S S' := ⟨fun f z => h.1 f fun y => z (hF f y), h.2.1, fun f z => h.2.2.1 f fun y => z (hA f y), h.2.2.2⟩
theorem zAg_put {F A : List Nat} {S S' : ZS} {f : Nat} {v : Int} (hf : f ∈ F) (h : zAg F A S S') : zAg F A S (zput S' f v) := ⟨fun g z => by rw [zput_1, if_neg (fun e : g = f => z (by rw [e]; exact hf))]; exact h.1 g z, h.2⟩
theorem zAg_set {F A : List Nat} {S S' : ZS} {j : Nat} {i v : Int} (hj : j ∈ A) (h : zAg F A S S') : zAg F A S (zset S' j i v) := ⟨h.1, h.2.1, fun g z => by
  rw [← h.2.2.1 g z]
  funext k
  rw [zset_3, if_neg (fun e => z (by rw [e.1]; exact hj))], h.2.2.2⟩
theorem Lx_ag {F A : List Nat} {S S' : ZS} {t : List Int} (h : zAg F A S S') (hF : 6 ∉ F) (hA : 2 ∉ A) (hL : Lx S t) : Lx S' t := ⟨by rw [h.1 _ hF]; exact hL.1, hL.2.1, fun i hi => by rw [h.2.2.1 _ hA]; exact hL.2.2 i hi⟩
theorem NT_ag {F A : List Nat} {S S' : ZS} {W : List (List Int)} (h : zAg F A S S') (hF : 12 ∉ F ∧ 13 ∉ F) (hA : 3 ∉ A ∧ 4 ∉ A ∧ 5 ∉ A ∧ 6 ∉ A ∧ 7 ∉ A) (hN : NT S W) : NT S' W := by
  unfold NT
  rw [h.1 _ hF.1, h.1 _ hF.2, h.2.2.1 _ hA.1, h.2.2.1 _ hA.2.1, h.2.2.1 _ hA.2.2.1, h.2.2.1 _ hA.2.2.2.1, h.2.2.1 _ hA.2.2.2.2]
  exact hN
section ZNm
variable {d : Nat} {t : List Int} {W : List (List Int)} {Q : Option (Option ZV) → ZS → Prop}
/-- a new name is laid down -/
theorem z_lay {S0 : ZS} {a n : Nat} (hL0 : Lx S0 t) (hN : NT S0 W) (hn : a + n ≤ t.length) (hn30 : n ≤ 30) (hc1 : W.length < 14990) (hc2 : off W W.length ≤ 43900) (hnew : sl t a n ∉ W) (hQ : ∀ S', zAg FN0 AN0 S0 S' → NT S' (W ++ [sl t a n]) → Q (some (some (.inl (W.length : Int)))) S') :
    ∀ (m k : Nat) (S : ZS), n < m + k → k ≤ n → zAg FN0 AN0 S0 S → S.1 13 = (W.length : Int) → S.1 12 = (off W W.length : Int) → (∀ w : Nat, w < W.length → S.2.2.1 4 w = S0.2.2.1 4 w ∧ S.2.2.1 5 w = S0.2.2.1 5 w ∧ S.2.2.1 6 w = S0.2.2.1 6 w) → S.2.2.1 4 (W.length : Int) = (off W W.length : Int) → S.2.2.1 5 (W.length : Int) = (n : Int) → S.2.2.1 6 (W.length : Int) = lastW W (hsh (sl t a n)) W.length → (∀ h : Int, 0 ≤ h → h < 1024 → S.2.2.1 7 h = if h = hsh (sl t a n) then (W.length : Int) else S0.2.2.1 7 h) → (∀ i : Nat, i < off W W.length → S.2.2.1 3 (i : Int) = S0.2.2.1 3 (i : Int)) → (∀ j : Nat, j < k → S.2.2.1 3 ((off W W.length + j : Nat) : Int) = tch t (a + j)) →
    zW (ZL d 783 [.inl (a : Int), .inl (n : Int), .inl (k : Int)] S) Q := by
  intro m
  induction m with
  | zero => intro k S h1 h2; omega
  | succ m ih =>
    intro k S h1 h2 hag h13 h12 hold h4 h5 h6 h7 h3 h8
    have hT := hL0.2.1.1
    have hL := Lx_ag hag (by decide) (by decide) hL0
    refine zl_nameAt_text_p193 ?_
    unfold zb_nameAt_text_p193
    refine zW_if (fun z => ?_) (fun z => ?_)
    · refine zW_a (by omega) (zW_st (by omega) (zW_G (by omega) (zW_let ?_)))
      rw [show (k : Int) + 1 = ((k + 1 : Nat) : Int) by omega]
      refine ih (k + 1) _ (by omega) (by omega) (zAg_set (by decide) hag) h13 h12 hold h4 h5 h6 h7 (fun i hi => ?_) (fun j hj => ?_)
      · rw [zset_3, if_neg (fun q => by omega)]
        exact h3 i hi
      · rw [zset_3]
        by_cases hjk : j = k
        · subst hjk
          rw [if_pos ⟨rfl, by omega⟩, show (a : Int) + (j : Int) = ((a + j : Nat) : Int) by omega]
          exact hL.2.2 _ (by omega)
        · rw [if_neg (fun q => by omega)]
          exact h8 j (by omega)
    · have hkn : k = n := by omega
      subst hkn
      refine zW_G (by omega) (zW_p (zW_G (by rw [zput_1, if_neg (by decide)]; omega) (zW_p (zW_G ?_ (zW_rI ?_)))))
      · rw [zput_1, if_pos rfl, zput_1, if_neg (by decide)]; omega
      · have e1 : (zput (zput S 12 (S.1 12 + (k : Int))) 13 ((zput S 12 (S.1 12 + (k : Int))).1 13 + 1)).1 13 - 1 = (W.length : Int) := by
          rw [zput_1, if_pos rfl, zput_1, if_neg (by decide)]; omega
        rw [e1]
        refine hQ _ (zAg_put (by decide) (zAg_put (by decide) hag)) ?_
        have hlen : (W ++ [sl t a k]).length = W.length + 1 := by rw [List.length_append]; rfl
        have hlast : (W ++ [sl t a k]).getD W.length [] = sl t a k := getD_app_last
        have hoff : off (W ++ [sl t a k]) (W.length + 1) = off W W.length + k := by
          rw [off_succ (by omega), off_app (Nat.le_refl _), hlast, sl_len hn]
        have hl1 : ∀ h, lastW (W ++ [sl t a k]) h (W.length + 1) = if hsh (sl t a k) = h then (W.length : Int) else lastW W h W.length := by
          intro h
          show (if hsh ((W ++ [sl t a k]).getD W.length []) = h then (W.length : Int) else lastW (W ++ [sl t a k]) h W.length) = _
          rw [hlast, lastW_app _ (Nat.le_refl _)]
        refine ⟨?_, ?_, fun w hw => ?_, fun h g1 g2 => ?_, ?_, fun l hl => ?_⟩
        · rw [zput_1, if_pos rfl, zput_1, if_neg (by decide), hlen]; omega
        · rw [zput_1, if_neg (by decide), zput_1, if_pos rfl, hlen, hoff]; omega
        · rw [hlen] at hw
          show S.2.2.1 4 w = _ ∧ S.2.2.1 5 w = _ ∧ S.2.2.1 6 w = _ ∧ ∀ k', _ → S.2.2.1 3 _ = _
          by_cases hwl : w = W.length
          · subst hwl
            rw [hlast, off_app (Nat.le_refl _), lastW_app _ (Nat.le_refl _), sl_len hn]
            refine ⟨h4, h5, h6, fun k' hk' => ?_⟩
            rw [h8 k' hk', sl_at hn hk']
          · have hwl2 : w < W.length := by omega
            obtain ⟨q1, q2, q3, q4⟩ := hN.2.2.1 w hwl2
            obtain ⟨p1, p2, p3⟩ := hold w hwl2
            rw [getD_app hwl2, off_app (by omega), lastW_app _ (by omega), p1, p2, p3]
            refine ⟨q1, q2, q3, fun k' hk' => ?_⟩
            rw [← q4 k' hk']
            refine h3 _ ?_
            have := off_mono (W := W) (v := w + 1) (w := W.length) (by omega) (Nat.le_refl _)
            rw [off_succ hwl2] at this
            omega
        · show S.2.2.1 7 h = _
          rw [hlen, hl1, h7 h g1 g2]
          by_cases e : h = hsh (sl t a k)
          · rw [if_pos e, if_pos e.symm]
          · rw [if_neg e, if_neg (fun q => e q.symm)]; exact hN.2.2.2.1 h g1 g2
        · rw [List.nodup_append]
          refine ⟨hN.2.2.2.2.1, by simp, fun x hx y hy => ?_⟩
          rw [List.mem_singleton] at hy
          subst hy
          exact fun q => hnew (q ▸ hx)
        · rcases List.mem_append.mp hl with hl | hl
          · exact hN.2.2.2.2.2 l hl
          · rw [List.mem_singleton] at hl; rw [hl, sl_len hn]; exact hn30
end ZNm
