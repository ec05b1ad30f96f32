set_option maxRecDepth 100000
/-! ARRAYLISTS in the House's heap -/
theorem zshr_1 {n : Nat} (h : n < 2147483648) : zshrI (n : Int) 1 = ((n / 2 : Nat) : Int) := by
  unfold zshrI i32
  rw [show (Int32.ofInt 1 &&& 31) = 1 by decide]
  have e : (Int32.ofInt (n : Int)).toInt = n := Int32.toInt_ofInt_of_le (by omega) (by omega)
  rw [← Int32.toInt_toBitVec, Int32.toBitVec_shiftRight, show ((1 : Int32).toBitVec.smod 32) = 1#32 by decide]
  show (BitVec.sshiftRight _ (1#32).toNat).toInt = _
  rw [BitVec.toInt_sshiftRight, Int32.toInt_toBitVec, e]
  show (n : Int) >>> 1 = _
  rw [Int.shiftRight_eq_div_pow]
  omega
/-- a list: its array, how much that takes, what lies in it -/
def AlY (H : YS) (a e cap : Nat) (L : List (Option Nat)) : Prop := a < ynx H ∧ yK H a = 5 ∧ yR H 1501 a = some e ∧ yI H 1502 a = L.length ∧ a ≠ e ∧ e < ynx H ∧ (yK H e = 1005 ∨ (yK H e = 3005 ∧ cap = 0)) ∧ yN H e = cap ∧ L.length ≤ cap ∧ (∀ k : Nat, k < L.length → yB H e k = L.getD k none) ∧ ∀ x, some x ∈ L → x < ynx H ∧ yokE 1005 (yK H x) = true
def PA (H : YS) (a e : Nat) : Nat → Prop := fun x => x = a ∨ (x = e ∧ yK H e = 1005)
def CE (C : YC) (H : YS) : Prop := ∀ j, j = 2 ∨ j = 15 → ∃ e, C.2.2.1 j = some e ∧ e < ynx H ∧ yK H e = 3005 ∧ yN H e = 0
section YAl
variable {B P : Nat → Prop} {C : YC} {H H' : YS} {a a' e e' c s d cap : Nat} {L L' : List (Option Nat)} {w : Option Nat} {Q : Option (Option ZV) → YS → Prop}
theorem CE_ex (h : CE C H) (hx : yEx P c s H H') : CE C H' := fun j hj => by
  obtain ⟨e, e1, e2, e3, e4⟩ := h j hj
  exact ⟨e, e1, Nat.lt_of_lt_of_le e2 hx.2.2.1, by rw [(hx.2.1 e e2).1]; exact e3, by rw [(hx.2.1 e e2).2]; exact e4⟩
theorem AlY_ex (h : AlY H a e cap L) (hx : yEx P c s H H') (hp : ¬ P a) (hp2 : yK H e = 1005 → ¬ P e) : AlY H' a e cap L := by
  obtain ⟨h1, h2, h3, h4, h5, h6, h7, h8, h9, h10, h11⟩ := h
  have ka := hx.2.1 a h1
  have ke := hx.2.1 e h6
  have sa := hx.1 a h1 hp
  refine ⟨Nat.lt_of_lt_of_le h1 hx.2.2.1, by rw [ka.1]; exact h2, by rw [sa.2.1]; exact h3, by rw [sa.1]; exact h4, h5, Nat.lt_of_lt_of_le h6 hx.2.2.1, by rw [ke.1]; exact h7, by rw [ke.2]; exact h8, h9, fun k hk => ?_, fun x q => ⟨Nat.lt_of_lt_of_le (h11 x q).1 hx.2.2.1, by rw [(hx.2.1 x (h11 x q).1).1]; exact (h11 x q).2⟩⟩
  rcases h7 with q | q
  · rw [(hx.1 e h6 (hp2 q)).2.2.2]; exact h10 k hk
  · omega
theorem AlY_k (h : AlY H a e cap L) : (1000 ≤ yK H e ∧ yK H e < 1012) ∨ (3000 ≤ yK H e ∧ yK H e < 3012) := by
  have := h.2.2.2.2.2.2.1
  omega
theorem y_size (h : AlY H a e cap L) : YL C d 506 [zr a] H = some (some (some (.inl L.length)), H) := by
  refine zW_get (yl_ArrayList_size ?_)
  unfold yb_ArrayList_size
  exact zW_gI h.2.1 rfl (zW_rI ⟨by rw [h.2.2.2.1], rfl⟩)
theorem y_isEmpty (h : AlY H a e cap L) : YL C d 582 [zr a] H = some (some (some (.inl (if L = [] then 1 else 0))), H) := by
  refine zW_get (yl_ArrayList_isEmpty ?_)
  unfold yb_ArrayList_isEmpty
  refine zW_gI h.2.1 rfl ?_
  rw [h.2.2.2.1]
  refine zW_if (fun q => zW_rN rfl ⟨?_, rfl⟩) (fun q => zW_rN rfl ⟨?_, rfl⟩)
  · rw [if_pos (List.eq_nil_of_length_eq_zero (by omega))]
  · rw [if_neg (fun z => q (by rw [z]; rfl))]
theorem y_objIndex {i n : Int} (h : 0 ≤ i ∧ i < n) : YL C (d + 1) 768 [.inl i, .inl n] H = some (some (some (.inl i)), H) := by
  refine zW_get (yl_Objects_checkIndex ?_)
  unfold yb_Objects_checkIndex
  exact zW_Ie (y_checkIndex h) (zW_rI ⟨rfl, rfl⟩)
theorem AlY_1005 (h : AlY H a e cap L) {k : Nat} (hk : k < L.length) : yK H e = 1005 := by
  have := h.2.2.2.2.2.2.1
  have := h.2.2.2.2.2.2.2.2.1
  omega
theorem y_elem (h : AlY H a e cap L) {k : Nat} (hk : k < L.length) : YL C d 769 [zr a, .inl (k : Int)] H = some (some (some (.inr (.inr (L.getD k none)))), H) := by
  have h5 := AlY_1005 h hk
  have h8 := h.2.2.2.2.2.2.2.1
  have h9 := h.2.2.2.2.2.2.2.2.1
  refine zW_get (yl_ArrayList_elementData ?_)
  unfold yb_ArrayList_elementData
  refine zW_gR h.2.1 rfl ?_
  rw [h.2.2.1]
  exact zW_aR (by omega) (by omega) (zW_rQ ⟨by rw [h.2.2.2.2.2.2.2.2.2.1 k hk], rfl⟩)
theorem y_get (h : AlY H a e cap L) {k : Nat} (hk : k < L.length) : YL C (d + 2) 528 [zr a, .inl (k : Int)] H = some (some (some (.inr (.inr (L.getD k none)))), H) := by
  refine zW_get (yl_ArrayList_get ?_)
  unfold yb_ArrayList_get
  refine zW_gI h.2.1 rfl ?_
  rw [h.2.2.2.1]
  refine zW_Ie (y_objIndex (by omega)) ?_
  rw [ycv_s h.2.1 ⟨by decide, rfl⟩]
  exact zW_Qe (y_elem h hk) (zW_rQ ⟨rfl, rfl⟩)
theorem yokO_w (hw : ∀ x, w = some x → x < ynx H ∧ yokE 1005 (yK H x) = true) : yokO 1005 w (yK H) = true := by
  cases w with
  | none => rfl
  | some x => exact (hw x rfl).2
theorem y_alInit (hE : CE C H) (ha : a < ynx H) (hk : yK H a = 5) (hc : yI H 1502 a = 0) : zW (YL C (d + 2) 503 [zr a] H) (fun o H1 => o = some none ∧ ∃ e, AlY H1 a e 0 [] ∧ yK H1 e = 3005 ∧ yEx (fun x => x = a) 0 0 H H1 ∧ ynx H1 = ynx H) := by
  obtain ⟨e, e1, e2, e3, e4⟩ := hE 2 (Or.inl rfl)
  refine yl_ArrayList_init ?_
  unfold yb_ArrayList_init
  rw [ycs_s]
  have i0 : YL C (d + 1) 753 [zr a] H = some (some none, yput H 1500 a 0) := by
    refine zW_get (yl_AbstractList_init ?_)
    unfold yb_AbstractList_init
    rw [ycs_s]
    have i1 : YL C d 887 [zr a] H = some (some none, H) := by
      refine zW_get (yl_AbstractCollection_init ?_)
      unfold yb_AbstractCollection_init
      exact zW_nn (zW_rV ⟨rfl, rfl⟩)
    exact zW_Ve i1 (zW_pI hk (by decide) rfl (zW_rV ⟨rfl, rfl⟩))
  refine zW_Ve i0 (zW_svR ?_)
  rw [e1]
  refine zW_pR hk (by decide) (zW_rV ⟨rfl, e, ⟨ha, hk, yputR_at, ?_, ?_, e2, Or.inr ⟨e3, rfl⟩, e4, Nat.le_refl _, fun k q => absurd q (Nat.not_lt_zero k), fun x q => nomatch q⟩, e3, yEx_putR (yEx_put yEx_refl (fun _ => rfl)) (fun _ => rfl), rfl⟩)
  · have q : ∀ v, yI (yput H 1500 a v) 1502 a = 0 := fun v => (yput_f (by decide)).trans hc
    exact q 0
  · rintro rfl; omega
/-- another array, for one more -/
theorem y_grow (hE : CE C H) (h : AlY H a e cap L) (hl : L.length = cap) (hc : cap ≤ 10000000) : zW (YL C (d + 4) 888 [zr a] H) (fun o H1 => o = some (some (.inr (.inr (some (ynx H))))) ∧ ∃ cap1, AlY H1 a (ynx H) cap1 L ∧ yK H1 (ynx H) = 1005 ∧ cap < cap1 ∧ cap1 ≤ 2 * cap + 10 ∧ yEx (fun x => x = a) 1 (4 * (cap1 - cap)) H H1) := by
  obtain ⟨h1, h2, h3, h4, h5, h6, h7, h8, h9, h10, h11⟩ := h
  have hne : ¬ e = ynx H := by omega
  have hna : ¬ a = ynx H := by omega
  refine yl_ArrayList_grow ?_
  unfold yb_ArrayList_grow
  refine zW_gI h2 rfl ?_
  rw [h4, ycv_s h2 ⟨by decide, rfl⟩]
  refine zW_G (by omega) (zW_Q (P := fun r H1 => r = some (ynx H) ∧ ∃ cap1, AlY H1 a (ynx H) cap1 L ∧ yK H1 (ynx H) = 1005 ∧ cap < cap1 ∧ cap1 ≤ 2 * cap + 10 ∧ yEx (fun x => x = a) 1 (4 * (cap1 - cap)) H H1) (T := fun _ => False) (zW_c ?_) (fun r H1 q => zW_rQ ⟨by rw [q.1], q.2⟩) (fun _ q => q.elim))
  refine yl_ArrayList_grow_2 ?_
  unfold yb_ArrayList_grow_2
  -- what is the same once the new array is there
  have fin : ∀ (cap1 : Nat) (H1 : YS), cap < cap1 → cap1 ≤ 2 * cap + 10 → cap1 ≤ 4 * (cap1 - cap) → (∀ x, x < ynx H → ySame H H1 x) → yK H1 = yK (ymk H 1005 cap1 cap1) → yN H1 = yN (ymk H 1005 cap1 cap1) → ynx H1 = ynx H + 1 → ysl H1 = ysl H + cap1 → (∀ k : Nat, k < L.length → yB H1 (ynx H) k = L.getD k none) → zW (ypR 1501 (some a) (some (ynx H)) H1 fun h7 => zrQ (some (ynx H)) h7) (oQ (fun r H1 => r = some (ynx H) ∧ ∃ cap1, AlY H1 a (ynx H) cap1 L ∧ yK H1 (ynx H) = 1005 ∧ cap < cap1 ∧ cap1 ≤ 2 * cap + 10 ∧ yEx (fun x => x = a) 1 (4 * (cap1 - cap)) H H1) (fun _ => False)) := by
    intro cap1 H1 b1 b2 b3 q1 q2 q3 q4 q5 q6
    have kk : ∀ x, x < ynx H → yK H1 x = yK H x := fun x hx => by rw [q2, ymk_K, if_neg (by omega)]
    have ka : yK H1 a = 5 := (kk a h1).trans h2
    have kn : yK H1 (ynx H) = 1005 := by rw [q2, ymk_K, if_pos rfl]
    have nn : yN H1 (ynx H) = cap1 := by rw [q3, ymk_N, if_pos rfl]
    refine zW_pR ka (by decide) (zW_rQ ⟨rfl, cap1, ⟨by show a < ynx H1; omega, ka, yputR_at, ((q1 a h1).1 1502).trans h4, hna, by show ynx H < ynx H1; omega, Or.inl kn, nn, by omega, q6, fun x q => ⟨by have := (h11 x q).1; show x < ynx H1; omega, ?_⟩⟩, kn, b1, b2, ?_⟩)
    · show yokE 1005 (yK H1 x) = true
      rw [kk x (h11 x q).1]
      exact (h11 x q).2
    · refine yEx_putR ⟨fun x hx _ => q1 x hx, fun x hx => ⟨kk x hx, ?_⟩, by omega, by omega, by omega⟩ (fun _ => rfl)
      rw [q3, ymk_N, if_neg (by omega)]
  have same : ∀ (v : Int) (n x : Nat), x < ynx H → ySame H (ymk H 1005 v n) x := fun v n x hx => by
    have hx : ¬ x = ynx H := by omega
    exact ⟨fun f => by rw [ymk_I, if_neg hx], fun f => by rw [ymk_R, if_neg hx], fun f => by rw [ymk_A, if_neg hx], fun f => by rw [ymk_B, if_neg hx]⟩
  have more : zW (YL C (d + 3) 991 [zr a, .inl ((L.length : Int) + 1), .inl (cap : Int)] H) (oQ (fun r H1 => r = some (ynx H) ∧ ∃ cap1, AlY H1 a (ynx H) cap1 L ∧ yK H1 (ynx H) = 1005 ∧ cap < cap1 ∧ cap1 ≤ 2 * cap + 10 ∧ yEx (fun x => x = a) 1 (4 * (cap1 - cap)) H H1) (fun _ => False)) := by
    refine yl_ArrayList_grow_2_p20 ?_
    unfold yb_ArrayList_grow_2_p20
    have hn := y_newLength (C := C) (d := d + 1) (H := H) (x := (cap : Int)) (y := ((L.length : Int) + 1) - cap) (z := ((cap / 2 : Nat) : Int)) (by omega) (by split <;> omega)
    obtain ⟨cap1, hcap1⟩ : ∃ cap1 : Nat, (cap : Int) + (if ((L.length : Int) + 1) - cap < ((cap / 2 : Nat) : Int) then ((cap / 2 : Nat) : Int) else ((L.length : Int) + 1) - cap) = cap1 := ⟨cap + (if 1 < cap / 2 then cap / 2 else 1), by split <;> split <;> omega⟩
    have b1 : cap < cap1 ∧ cap1 ≤ 2 * cap + 10 ∧ cap1 ≤ 4 * (cap1 - cap) := by split at hcap1 <;> omega
    rw [zshr_1 (by omega)]
    rw [hcap1] at hn
    refine zW_G (by omega) (zW_Ie hn (zW_let (zW_gR h2 rfl ?_)))
    rw [h3]
    refine zW_Q (P := fun r H1 => r = some (ynx H) ∧ (∀ x, x < ynx H → ySame H H1 x) ∧ yK H1 = yK (ymk H 1005 cap1 cap1) ∧ yN H1 = yN (ymk H 1005 cap1 cap1) ∧ ynx H1 = ynx H + 1 ∧ ysl H1 = ysl H + cap1 ∧ (∀ k : Nat, k < L.length → yB H1 (ynx H) k = L.getD k none)) (T := fun _ => False) (zW_c ?_) ?_ (fun _ q => q.elim)
    · refine yl_Arrays_copyOf ?_
      unfold yb_Arrays_copyOf ygc
      dsimp only
      refine zW_t (by omega) (zW_Q (P := fun r H1 => r = some (ynx H) ∧ (∀ x, x < ynx H → ySame H H1 x) ∧ yK H1 = yK (ymk H 1005 cap1 cap1) ∧ yN H1 = yN (ymk H 1005 cap1 cap1) ∧ ynx H1 = ynx H + 1 ∧ ysl H1 = ysl H + cap1 ∧ (∀ k : Nat, k < L.length → yB H1 (ynx H) k = L.getD k none)) (T := fun _ => False) (zW_c ?_) (fun r H1 q => zW_rQ q) (fun _ q => q.elim))
      refine yl_Arrays_copyOf_2 ?_
      unfold yb_Arrays_copyOf_2
      refine zW_t rfl (zW_na (by omega) ?_)
      rw [show ((cap1 : Int)).toNat = cap1 from Int.toNat_natCast cap1]
      refine yl_Arrays_copyOf_2_p24 ?_
      unfold yb_Arrays_copyOf_2_p24
      have k1 : yK (ymk H (1000 + 5) (cap1 : Int) cap1) e = yK H e := by rw [ymk_K, if_neg hne]
      have n1 : yN (ymk H (1000 + 5) (cap1 : Int) cap1) e = cap := by rw [ymk_N, if_neg hne]; exact h8
      have k2 : yK (ymk H (1000 + 5) (cap1 : Int) cap1) (ynx H) = 1005 := by rw [ymk_K, if_pos rfl]
      have n2 : yN (ymk H (1000 + 5) (cap1 : Int) cap1) (ynx H) = cap1 := by rw [ymk_N, if_pos rfl]
      have a1 : ∀ j, yB (ymk H (1000 + 5) (cap1 : Int) cap1) e j = yB H e j := fun j => by rw [ymk_B, if_neg hne]
      refine zW_let (zW_len (by omega) ?_)
      rw [n1]
      have hm := y_min (C := C) (d := d) (H := ymk H (1000 + 5) (cap1 : Int) cap1) (x := (cap : Int)) (y := (cap1 : Int))
      rw [if_pos (by omega)] at hm
      refine zW_Ie hm ?_
      unfold yac
      dsimp only
      refine zW_t (by omega) (zW_f (by omega) ?_)
      rcases h7 with q | ⟨q, q0⟩
      · refine zW_t ⟨by omega, by omega, ?_⟩ (zW_rQ ⟨rfl, fun x hx => ?_, rfl, rfl, rfl, rfl, fun k hk => ?_⟩)
        · rw [List.all_eq_true]
          intro i hi
          have hi := List.mem_range.mp hi
          have hi : i < cap := by omega
          show yokO _ (yB _ e (0 + (i : Int))) _ = true
          rw [Int.zero_add, a1, h10 i (by omega), k2]
          cases hw : L.getD i none with
          | none => rfl
          | some x =>
            have hm : some x ∈ L := by
              rw [← hw, List.getD_eq_getElem?_getD, List.getElem?_eq_getElem (by omega)]
              exact List.getElem_mem _
            have := h11 x hm
            show yokE 1005 (yK (ymk H (1000 + 5) (cap1 : Int) cap1) x) = true
            rw [ymk_K, if_neg (by omega)]
            exact this.2
        · have := same cap1 cap1 x hx
          refine ⟨this.1, this.2.1, this.2.2.1, fun j => ?_⟩
          show (if x = ynx H ∧ _ then _ else yB (ymk H (1000 + 5) (cap1 : Int) cap1) x j) = _
          rw [if_neg (fun q => by omega)]
          exact this.2.2.2 j
        · show (if ynx H = ynx H ∧ 0 ≤ (k : Int) ∧ (k : Int) < 0 + (cap : Int) then yB (ymk H (1000 + 5) (cap1 : Int) cap1) e (0 + ((k : Int) - 0)) else _) = _
          rw [if_pos ⟨rfl, by omega, by omega⟩, a1, show 0 + ((k : Int) - 0) = k by omega]
          exact h10 k hk
      · refine zW_f (by omega) (zW_t (by omega) (zW_rQ ⟨rfl, fun x hx => same cap1 cap1 x hx, rfl, rfl, rfl, rfl, fun k hk => by omega⟩))
    · rintro r H1 ⟨rfl, q1, q2, q3, q4, q5, q6⟩
      exact fin cap1 H1 b1.1 b1.2.1 b1.2.2 q1 q2 q3 q4 q5 q6
  refine zW_gR h2 rfl ?_
  rw [h3]
  refine zW_len (by omega) (zW_let ?_)
  rw [h8]
  refine zW_if (fun y => zW_gR h2 rfl (zW_svR (zW_if (fun y1 => ?_) (fun y1 => more)))) (fun y => more)
  have hm := y_max (C := C) (d := d + 2) (H := H) (x := 10) (y := (L.length : Int) + 1)
  rw [if_neg (by omega)] at hm
  refine zW_Ie hm (zW_na (by decide) ?_)
  exact fin 10 _ (by omega) (by omega) (by omega) (same 10 10) rfl rfl rfl rfl (fun k hk => by omega)
theorem y_alAdd' (hE : CE C H) (h : AlY H a e cap L) (hc : cap ≤ 10000000) (hw : ∀ x, w = some x → x < ynx H ∧ yokE 1005 (yK H x) = true) : zW (YL C (d + 6) 505 [zr a, .inr (.inr w)] H) (fun o H1 => o = some (some (.inl 1)) ∧ ∃ e1 cap1, AlY H1 a e1 cap1 (L ++ [w]) ∧ yK H1 e1 = 1005 ∧ cap ≤ cap1 ∧ (cap1 ≤ max cap (2 * L.length + 10) ∧ (L.length < cap → cap1 = cap)) ∧ (e1 = e ∧ yK H e = 1005 ∨ ynx H ≤ e1) ∧ yEx (PA H a e) 1 (4 * (cap1 - cap)) H H1) := by
  have h0 := h
  obtain ⟨h1, h2, h3, h4, h5, h6, h7, h8, h9, h10, h11⟩ := h
  refine yl_ArrayList_add ?_
  unfold yb_ArrayList_add
  refine zW_gI h2 rfl (zW_pI h2 (by decide) rfl ?_)
  generalize zw32 (yI H 1500 a + 1) = mc
  have ex0 : yEx (fun x => x = a) 0 0 H (yput H 1500 a mc) := yEx_put yEx_refl (fun _ => rfl)
  have A0 : AlY (yput H 1500 a mc) a e cap L := ⟨h1, h2, h3, by
    have q : ∀ v, yI (yput H 1500 a v) 1502 a = L.length := fun v => (yput_f (by decide)).trans h4
    exact q mc, h5, h6, h7, h8, h9, h10, h11⟩
  have E0 : CE C (yput H 1500 a mc) := CE_ex hE ex0
  have w0 : ∀ x, w = some x → x < ynx (yput H 1500 a mc) ∧ yokE 1005 (yK (yput H 1500 a mc) x) = true := hw
  have P0 : PA (yput H 1500 a mc) a e = PA H a e := rfl
  have x0 : ynx (yput H 1500 a mc) = ynx H := rfl
  have ke0 : yK (yput H 1500 a mc) e = yK H e := rfl
  generalize yput H 1500 a mc = H0 at *
  refine zW_gR A0.2.1 rfl ?_
  rw [A0.2.2.1]
  refine zW_gI A0.2.1 rfl ?_
  rw [A0.2.2.2.1, ycv_s A0.2.1 ⟨by decide, rfl⟩]
  refine zW_V (P := fun H1 => ∃ e1 cap1, AlY H1 a e1 cap1 (L ++ [w]) ∧ yK H1 e1 = 1005 ∧ cap ≤ cap1 ∧ (cap1 ≤ max cap (2 * L.length + 10) ∧ (L.length < cap → cap1 = cap)) ∧ (e1 = e ∧ yK H e = 1005 ∨ ynx H ≤ e1) ∧ yEx (PA H a e) 1 (4 * (cap1 - cap)) H0 H1) (T := fun _ => False) (zW_c ?_) ?_ (fun _ q => q.elim)
  · -- laid down
    have lay : ∀ (e1 cap1 : Nat) (H1 : YS), AlY H1 a e1 cap1 L → yK H1 e1 = 1005 → L.length < cap1 → (∀ x, w = some x → x < ynx H1 ∧ yokE 1005 (yK H1 x) = true) → zW (YL C (d + 5) 889 [zr a, .inr (.inr w), zr e1, .inl (L.length : Int)] H1) (fun o H2 => o = some none ∧ AlY H2 a e1 cap1 (L ++ [w]) ∧ yK H2 e1 = 1005 ∧ ∀ c s, yEx (PA H a e) c s H0 H1 → (e1 = e ∧ yK H e = 1005 ∨ ynx H ≤ e1) → yEx (PA H a e) c s H0 H2) := by
      intro e1 cap1 H1 A k1 k2 k3
      obtain ⟨g1, g2, g3, g4, g5, g6, g7, g8, g9, g10, g11⟩ := A
      refine yl_ArrayList_add_2_p11 ?_
      unfold yb_ArrayList_add_2_p11
      refine zW_sR (by omega) (by omega) (by rw [k1]; exact yokO_w k3) (zW_G (by omega) (zW_pI (by exact g2) (by decide) rfl (zW_rV ⟨rfl, ⟨g1, g2, g3, ?_, g5, g6, Or.inl k1, g8, ?_, fun k hk => ?_, fun x q => ?_⟩, k1, fun c s ex q => ?_⟩)))
      · rw [List.length_append]
        exact yput_at
      · rw [List.length_append]; exact k2
      · rw [List.length_append] at hk
        have hk : k < L.length + 1 := hk
        show yB (ysetR H1 e1 (L.length : Int) w) e1 (k : Int) = _
        by_cases q : k = L.length
        · rw [q, ysetR_at, List.getD_eq_getElem?_getD, List.getElem?_append_right (Nat.le_refl _), Nat.sub_self]; rfl
        · rw [ysetR_j (by omega), g10 k (by omega), List.getD_eq_getElem?_getD, List.getD_eq_getElem?_getD, List.getElem?_append_left (by omega)]
      · rcases List.mem_append.mp q with q | q
        · exact g11 x q
        · exact k3 x (List.mem_singleton.mp q).symm
      · refine yEx_put (yEx_setR ex (fun z => ?_)) (fun _ => Or.inl rfl)
        rcases q with q | q
        · exact Or.inr q
        · omega
    refine yl_ArrayList_add_2 ?_
    unfold yb_ArrayList_add_2
    refine zW_len (AlY_k A0) ?_
    rw [A0.2.2.2.2.2.2.2.1]
    refine zW_if (fun y => ?_) (fun y => ?_)
    · rw [ycv_s A0.2.1 ⟨by decide, rfl⟩]
      refine zW_Q (P := fun r H1 => r = some (ynx H) ∧ ∃ cap1, AlY H1 a (ynx H) cap1 L ∧ yK H1 (ynx H) = 1005 ∧ cap < cap1 ∧ cap1 ≤ 2 * cap + 10 ∧ yEx (fun x => x = a) 1 (4 * (cap1 - cap)) H0 H1) (T := fun _ => False) (zW_c (zW_mono (y_grow E0 A0 (by omega) hc) (fun o H1 q => by rw [x0] at q; rw [q.1]; exact ⟨rfl, q.2⟩))) ?_ (fun _ q => q.elim)
      rintro r H1 ⟨rfl, cap1, q1, q2, q3, q4, q5⟩
      refine zW_let (zW_mono (lay (ynx H) cap1 H1 q1 q2 (by omega) (fun x hx => ?_)) ?_)
      · have := w0 x hx
        have k := q5.2.1 x this.1
        exact ⟨Nat.lt_of_lt_of_le this.1 q5.2.2.1, by rw [k.1]; exact this.2⟩
      · rintro o H2 ⟨rfl, p1, p2, p3⟩
        exact ⟨ynx H, cap1, p1, p2, by omega, by omega, Or.inr (Nat.le_refl _), p3 _ _ (yEx_mono q5 (fun _ _ z => Or.inl z) (Nat.le_refl _) (Nat.le_refl _)) (Or.inr (Nat.le_refl _))⟩
    · have k1 : yK H0 e = 1005 := by omega
      refine zW_mono (lay e cap H0 A0 k1 (by omega) w0) ?_
      rintro o H2 ⟨rfl, p1, p2, p3⟩
      exact ⟨e, cap, p1, p2, Nat.le_refl _, by omega, Or.inl ⟨rfl, by rw [← ke0]; exact k1⟩, p3 _ _ yEx_refl (Or.inl ⟨rfl, by rw [← ke0]; exact k1⟩)⟩
  · rintro H1 ⟨e1, cap1, q1, q2, q3, q4, q5, q6⟩
    refine zW_rN rfl ⟨rfl, e1, cap1, q1, q2, q3, q4, q5, ?_⟩
    exact yEx_mono (yEx_trans (yEx_mono ex0 (fun _ _ z => Or.inl z) (Nat.le_refl _) (Nat.le_refl _)) q6 (fun _ _ z => z)) (fun _ _ z => z) (by omega) (by omega)
theorem y_alAdd (hE : CE C H) (h : AlY H a e cap L) (hc : cap ≤ 10000000) (hw : ∀ x, w = some x → x < ynx H ∧ yokE 1005 (yK H x) = true) : zW (YL C (d + 6) 505 [zr a, .inr (.inr w)] H) (fun o H1 => o = some (some (.inl 1)) ∧ ∃ e1 cap1, AlY H1 a e1 cap1 (L ++ [w]) ∧ yK H1 e1 = 1005 ∧ cap ≤ cap1 ∧ cap1 ≤ max cap (2 * L.length + 10) ∧ (e1 = e ∧ yK H e = 1005 ∨ ynx H ≤ e1) ∧ yEx (PA H a e) 1 (4 * (cap1 - cap)) H H1) := zW_mono (y_alAdd' hE h hc hw) (fun o H1 ⟨q1, e1, cap1, p1, p2, p3, p4, p5⟩ => ⟨q1, e1, cap1, p1, p2, p3, p4.1, p5⟩)
theorem getD_set {w : Option Nat} {i k : Nat} (hi : i < L.length) : (L.set i w).getD k none = if k = i then w else L.getD k none := by
  rw [List.getD_eq_getElem?_getD, List.getD_eq_getElem?_getD, List.getElem?_set]
  by_cases q : i = k
  · rw [if_pos q, if_pos hi, if_pos q.symm]; rfl
  · rw [if_neg q, if_neg (fun z => q z.symm)]
theorem y_alSet {i : Nat} (h : AlY H a e cap L) (hi : i < L.length) (hw : ∀ x, w = some x → x < ynx H ∧ yokE 1005 (yK H x) = true) : YL C (d + 2) 841 [zr a, .inl (i : Int), .inr (.inr w)] H = some (some (some (.inr (.inr (L.getD i none)))), ysetR H e i w) := by
  have k5 := AlY_1005 h hi
  have h8 := h.2.2.2.2.2.2.2.1
  have h9 := h.2.2.2.2.2.2.2.2.1
  refine zW_get (yl_ArrayList_set ?_)
  unfold yb_ArrayList_set
  refine zW_gI h.2.1 rfl ?_
  rw [h.2.2.2.1]
  refine zW_Ie (y_objIndex (by omega)) ?_
  rw [ycv_s h.2.1 ⟨by decide, rfl⟩]
  refine zW_Qe (y_elem h hi) (zW_let (zW_gR h.2.1 rfl ?_))
  rw [h.2.2.1]
  exact zW_sR (by omega) (by omega) (by rw [k5]; exact yokO_w hw) (zW_rQ ⟨rfl, rfl⟩)
theorem AlY_set {i : Nat} (h : AlY H a e cap L) (hi : i < L.length) (hw : ∀ x, w = some x → x < ynx H ∧ yokE 1005 (yK H x) = true) : AlY (ysetR H e i w) a e cap (L.set i w) := by
  obtain ⟨h1, h2, h3, h4, h5, h6, h7, h8, h9, h10, h11⟩ := h
  refine ⟨h1, h2, h3, by rw [List.length_set]; exact h4, h5, h6, h7, h8, by rw [List.length_set]; exact h9, fun k hk => ?_, fun x q => ?_⟩
  · rw [List.length_set] at hk
    rw [getD_set hi]
    by_cases q : k = i
    · rw [if_pos q, q]; exact ysetR_at
    · rw [if_neg q, ysetR_j (by omega)]; exact h10 k hk
  · rcases List.mem_or_eq_of_mem_set q with q | q
    · exact h11 x q
    · exact hw x q.symm
/-- the last one is taken off -/
theorem y_alPop (h : AlY H a e cap L) (hc : cap ≤ 100000000) (hi : L ≠ []) : zW (YL C (d + 2) 590 [zr a, .inl ((L.length : Int) - 1)] H) (fun o H1 => o = some (some (.inr (.inr (L.getLast hi)))) ∧ AlY H1 a e cap L.dropLast ∧ yEx (PA H a e) 0 0 H H1 ∧ ynx H1 = ynx H) := by
  have hlen := List.length_pos_iff.mpr hi
  have k5 := AlY_1005 h (k := L.length - 1) (by omega)
  obtain ⟨h1, h2, h3, h4, h5, h6, h7, h8, h9, h10, h11⟩ := h
  refine yl_ArrayList_remove ?_
  unfold yb_ArrayList_remove
  refine zW_gI h2 rfl ?_
  rw [h4]
  refine zW_Ie (y_objIndex (by omega)) (zW_gR h2 rfl ?_)
  rw [h3]
  have hl : yB H e ((L.length : Int) - 1) = L.getLast hi := by
    rw [show (L.length : Int) - 1 = ((L.length - 1 : Nat) : Int) by omega, h10 _ (by omega), List.getD_eq_getElem?_getD, List.getElem?_eq_getElem (by omega), List.getLast_eq_getElem]
    rfl
  refine zW_let (zW_aR (by omega) (by omega) (zW_let ?_))
  rw [hl, ycv_s h2 ⟨by decide, rfl⟩]
  refine zW_V (P := fun H1 => AlY H1 a e cap L.dropLast ∧ yEx (PA H a e) 0 0 H H1 ∧ ynx H1 = ynx H) (T := fun _ => False) (zW_c ?_) (fun H1 q => zW_rQ ⟨rfl, q⟩) (fun _ q => q.elim)
  refine yl_ArrayList_fastRemove ?_
  unfold yb_ArrayList_fastRemove
  refine zW_gI h2 rfl (zW_pI h2 (by decide) rfl ?_)
  generalize zw32 (yI H 1500 a + 1) = mc
  have i4 : yI (yput H 1500 a mc) 1502 a = L.length := by
    have q : ∀ v, yI (yput H 1500 a v) 1502 a = L.length := fun v => (yput_f (by decide)).trans h4
    exact q mc
  refine zW_gI (by exact h2) rfl ?_
  rw [i4]
  refine zW_G (by omega) (zW_let (zW_t (Int.le_refl _) ?_))
  refine yl_ArrayList_fastRemove_p34 ?_
  unfold yb_ArrayList_fastRemove_p34
  refine zW_pI (by exact h2) (by decide) rfl (zW_sR (by show 1005 ≤ yK H e ∧ yK H e < 1012; omega) (by show 0 ≤ (L.length : Int) - 1 ∧ (L.length : Int) - 1 < yN H e; omega) (by show yokO (yK H e) none _ = true; rfl) (zW_rV ⟨⟨h1, h2, h3, ?_, h5, h6, h7, h8, by rw [List.length_dropLast]; omega, fun k hk => ?_, fun x q => h11 x ((List.dropLast_sublist L).subset q)⟩, ?_, rfl⟩))
  · rw [List.length_dropLast]
    have : yI (yput (yput H 1500 a mc) 1502 a ((L.length : Int) - 1)) 1502 a = (L.length : Int) - 1 := yput_at
    refine this.trans ?_
    omega
  · rw [List.length_dropLast] at hk
    refine (ysetR_j (by omega)).trans ((h10 k (by omega)).trans ?_)
    rw [List.getD_eq_getElem?_getD, List.getD_eq_getElem?_getD, List.getElem?_dropLast, if_pos hk]
  · exact yEx_setR (yEx_put (yEx_put yEx_refl (fun _ => Or.inl rfl)) (fun _ => Or.inl rfl)) (fun _ => Or.inr ⟨rfl, k5⟩)
theorem y_alClear (h : AlY H a e cap L) (hc : cap ≤ 100000000) : zW (YL C d 504 [zr a] H) (fun o H1 => o = some none ∧ AlY H1 a e cap [] ∧ yEx (PA H a e) 0 0 H H1 ∧ ynx H1 = ynx H) := by
  obtain ⟨h1, h2, h3, h4, h5, h6, h7, h8, h9, h10, h11⟩ := h
  refine yl_ArrayList_clear ?_
  unfold yb_ArrayList_clear
  refine zW_gI h2 rfl (zW_pI h2 (by decide) rfl ?_)
  generalize zw32 (yI H 1500 a + 1) = mc
  refine zW_gR (by exact h2) rfl ?_
  rw [show yR (yput H 1500 a mc) 1501 a = some e from h3]
  refine zW_let (zW_gI (by exact h2) rfl ?_)
  have i4 : yI (yput H 1500 a mc) 1502 a = L.length := by
    have q : ∀ v, yI (yput H 1500 a v) 1502 a = L.length := fun v => (yput_f (by decide)).trans h4
    exact q mc
  rw [i4]
  refine zW_let (zW_pI (by exact h2) (by decide) rfl (zW_let ?_))
  have loop : ∀ (n k : Nat) (H1 : YS), L.length < n + k → k ≤ L.length → yK H1 = yK H → yN H1 = yN H → yR H1 1501 a = some e → yI H1 1502 a = 0 → yEx (PA H a e) 0 0 H H1 → ynx H1 = ynx H → zW (YL C d 754 [zr e, .inl (L.length : Int), .inl (k : Int)] H1) (fun o H1 => o = some none ∧ AlY H1 a e cap [] ∧ yEx (PA H a e) 0 0 H H1 ∧ ynx H1 = ynx H) := by
    intro n
    induction n with
    | zero => intro k H1 q1 q2; omega
    | succ n ih =>
      intro k H1 q1 q2 q3 q4 q5 q6 q7 q8
      refine yl_ArrayList_clear_p27 ?_
      unfold yb_ArrayList_clear_p27
      refine zW_if (fun z => ?_) (fun z => ?_)
      · have k5 : yK H e = 1005 := by omega
        refine zW_sR (by rw [q3]; omega) (by rw [q4]; omega) rfl (zW_G (by omega) (zW_let ?_))
        rw [show (k : Int) + 1 = ((k + 1 : Nat) : Int) by omega]
        exact ih (k + 1) _ (by omega) (by omega) q3 q4 q5 q6 (yEx_setR q7 (fun _ => Or.inr ⟨rfl, k5⟩)) q8
      · exact zW_rV ⟨rfl, ⟨by rw [q8]; exact h1, by rw [q3]; exact h2, q5, q6, h5, by rw [q8]; exact h6, by rw [q3]; exact h7, by rw [q4]; exact h8, Nat.zero_le _, fun k q => absurd q (Nat.not_lt_zero k), fun x q => nomatch q⟩, q7, q8⟩
  exact loop (L.length + 1) 0 _ (by omega) (by omega) rfl rfl h3 yput_at (yEx_put (yEx_put yEx_refl (fun _ => Or.inl rfl)) (fun _ => Or.inl rfl)) rfl
end YAl
