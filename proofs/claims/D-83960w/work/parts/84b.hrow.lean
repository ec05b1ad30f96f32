set_option maxRecDepth 100000
/-! THE HOUSE'S TYPES: the object and its rows, by fixed addresses T (0 the object, k the row of field 1200 + k); small methods -/
def tSz (k : Nat) : Int := if k ≤ 5 then 60000 else if k ≤ 8 then 150000 else 1000
def tKd (k : Nat) : Nat := if k = 7 then 1006 else if k = 8 then 1001 else if k = 18 then 1003 else 1000
def tRw : List Nat := [1, 2, 3, 4, 5, 6, 7, 8, 9, 10, 18, 21, 22, 28]
def HtA (T : Nat → Nat) (H : YS) : Prop := T 0 < ynx H ∧ yK H (T 0) = 4 ∧ (∀ k ∈ tRw, yR H (1200 + k) (T 0) = some (T k) ∧ T k < ynx H ∧ yK H (T k) = tKd k ∧ yN H (T k) = tSz k) ∧ ∀ i ∈ 0 :: tRw, ∀ j ∈ 0 :: tRw, T i = T j → i = j
/-- only these fields of the object, these rows may differ -/
def hAg (T : Nat → Nat) (fs as : List Nat) (H H' : YS) : Prop := (yK H' = yK H ∧ yN H' = yN H ∧ yR H' = yR H) ∧ (ynx H' = ynx H ∧ ysl H' = ysl H) ∧ (∀ f a, (a = T 0 → f ∉ fs) → yI H' f a = yI H f a) ∧ (∀ a, (∀ k ∈ as, a ≠ T k) → yA H' a = yA H a) ∧ ∀ a, (a = T 7 → 7 ∉ as) → yB H' a = yB H a
abbrev hfl (T : Nat → Nat) (H : YS) (x : Int) : Int := yA H (T 1) x
abbrev hsp (T : Nat → Nat) (H : YS) (x : Int) : Int := yA H (T 2) x
abbrev hti (T : Nat → Nat) (H : YS) (x : Int) : Int := yA H (T 3) x
abbrev hmk (T : Nat → Nat) (H : YS) (x : Int) : Int := yA H (T 4) x
abbrev hpt (T : Nat → Nat) (H : YS) (x : Int) : Int := yA H (T 6) x
abbrev hla (T : Nat → Nat) (H : YS) (x : Int) : Option Nat := yB H (T 7) x
abbrev hin (T : Nat → Nat) (H : YS) (f : Nat) : Int := yI H f (T 0)
section HRow
variable {T : Nat → Nat} {H H' H2 : YS} {C : YC} {d f k j n m x a : Nat} {fs as fs' as' : List Nat} {v w i y : Int} {Q : Option (Option ZV) → YS → Prop} {r s : Option Nat}
theorem hAg_refl : hAg T fs as H H := ⟨⟨rfl, rfl, rfl⟩, ⟨rfl, rfl⟩, fun _ _ _ => rfl, fun _ _ => rfl, fun _ _ => rfl⟩
theorem hAg_trans (h : hAg T fs as H H') (h' : hAg T fs as H' H2) : hAg T fs as H H2 := ⟨⟨h'.1.1.trans h.1.1, h'.1.2.1.trans h.1.2.1, h'.1.2.2.trans h.1.2.2⟩, ⟨h'.2.1.1.trans h.2.1.1, h'.2.1.2.trans h.2.1.2⟩, fun f a q => (h'.2.2.1 f a q).trans (h.2.2.1 f a q), fun a q => (h'.2.2.2.1 a q).trans (h.2.2.2.1 a q), fun a q => (h'.2.2.2.2 a q).trans (h.2.2.2.2 a q)⟩
theorem hAg_mono (h : hAg T fs as H H') (hf : ∀ f ∈ fs, f ∈ fs') (ha : ∀ a ∈ as, a ∈ as') : hAg T fs' as' H H' := ⟨h.1, h.2.1, fun f a q => h.2.2.1 f a (fun e m => q e (hf f m)), fun a q => h.2.2.2.1 a (fun k m => q k (ha k m)), fun a q => h.2.2.2.2 a (fun e m => q e (ha 7 m))⟩
theorem hAg_put (hf : f ∈ fs) (h : hAg T fs as H H') : hAg T fs as H (yput H' f (T 0) v) := ⟨h.1, h.2.1, fun g a q => by
  rw [← h.2.2.1 g a q]
  exact if_neg (fun (w : g = f ∧ a = T 0) => q w.2 (w.1 ▸ hf)), h.2.2.2.1, h.2.2.2.2⟩
theorem hAg_set (hk : k ∈ as) (h : hAg T fs as H H') : hAg T fs as H (yset H' (T k) i v) := ⟨h.1, h.2.1, h.2.2.1, fun a q => by
  rw [← h.2.2.2.1 a q]
  funext j
  exact if_neg (fun w => q k hk w.1), h.2.2.2.2⟩
theorem hAg_setR (hk : 7 ∈ as) (h : hAg T fs as H H') : hAg T fs as H (ysetR H' (T 7) i s) := ⟨h.1, h.2.1, h.2.2.1, h.2.2.2.1, fun a q => by
  rw [← h.2.2.2.2 a q]
  funext j
  exact if_neg (fun w => q w.1 hk)⟩
theorem HtA_ag (hT : HtA T H) (h : hAg T fs as H H') : HtA T H' := by
  unfold HtA at hT ⊢
  rw [h.1.1, h.1.2.1, h.1.2.2, h.2.1.1]; exact hT
theorem hAg_f (hf : f ∉ fs) (h : hAg T fs as H H') : hin T H' f = hin T H f := h.2.2.1 f _ (fun _ => hf)
theorem hAg_a (hT : HtA T H) (hk : k ∈ tRw) (ha : ∀ a ∈ as, a ∈ tRw) (hn : k ∉ as) (h : hAg T fs as H H') : yA H' (T k) = yA H (T k) := h.2.2.2.1 _ (fun j m e => hn (by
  have := hT.2.2.2 k (List.mem_cons_of_mem _ hk) j (List.mem_cons_of_mem _ (ha j m)) e
  rw [this]; exact m))
theorem hAg_b (hn : 7 ∉ as) (h : hAg T fs as H H') : hla T H' = hla T H := h.2.2.2.2 _ (fun _ => hn)
theorem hAg_StrY {B : Nat → Prop} {b : List Int} (hT : HtA T H) (ha : ∀ a ∈ as, a ∈ tRw ∧ a ≠ 18) (h : hAg T fs as H H') (hs : StrY B H a b) : StrY B H' a b := by
  obtain ⟨h1, h2, h3, e, h4, h5, h6, h7, h8, h9, h10⟩ := hs
  have e0 : a ≠ T 0 := fun q => by
    have := hT.2.1
    rw [← q] at this; omega
  refine ⟨by rw [h.2.1.1]; exact h1, by rw [h.1.1]; exact h2, by rw [h.2.2.1 _ _ (fun q => absurd q e0)]; exact h3, e, by rw [h.1.2.2]; exact h4, h5, by rw [h.2.1.1]; exact h6, by rw [h.1.1]; exact h7, by rw [h.1.2.1]; exact h8, fun k hk => ?_, h10⟩
  rw [h.2.2.2.1 e (fun j m q => ?_)]
  · exact h9 k hk
  · obtain ⟨m1, m2⟩ := ha j m
    have := (hT.2.2.1 j m1).2.2.1
    rw [← q] at this
    unfold tKd at this
    rcases h7 with h7 | h7 <;> rw [h7] at this <;> (split at this <;> first | omega | (split at this <;> first | omega | (split at this <;> omega)))
/-! what a row holds behind a store -/
theorem hset_a (hT : HtA T H) (hk : k ∈ tRw) (hj : j ∈ tRw) (hkj : k ≠ j) : yA (yset H (T j) i v) (T k) = yA H (T k) := funext fun _ => if_neg (fun q => hkj (hT.2.2.2 k (List.mem_cons_of_mem _ hk) j (List.mem_cons_of_mem _ hj) q.1))
theorem hset_s : yA (yset H (T j) i v) (T j) = fun y => if y = i then v else yA H (T j) y := funext fun y => by
  show (if T j = T j ∧ y = i then v else _) = _
  by_cases q : y = i
  · rw [if_pos ⟨rfl, q⟩, if_pos q]
  · rw [if_neg (fun w => q w.2), if_neg q]
theorem hput_f {g : Nat} (h : g ≠ f) : hin T (yput H f (T 0) v) g = hin T H g := if_neg (fun q => h q.1)
theorem hput_s : hin T (yput H f (T 0) v) f = v := if_pos ⟨rfl, rfl⟩
/-! rules -/
theorem ycv_T {R : ZC YS} {tag : Nat} {l : List ZV} (hT : HtA T H) : ycv R d [(4, tag)] (some (T 0)) l H = zc R d tag (zr (T 0) :: l) H := ycv_s hT.2.1 ⟨by decide, rfl⟩
theorem zW_hR (k : Nat) {K : Option Nat → ZR YS} (hT : HtA T H) (hk : k ∈ tRw) (h : zW (K (some (T k))) Q) : zW (ygR (1200 + k) (some (T 0)) H K) Q := by
  refine zW_gR hT.2.1 ?_ ?_
  · have : ∀ k ∈ tRw, yokF (1200 + k) 4 = true := by decide
    exact this k hk
  · rw [(hT.2.2.1 k hk).1]; exact h
theorem zW_hI {K : Int → ZR YS} (hT : HtA T H) (hf : 1211 ≤ f ∧ f ≤ 1227) (h : zW (K (hin T H f)) Q) : zW (ygI f (some (T 0)) H K) Q := by
  refine zW_gI hT.2.1 ?_ h
  have : ∀ j, j ≤ 16 → yokF (1211 + j) 4 = true := by decide
  have := this (f - 1211) (by omega)
  rwa [show 1211 + (f - 1211) = f by omega] at this
theorem zW_hp {K : YS → ZR YS} (hT : HtA T H) (hf : 1211 ≤ f ∧ f ≤ 1227) (h : zW (K (yput H f (T 0) v)) Q) : zW (ypI f 0 (some (T 0)) v H K) Q := by
  refine zW_pI hT.2.1 ⟨by decide, ?_⟩ rfl h
  have : ∀ j, j ≤ 16 → yokF (1211 + j) 4 = true := by decide
  have := this (f - 1211) (by omega)
  rwa [show 1211 + (f - 1211) = f by omega] at this
def tI0 : List Nat := [1, 2, 3, 4, 5, 6, 9, 10, 21, 22, 28]
theorem tI0_k : ∀ k ∈ tI0, k ∈ tRw ∧ tKd k = 1000 := by decide
theorem zW_ha {K : Int → ZR YS} (hT : HtA T H) (hk : k ∈ tI0) (hi : 0 ≤ i ∧ i < tSz k) (h : zW (K (yA H (T k) i)) Q) : zW (yaI 0 (some (T k)) i H K) Q := by
  obtain ⟨q1, q2⟩ := tI0_k k hk
  obtain ⟨_, _, q3, q4⟩ := hT.2.2.1 k q1
  exact zW_aI (q3.trans q2) rfl (by rw [q4]; exact hi) h
theorem zW_hs {K : YS → ZR YS} (hT : HtA T H) (hk : k ∈ tI0) (hi : 0 ≤ i ∧ i < tSz k) (h : zW (K (yset H (T k) i v)) Q) : zW (yst 0 (some (T k)) i v H K) Q := by
  obtain ⟨q1, q2⟩ := tI0_k k hk
  obtain ⟨_, _, q3, q4⟩ := hT.2.2.1 k q1
  exact zW_yst (q3.trans q2) rfl (by rw [q4]; exact hi) h
/-- read in one go -/
theorem zW_rd (k : Nat) {K : Int → ZR YS} (hT : HtA T H) (hk : k ∈ tI0) (hi : 0 ≤ i ∧ i < tSz k) (h : zW (K (yA H (T k) i)) Q) : zW (ygR (1200 + k) (some (T 0)) H fun v => yaI 0 v i H K) Q := zW_hR k hT (tI0_k k hk).1 (zW_ha hT hk hi h)
theorem zW_hw (k : Nat) {K : YS → ZR YS} (hT : HtA T H) (hk : k ∈ tI0) (hi : 0 ≤ i ∧ i < tSz k) (h : zW (K (yset H (T k) i v)) Q) : zW (ygR (1200 + k) (some (T 0)) H fun r => yst 0 r i v H K) Q := zW_hR k hT (tI0_k k hk).1 (zW_hs hT hk hi h)
/-- pairs -/
theorem zW_rd8 {K : Int → ZR YS} (hT : HtA T H) (hi : 0 ≤ i ∧ i < 150000) (h : zW (K (yA H (T 8) i)) Q) : zW (ygR 1208 (some (T 0)) H fun v => yaI 1 v i H K) Q := by
  obtain ⟨_, _, q3, q4⟩ := hT.2.2.1 8 (by decide)
  exact zW_hR 8 hT (by decide) (zW_aI q3 rfl (by rw [q4]; exact hi) h)
theorem zW_hw8 {K : YS → ZR YS} (hT : HtA T H) (hi : 0 ≤ i ∧ i < 150000) (h : zW (K (yset H (T 8) i v)) Q) : zW (ygR 1208 (some (T 0)) H fun r => yst 1 r i v H K) Q := by
  obtain ⟨_, _, q3, q4⟩ := hT.2.2.1 8 (by decide)
  exact zW_hR 8 hT (by decide) (zW_yst (kd := 1001) q3 rfl (by rw [q4]; exact hi) h)
/-! small methods -/
theorem h_kind (hT : HtA T H) (hx : 0 ≤ y ∧ y < 60000) : YL C d 57 [zr (T 0), .inl y] H = some (some (some (.inl (zandI (hfl T H y) 7))), H) := by
  refine zW_get (yl_Types_kind ?_)
  unfold yb_Types_kind
  exact zW_rd 1 hT (by decide) hx (zW_rI ⟨rfl, rfl⟩)
theorem h_is (hT : HtA T H) (hx : 0 ≤ y ∧ y < 60000) : YL C d 58 [zr (T 0), .inl y, .inl w] H = some (some (some (.inl (if zandI (hfl T H y) w = 0 then 0 else 1))), H) := by
  refine zW_get (yl_Types_is ?_)
  unfold yb_Types_is
  refine zW_rd 1 hT (by decide) hx (zW_if (fun q => zW_rN rfl ⟨by rw [if_pos q], rfl⟩) (fun q => zW_rN rfl ⟨by rw [if_neg q], rfl⟩))
theorem h_of (hT : HtA T H) (hx : 0 ≤ y ∧ y < 60000) (h : -2000000000 ≤ hti T H y ∧ hti T H y ≤ 2000000000) : YL C d 59 [zr (T 0), .inl y] H = some (some (some (.inl (-2 - hti T H y))), H) := by
  refine zW_get (yl_Types_of ?_)
  unfold yb_Types_of
  have h : -2000000000 ≤ yA H (T 3) y ∧ yA H (T 3) y ≤ 2000000000 := h
  exact zW_rd 3 hT (by decide) hx (zW_G (by omega) (zW_rI ⟨rfl, rfl⟩))
theorem h_many (hT : HtA T H) (hx : 0 ≤ y ∧ y < 60000) (h : hsp T H y = ((512 * a + n : Nat) : Int)) (hn : n < 512) (ha : a ≤ 150000) : YL C d 60 [zr (T 0), .inl y] H = some (some (some (.inl (n : Int))), H) := by
  refine zW_get (yl_Types_many ?_)
  unfold yb_Types_many
  refine zW_rd 2 hT (by decide) hx ?_
  rw [show yA H (T 2) y = _ from h, zand_511 (by omega), show (512 * a + n) % 512 = n by omega]
  exact zW_rI ⟨rfl, rfl⟩
theorem h_label (hT : HtA T H) (hx : 0 ≤ y ∧ y < 60000) (h : hsp T H y = ((512 * a + n : Nat) : Int)) (hn : n < 512) (hk : a + k < 150000) : YL C d 61 [zr (T 0), .inl y, .inl (k : Int)] H = some (some (some (.inr (.inr (hla T H ((a + k : Nat) : Int))))), H) := by
  obtain ⟨_, _, q3, q4⟩ := hT.2.2.1 7 (by decide)
  refine zW_get (yl_Types_label ?_)
  unfold yb_Types_label
  refine zW_hR 7 hT (by decide) (zW_rd 2 hT (by decide) hx ?_)
  rw [show yA H (T 2) y = _ from h, zshr_9 (by omega), show (512 * a + n) / 512 = a by omega]
  refine zW_aR (Or.inl (by rw [q3]; decide)) (by rw [q4]; show _ ∧ _ < (150000 : Int); omega) (zW_rQ ⟨?_, rfl⟩)
  rw [show ((a : Nat) : Int) + (k : Int) = ((a + k : Nat) : Int) by omega]
theorem h_raw (hT : HtA T H) (hx : 0 ≤ y ∧ y < 60000) (h : hsp T H y = ((512 * a + n : Nat) : Int)) (hn : n < 512) (hk : a + k < 150000) : YL C d 63 [zr (T 0), .inl y, .inl (k : Int)] H = some (some (some (.inl (hpt T H ((a + k : Nat) : Int)))), H) := by
  refine zW_get (yl_Types_raw ?_)
  unfold yb_Types_raw
  refine zW_hR 6 hT (by decide) (zW_rd 2 hT (by decide) hx ?_)
  rw [show yA H (T 2) y = _ from h, zshr_9 (by omega), show (512 * a + n) / 512 = a by omega]
  refine zW_ha hT (by decide) (by show _ ∧ _ < (150000 : Int); omega) (zW_rI ⟨?_, rfl⟩)
  rw [show ((a : Nat) : Int) + (k : Int) = ((a + k : Nat) : Int) by omega]
theorem h_level (hT : HtA T H) (hx : 0 ≤ y ∧ y < 60000) : YL C d 82 [zr (T 0), .inl y] H = some (some (some (.inl (zshrI (hfl T H y) 5))), H) := by
  refine zW_get (yl_Types_level ?_)
  unfold yb_Types_level
  exact zW_rd 1 hT (by decide) hx (zW_rI ⟨rfl, rfl⟩)
theorem h_levelTo (hT : HtA T H) (hx : 0 ≤ y ∧ y < 60000) : YL C d 83 [zr (T 0), .inl y, .inl w] H = some (some none, yset H (T 1) y (zorI (zandI (hfl T H y) 31) (zshlI w 5))) := by
  refine zW_get (yl_Types_levelTo ?_)
  unfold yb_Types_levelTo
  exact zW_hR 1 hT (by decide) (zW_rd 1 hT (by decide) hx (zW_hs hT (by decide) hx (zW_rV ⟨rfl, rfl⟩)))
theorem h_make (hT : HtA T H) (hx : 0 ≤ y ∧ y < 60000) : YL C d 69 [zr (T 0), .inl y, .inl w] H = some (some none, yset H (T 1) y (zorI (hfl T H y) w)) := by
  refine zW_get (yl_Types_make ?_)
  unfold yb_Types_make
  exact zW_hR 1 hT (by decide) (zW_ha hT (by decide) hx (zW_hs hT (by decide) hx (zW_rV ⟨rfl, rfl⟩)))
/-- a pair more -/
theorem h_push (hT : HtA T H) (h : hin T H 1217 = (m : Int)) (hm : m < 150000) (hx : x < 60000) (hn : n < 60000) : YL C d 78 [zr (T 0), .inl (x : Int), .inl (n : Int)] H = some (some none, yput (yset H (T 8) (m : Int) ((4294967296 * x + n : Nat) : Int)) 1217 (T 0) ((m : Int) + 1)) := by
  refine zW_get (yl_Types_push ?_)
  unfold yb_Types_push
  refine zW_hR 8 hT (by decide) (zW_hI hT (by decide) ?_)
  rw [h, ypair (by omega) (by omega)]
  obtain ⟨_, _, q3, q4⟩ := hT.2.2.1 8 (by decide)
  refine zW_yst (kd := 1001) q3 rfl (by rw [q4]; show _ ∧ _ < (150000 : Int); omega) (zW_hI (H := yset H (T 8) (m : Int) ((4294967296 * x + n : Nat) : Int)) (by exact hT) (by decide) ?_)
  rw [show hin T (yset H (T 8) (m : Int) ((4294967296 * x + n : Nat) : Int)) 1217 = (m : Int) from h]
  exact zW_G (by omega) (zW_hp (by exact hT) (by decide) (zW_rV ⟨rfl, rfl⟩))
/-- a part is told -/
theorem h_put (hT : HtA T H) (hx : 0 ≤ y ∧ y < 60000) (h : hsp T H y = ((512 * a + n : Nat) : Int)) (hn : n < 512) (hk : a + k < 150000) (hs : ∀ b, s = some b → yK H b = 21 ∨ yK H b = 2021) : YL C d 66 [zr (T 0), .inl y, .inl (k : Int), .inr (.inr s), .inl v] H = some (some none, ysetR (yset H (T 6) ((a + k : Nat) : Int) v) (T 7) ((a + k : Nat) : Int) s) := by
  refine zW_get (yl_Types_part_2 ?_)
  unfold yb_Types_part_2
  refine zW_rd 2 hT (by decide) hx ?_
  rw [show yA H (T 2) y = _ from h, zshr_9 (by omega), show (512 * a + n) / 512 = a by omega, show ((a : Nat) : Int) + (k : Int) = ((a + k : Nat) : Int) by omega]
  obtain ⟨_, _, q3, q4⟩ := hT.2.2.1 7 (by decide)
  refine zW_G (by omega) (zW_let (zW_hw 6 hT (by decide) (by show _ ∧ _ < (150000 : Int); omega) (zW_hR 7 (H := yset H _ _ _) (by exact hT) (by decide) (zW_sR (by show _ ≤ yK H (T 7) ∧ yK H (T 7) < _; rw [q3]; decide) (by show _ ∧ _ < yN H (T 7); rw [q4]; show _ ∧ _ < (150000 : Int); omega) ?_ (zW_rV ⟨rfl, rfl⟩)))))
  show yokO (yK H (T 7)) s (yK H) = true
  rw [q3]
  cases s with
  | none => rfl
  | some b =>
    show yokE 1006 (yK H b) = true
    rcases hs b rfl with q | q <;> rw [q] <;> decide
end HRow
