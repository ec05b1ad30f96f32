set_option maxRecDepth 100000
/-! THE REFERENCE'S PARSER: a new node over the parts that are there -/
def zav (w pl nm x3 x4 x5 : Int) : Nat → Int := fun j => match j with
  | 0 => w
  | 1 => pl
  | 2 => nm
  | 3 => x3
  | 4 => x4
  | 5 => x5
  | _ => -1
def zmk (S : ZS) (v : Nat → Int) : ZS := zput (zset (zset (zset (zset (zset (zset (zset S 10 (S.1 40) (v 0)) 11 (S.1 40 - S.1 41) (v 1)) 12 (S.1 40) (v 2)) 13 (S.1 40) (v 3)) 14 (S.1 40) (v 4)) 15 (S.1 40) (v 5)) 16 (S.1 40) (v 6)) 40 (S.1 40 + 1)
def zseg (o : ZO) : List Zi → Int → Int → Prop
  | [], lo, hi => lo ≤ hi
  | q :: r, lo, hi => ∃ m, lo ≤ m ∧ zit o lo m q ∧ zseg o r m hi
/-- the parts that a node takes -/
def zfit (v : Nat → Int) (s : List Gt) : List (Nat × Nat × Nat) → List Zi → Prop
  | [], its => its = []
  | (j, 0, i) :: r, its => match its with
    | q :: its => (∃ c, q.1 = [c] ∧ s[i]? = some c) ∧ v j = q.2.1 ∧ zfit v s r its
    | [] => False
  | (j, 1, i) :: r, its => match its with
    | q :: its => (∃ k p, (k = 0 ∨ k = 63) ∧ s[i]? = some (gn k p q.1)) ∧ v j = q.2.1 ∧ zfit v s r its
    | [] => False
  | (j, _, i) :: r, its => match its with
    | q :: its => s.drop i = q.1 ∧ v j = q.2.1 ∧ zfit v s r its
    | [] => False
section ZNod
variable {t : List Int} {Γ : Zg} {S S' : ZS} {σ σ1 : Ps} {W W' : List (List Int)} {M : Zm} {g g' : Int} {lo hi x y i a m : Int} {b : List Int} {o o' : ZO} {v : Nat → Int} {d : Nat} {Q : Option (Option ZV) → ZS → Prop} {k : Nat} {p : List (List Int)} {s : List Gt}
theorem z_node {w pl nm x3 x4 x5 : Int} (h : 0 ≤ S.1 40 ∧ S.1 40 < 84000) (h1 : 0 ≤ S.1 40 - S.1 41 ∧ S.1 40 - S.1 41 < 4200) : ZL d 52 [.inl w, .inl pl, .inl nm, .inl x3, .inl x4, .inl x5] S = some (some (some (.inl (S.1 40))), zmk S (zav w pl nm x3 x4 x5)) := by
  refine zW_get (zl_node ?_)
  unfold zb_node
  refine zW_st h (zW_st h1 (zW_st h (zW_st h (zW_st h (zW_st h (zW_st h (zW_G ?_ (zW_p (zW_G ?_ (zW_rI ⟨?_, rfl⟩))))))))))
  · show inI (S.1 40 + 1); omega
  · show inI (S.1 40 + 1 - 1); omega
  · show some (some (Sum.inl (S.1 40 + 1 - 1))) = _
    rw [Int.add_sub_cancel]
theorem zmk_lt {j : Nat} (h : i < S.1 40) : (zo (zmk S v) W').1 j i = (zo S W).1 j i := by
  show (if 6 < j then 0 else (zmk S v).2.2.1 (10 + j) (if j = 1 then i - S.1 41 else i)) = if 6 < j then 0 else S.2.2.1 (10 + j) (if j = 1 then i - S.1 41 else i)
  by_cases h6 : 6 < j
  · rw [if_pos h6, if_pos h6]
  rw [if_neg h6, if_neg h6]
  unfold zmk
  rw [zput_3]
  by_cases hj : j = 1
  · subst hj
    rw [if_pos rfl]
    show (zset _ 16 _ _).2.2.1 11 _ = _
    rw [zset_3, if_neg (by omega), zset_3, if_neg (by omega), zset_3, if_neg (by omega), zset_3, if_neg (by omega), zset_3, if_neg (by omega), zset_3, if_neg (by omega), zset_3, if_neg (by omega)]
  · rw [if_neg hj]
    rw [zset_3, if_neg (by omega), zset_3, if_neg (by omega), zset_3, if_neg (by omega), zset_3, if_neg (by omega), zset_3, if_neg (by omega), zset_3, if_neg (by omega), zset_3, if_neg (by omega)]
theorem zmk_at {j : Nat} (h : j ≤ 6) : (zo (zmk S v) W').1 j (S.1 40) = v j := by
  have hj : j = 0 ∨ j = 1 ∨ j = 2 ∨ j = 3 ∨ j = 4 ∨ j = 5 ∨ j = 6 := by omega
  unfold zo zmk
  rcases hj with rfl | rfl | rfl | rfl | rfl | rfl | rfl <;> simp [zset_3, zput_3, zset_1, zput_1]
theorem zits_lo : ∀ (M : List Zi) {m : Int}, zits o lo M m → lo ≤ m := by
  intro M
  induction M with
  | nil => intro m h; exact h
  | cons q M ih =>
    rintro m ⟨m', w1, w2, w3⟩
    have := ih w3
    omega
theorem zits_seg : ∀ (its : List Zi) {M : List Zi} {hi : Int}, zits o lo (its.reverse ++ M) hi → ∃ m0, m0 ≤ hi ∧ zits o lo M m0 ∧ zseg o its m0 hi
  | [], M, hi, h => ⟨hi, Int.le_refl _, h, Int.le_refl _⟩
  | q :: r, M, hi, h => by
    rw [List.reverse_cons, List.append_assoc] at h
    obtain ⟨m1, h0, ⟨m, h1, h2, h3⟩, h4⟩ := zits_seg r (M := q :: M) h
    exact ⟨m, by omega, h3, m1, h1, h2, h4⟩
theorem zseg_le : ∀ (its : List Zi) {lo hi : Int}, zseg o its lo hi → lo ≤ hi
  | [], _, _, h => h
  | q :: r, lo, hi, ⟨m, h1, _, h3⟩ => by
    have := zseg_le r h3
    omega
theorem zIm_at {i : Nat} {c : Gt} (h : s[i]? = some c) : (zIm o s).getD i zno = (c, zrt o c) := by
  unfold zIm
  rw [List.getD_eq_getElem?_getD, List.getElem?_map, h]; rfl
theorem zrt_row {p : List (List Int)} {k : Nat} (hk : k = 0 ∨ k = 63) : zrt o (gn k p s) lo hi x ↔ zrl o (zIm o s) lo hi x := by
  rw [zrt_gn]
  unfold zrtA
  rw [if_pos hk]
  exact Iff.rfl
theorem zpts_fit (e : ∀ j, j ≤ 6 → o.1 j a = v j) : ∀ (l : List (Nat × Nat × Nat)) (its : List Zi) {m : Int}, (∀ q ∈ l, 3 ≤ q.1 ∧ q.1 ≤ 5) → zseg o its m a → zfit v s l its → zpts o a (zIm o s) l m
  | [], its, m, _, h, hf => by
    cases hf
    exact h
  | (j, k, i) :: r, [], m, _, _, hf => by
    match k with
    | 0 => exact hf.elim
    | 1 => exact hf.elim
    | k + 2 => exact hf.elim
  | (j, k, i) :: r, q :: its, m, hj, h, hf => by
    have ej : o.1 j a = v j := e j (by have := hj _ (List.mem_cons_self ..); omega)
    have hjt : ∀ q ∈ r, 3 ≤ q.1 ∧ q.1 ≤ 5 := fun q w => hj q (List.mem_cons_of_mem _ w)
    obtain ⟨m1, h1, ⟨h2, h2'⟩, h3⟩ := h
    have h4 := zseg_le its h3
    match k with
    | 0 =>
      obtain ⟨⟨c, f1, f2⟩, f3, f4⟩ := hf
      rw [f1] at h2 h2'
      obtain ⟨r1, r2, r3, r4, r5⟩ := h2
      show m ≤ o.1 j a ∧ o.1 j a < a ∧ zch o ((zIm o s).getD i zno) m (o.1 j a + 1) (o.1 j a) ∧ zpts o a _ r (o.1 j a + 1)
      rw [ej, f3, zIm_at f2]
      refine ⟨r1, by omega, r3, ?_⟩
      have := zpts_fit e r its hjt h3 f4
      have hlo : ∀ (l : List (Nat × Nat × Nat)) {m1 m2 : Int}, m2 ≤ m1 → zpts o a (zIm o s) l m1 → (∀ q ∈ l, 3 ≤ q.1 ∧ q.1 ≤ 5) → m1 ≤ a → zpts o a (zIm o s) l m2 := fun l m1 m2 z1 z2 z3 z4 => zpts_k (lo := m2) (fun c _ => zrt_k (fun _ _ w => w) (fun _ _ w => w) c) (fun _ _ _ _ _ => rfl) l z3 z1 z1 z4 z2
      exact hlo r (by omega) this hjt (by omega)
    | 1 =>
      obtain ⟨⟨k, p, f0, f2⟩, f3, f4⟩ := hf
      show ∃ m', m ≤ m' ∧ m' ≤ a ∧ ((zIm o s).getD i zno).2 m m' (o.1 j a) ∧ zpts o a _ r m'
      rw [ej, f3, zIm_at f2]
      exact ⟨m1, h1, h4, (zrt_row f0).mpr h2, zpts_fit e r its hjt h3 f4⟩
    | k + 2 =>
      obtain ⟨f2, f3, f4⟩ := hf
      show ∃ m', m ≤ m' ∧ m' ≤ a ∧ zrl o ((zIm o s).drop i) m m' (o.1 j a) ∧ zpts o a _ r m'
      rw [ej, f3, zIm_drop, f2]
      exact ⟨m1, h1, h4, h2, zpts_fit e r its hjt h3 f4⟩
/-- the kinds whose parts stand in the table -/
abbrev ktab (k : Nat) : Prop := k ≠ 0 ∧ k ≠ 63 ∧ k ≠ 6 ∧ k ≠ 53 ∧ k ≠ 54 ∧ k ≠ 80 ∧ k ≠ 38 ∧ k ≠ 78
theorem zrt_fit (hk : ktab k) (e : ∀ j, j ≤ 6 → o.1 j a = v j) {its : List Zi} (hs : zseg o its m a) (h0 : v 0 = ((ztab k s.isEmpty).1 : Int)) (hf : ∀ q ∈ (ztab k s.isEmpty).2.1, zfv o (v q.1) p s q.2) (hp : zfit v s (ztab k s.isEmpty).2.2 its) : zrt o (gn k p s) m (a + 1) a := by
  obtain ⟨k1, k2, k3, k4, k5, k6, k7, k8⟩ := hk
  rw [zrt_gn]
  show zrtA o k p (zIm o s) m (a + 1) a
  have t5 := ztab_5 k s.isEmpty
  unfold zrtA zrtB
  rw [if_neg (by omega), if_neg k3, if_neg k4, if_neg k5, if_neg k6, if_neg (by omega), zIm_em, zIm_fst]
  refine ⟨zseg_le its hs, by omega, by rw [e 0 (by omega)]; exact h0, fun q w => ?_, zpts_fit e _ its t5.2 hs hp⟩
  rw [e q.1 (by have := t5.1 q w; omega)]
  exact hf q w
theorem zseg_k (h1 : ∀ i b, o.2.1 i b → o'.2.1 i b) (h2 : ∀ i b, o.2.2 i b → o'.2.2 i b) : ∀ (its : List Zi) {lo hi : Int}, zeq o o' lo hi zE0 → zseg o its lo hi → zseg o' its lo hi
  | [], _, _, _, h => h
  | q :: r, lo, hi, he, ⟨m, q1, q2, q3⟩ => by
    have := zseg_le r q3
    exact ⟨m, q1, zit_k h1 h2 (zeq_mono he (by omega) (by omega) (fun _ _ _ _ w => w)) (Int.le_refl _) (Int.le_refl _) q2, zseg_k h1 h2 r (zeq_mono he (by omega) (by omega) (fun _ _ _ _ w => w)) q3⟩
theorem zo_2 (h30 : S'.1 30 = S.1 30) (h9 : S'.2.2.1 9 = S.2.2.1 9) : (zo S' W).2 = (zo S W).2 := by
  unfold zo SB
  rw [h30, h9]
theorem zeq_mk : zeq (zo S W) (zo (zmk S v) W) lo (S.1 40) zE0 := fun _ _ _ h _ => zmk_lt h
/-- what a new node does to all the rest -/
theorem ZZ_mkI {I' : List Zi} (Z : ZZ t Γ S σ W M g) (hI : zits (zo (zmk S v) W) (Γ.1.1 40) I' (S.1 40 + 1)) : ZZ t Γ (zmk S v) σ W (I', M.2) (g + 1) := by
  obtain ⟨a1, b1, c1, c2, c3, c4, c5, c6, c7⟩ := Z
  have ag : zAg [40] [10, 11, 12, 13, 14, 15, 16] S (zmk S v) := zAg_put (by decide) (zAg_set (by decide) (zAg_set (by decide) (zAg_set (by decide) (zAg_set (by decide) (zAg_set (by decide) (zAg_set (by decide) (zAg_set (by decide) zAg_refl)))))))
  have e := fun f (hf : f ∉ [40]) => ag.1 f hf
  have ea := fun f (hf : f ∉ [10, 11, 12, 13, 14, 15, 16]) => ag.2.2.1 f hf
  have e40 : (zmk S v).1 40 = S.1 40 + 1 := rfl
  have zs : zseq S (zmk S v) := ⟨Int.le_refl _, fun _ _ => by rw [ea 9 (by decide)], Int.le_refl _, fun _ _ => by rw [ea 17 (by decide), ea 18 (by decide)]; exact ⟨rfl, rfl⟩⟩
  have o2 : (zo (zmk S v) W).2 = (zo S W).2 := zo_2 rfl (ea 9 (by decide))
  obtain ⟨a1, a2, a3, a4, a5⟩ := a1
  refine ⟨⟨Lx_ag ag (by decide) (by decide) a1, ⟨NT_ag ag (by decide) (by decide) a2.1, a2.2⟩, TkC_re a3 ag (by decide) List.prefix_rfl (Int.le_refl _) (fun i _ => by rw [ea 9 (by decide)]), TkM_re a4 ag (by decide) List.prefix_rfl (Int.le_refl _) (fun i _ => by rw [ea 9 (by decide)]), a5⟩, b1, c1, zFc_k zs.2.2.1 zs.2.2.2 List.prefix_rfl c2, ⟨c3.1, ?_⟩, by rw [e40]; exact hI, ⟨c5.1, c5.2.1, c5.2.2.1, zA_e (ea 19 (by decide)) c5.2.2.2.1, zB_e ⟨ea 20 (by decide), ea 21 (by decide), ea 22 (by decide)⟩ c5.2.2.2.2⟩, fun q z => zks_k zs List.prefix_rfl (c6 q z), Zmo_trans c7 ?_⟩
  · exact ⟨by rw [e40]; show S.1 40 + 1 - S.1 41 ≤ _; omega, by show S.1 46 ≤ _; omega⟩
  · refine ⟨zAg_mono ag (by decide) (by decide), List.prefix_rfl, by show S.1 40 ≤ _; rw [e40]; omega, fun j w1 w2 w3 i w4 => ?_, fun i w4 => ?_, Int.le_refl _, zs.2.1, Int.le_refl _, zs.2.2.2⟩
    · have := zmk_lt (v := v) (W := W) (W' := W) (j := j - 10) w4
      unfold zo at this
      simp only at this
      rw [if_neg (by omega), if_neg (by omega), if_neg (by omega), if_neg (by omega), show 10 + (j - 10) = j by omega] at this
      exact this
    · have w4 : i < S.1 40 - S.1 41 := w4
      have w5 : i + S.1 41 < S.1 40 := by omega
      have := zmk_lt (v := v) (W := W) (W' := W) (j := 1) w5
      unfold zo at this
      simp only [if_true] at this
      rw [if_neg (by decide), if_neg (by decide), show (zmk S v).1 41 = S.1 41 from rfl, Int.add_sub_cancel] at this
      exact this
theorem ZZ_mk {τ : Gt} {M0 : List Zi} (Z : ZZ t Γ S σ W M g) (h6 : v 6 = -1) (hg : g ≤ 185) (hz : ∃ m0, m0 ≤ S.1 40 ∧ zits (zo S W) (Γ.1.1 40) M0 m0 ∧ zrt (zo (zmk S v) W) τ m0 (S.1 40 + 1) (S.1 40)) (hn : gnd τ) (h5 : gk τ = 6 → v 5 = -1) : ZZ t Γ (zmk S v) σ W (([τ], S.1 40, S.1 40) :: M0, M.2) (g + 1) := by
  refine ZZ_mkI Z ?_
  have o2 : (zo (zmk S v) W).2 = (zo S W).2 := zo_2 rfl rfl
  obtain ⟨m0, q0, q1, q2⟩ := hz
  refine ⟨m0, by omega, ⟨⟨q0, by show S.1 40 < S.1 40 + 1; omega, ⟨hn, q2, fun z => ?_⟩, ?_, ?_⟩, rfl⟩, ?_⟩
  · rw [zmk_at (by decide)]; exact h5 z
  · rw [zmk_at (by decide)]; exact h6
  · show S.1 40 + 1 ≤ S.1 40 + 1; omega
  · exact zits_k (fun i b w => by rw [o2]; exact w) (fun i b w => by rw [o2]; exact w) M0 (zeq_mono zeq_mk (Int.le_refl _) (by omega) (fun _ _ _ _ w => w)) (Int.le_refl _) q1
/-- a node that is of no use -/
theorem ZZ_gar (Z : ZZ t Γ S σ W M g) : ZZ t Γ (zmk S v) σ W M (g + 1) := by
  have o2 : (zo (zmk S v) W).2 = (zo S W).2 := zo_2 rfl rfl
  exact ZZ_mkI Z (zits_k (fun i b w => by rw [o2]; exact w) (fun i b w => by rw [o2]; exact w) M.1 (zeq_mono zeq_mk (Int.le_refl _) (by omega) (fun _ _ _ _ w => w)) (by omega) Z.2.2.2.2.2.1)
theorem ZZ_ps (Z : ZZ t Γ S σ W M g) : psn σ ≤ 1002 := by
  have := Z.1.2.2.2.2.2.2.2.2.1
  unfold psn
  split <;> split <;> omega
theorem ZZ_40 (Z : ZZ t Γ S σ W M g) (hg : g ≤ 185) : (0 ≤ S.1 40 ∧ S.1 40 < 84000) ∧ 0 ≤ S.1 40 - S.1 41 ∧ S.1 40 - S.1 41 < 4200 := by
  have h1 := ZZ_ps Z
  obtain ⟨a1, ⟨b1, b2, b3, b4, b5, b6, b7⟩, c1, c2, c3, c4, c5, c6, c7⟩ := Z
  have := c7.2.2.1
  omega
/-- a new node over what was made last -/
theorem zW_nodeX {kk : Int → ZS → ZR ZS} {w pl nm x3 x4 x5 : Int} {M0 : List Zi} {A : List Int × List (Int × Int × Int)} {K : List Zk} (its : List Zi) (k : Nat) (p : List (List Int)) (s : List Gt) (hd : 1 ≤ d) (Z : ZZ t Γ S σ W (its.reverse ++ M0, A, K) g) (hg : g ≤ 185) (hk : ktab k) (h0 : w = ((ztab k s.isEmpty).1 : Int)) (hf : ∀ q ∈ (ztab k s.isEmpty).2.1, zfv (zo S W) (zav w pl nm x3 x4 x5 q.1) p s q.2) (hp : zfit (zav w pl nm x3 x4 x5) s (ztab k s.isEmpty).2.2 its) (hh : ∀ a S1, (a = S.1 40 ∧ S1.1 55 = S.1 55 ∧ S1.1 40 = S.1 40 + 1 ∧ S1.2.2.1 17 = S.2.2.1 17 ∧ S1.1 46 = S.1 46) → ZZ t Γ S1 σ W (([gn k p s], a, a) :: M0, A, K) (g + 1) → zW (kk a S1) Q) : zW (zI (zc ZL d 52 [.inl w, .inl pl, .inl nm, .inl x3, .inl x4, .inl x5] S) kk) Q := by
  obtain ⟨d, rfl⟩ : ∃ e, d = e + 1 := ⟨d - 1, by omega⟩
  have h40 := ZZ_40 Z hg
  refine zW_Ie (z_node h40.1 h40.2) (hh _ _ ⟨rfl, rfl, rfl, rfl, rfl⟩ ?_)
  obtain ⟨m0, w0, w1, w2⟩ := zits_seg its Z.2.2.2.2.2.1
  have o2 : (zo (zmk S (zav w pl nm x3 x4 x5)) W).2 = (zo S W).2 := zo_2 rfl rfl
  refine ZZ_mk (M := (its.reverse ++ M0, A, K)) Z rfl hg ⟨m0, w0, w1, ?_⟩ ⟨hk.1, hk.2.1⟩ (fun z => absurd z hk.2.2.1)
  refine zrt_fit hk (its := its) (v := zav w pl nm x3 x4 x5) (fun j hj => zmk_at hj) (zseg_k (fun i b w => by rw [o2]; exact w) (fun i b w => by rw [o2]; exact w) its (zeq_mono zeq_mk (Int.le_refl _) (Int.le_refl _) (fun _ _ _ _ w => w)) w2) h0 (fun q z => ?_) hp
  exact zfv_k (fun i b w => by rw [o2]; exact w) (fun i b w => by rw [o2]; exact w) (hf q z)
theorem zW_nodeZ {kk : Int → ZS → ZR ZS} {w pl nm x3 x4 x5 : Int} {M0 : List Zi} {A : List Int × List (Int × Int × Int)} {K : List Zk} (its : List Zi) (k : Nat) (p : List (List Int)) (s : List Gt) (hd : 1 ≤ d) (Z : ZZ t Γ S σ W (its.reverse ++ M0, A, K) g) (hg : g ≤ 185) (hk : ktab k) (h0 : w = ((ztab k s.isEmpty).1 : Int)) (hf : ∀ q ∈ (ztab k s.isEmpty).2.1, zfv (zo S W) (zav w pl nm x3 x4 x5 q.1) p s q.2) (hp : zfit (zav w pl nm x3 x4 x5) s (ztab k s.isEmpty).2.2 its) (hh : ∀ a S1, ZZ t Γ S1 σ W (([gn k p s], a, a) :: M0, A, K) (g + 1) → zW (kk a S1) Q) : zW (zI (zc ZL d 52 [.inl w, .inl pl, .inl nm, .inl x3, .inl x4, .inl x5] S) kk) Q := zW_nodeX its k p s hd Z hg hk h0 hf hp (fun a S1 _ Z1 => hh a S1 Z1)
end ZNod
