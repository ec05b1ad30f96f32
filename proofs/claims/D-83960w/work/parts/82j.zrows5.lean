set_option maxRecDepth 100000
/-! THE REFERENCE'S TYPES: mergeRows whole -/
section ZRows5
variable {adm : Nat → Bool} {d : Nat} {S S1 S' S0 : ZS} {μ : Zmp} {G G' G0 : TG} {n n' m x y z a b a0 b0 : Nat} {fl fl' : Nat → List Nat} {B B' : Nat → Zfl} {F P K T O L FA FB : List Nat} {N : TN} {Q : Option (Option ZV) → ZS → Prop} {i v w k c f l t : Int} {R R' : Nat → Prop} {W W1 : TW} {E : List Nat}
theorem zW_ex {σ : Type} {x : ZR σ} {Pp : Int → σ → Prop} (h : zW x (oI Pp (fun _ => False))) : ∃ r S', x = some (some (some (.inl r)), S') ∧ Pp r S' := by
  obtain ⟨o, S', e, q⟩ := h
  rcases o with _ | _ | r | r | r
  · exact False.elim q
  · exact False.elim q
  · exact ⟨r, S', e, q⟩
  · exact False.elim q
  · exact False.elim q
theorem zkd_mem {key : Int → Ky} {l : Ky} {c : Nat} : (l, c) ∈ zkd S key F ↔ ∃ f ∈ F, l = key (zfl S (f : Nat)) ∧ c = (zft S (f : Nat)).toNat := by
  unfold zkd
  rw [List.mem_map]
  constructor
  · rintro ⟨f, m, e⟩
    cases e
    exact ⟨f, m, rfl, rfl⟩
  · rintro ⟨f, m, rfl, rfl⟩
    exact ⟨f, m, rfl⟩
theorem zkd_nodup (hμ : Mok μ) : ∀ {F : List Nat}, zsrt S F → (∀ f ∈ F, mL μ (zfl S (f : Nat)) = true) → ((zkd S (mK μ) F).map Prod.fst).Nodup
  | [], _, _ => List.nodup_nil
  | f :: F, h, hl => by
    show (mK μ (zfl S (f : Nat)) :: (zkd S (mK μ) F).map Prod.fst).Nodup
    refine List.nodup_cons.mpr ⟨fun q => ?_, zkd_nodup hμ h.2 (fun g m => hl g (List.mem_cons_of_mem _ m))⟩
    obtain ⟨⟨l, c⟩, m, e⟩ := List.mem_map.mp q
    obtain ⟨g, m', e1, _⟩ := zkd_mem.mp m
    have e : l = mK μ (zfl S (f : Nat)) := e
    have := hμ.2.2.2.2 _ _ (hl g (List.mem_cons_of_mem _ m')) (hl f (List.mem_cons_self ..)) (by rw [← e1, e])
    have := h.1 g m'
    omega
/-- labels of one row among those of another -/
theorem zsrt_len (h : zsrt S L) (hs : ∀ f ∈ L, ∃ g ∈ T, zfl S (f : Nat) = zfl S0 (g : Nat)) : L.length ≤ T.length := by
  have nd : ∀ {F : List Nat}, zsrt S F → (F.map fun (f : Nat) => zfl S f).Nodup := by
    intro F
    induction F with
    | nil => exact fun _ => List.nodup_nil
    | cons f F ih =>
      intro h
      refine List.nodup_cons.mpr ⟨fun q => ?_, ih h.2⟩
      obtain ⟨g, m, e⟩ := List.mem_map.mp q
      have e : zfl S (g : Nat) = zfl S (f : Nat) := e
      have := h.1 g m
      omega
  have gen : ∀ (A B : List Int), A.Nodup → (∀ g ∈ A, g ∈ B) → A.length ≤ B.length := by
    intro A
    induction A with
    | nil => intro B _ _; exact Nat.zero_le _
    | cons a A ih =>
      intro B hn h
      rw [List.nodup_cons] at hn
      have ha := h a (List.mem_cons_self ..)
      have h1 := ih (B.erase a) hn.2 (fun g hg => (List.mem_erase_of_ne (fun q => hn.1 (by rw [← q]; exact hg))).mpr (h g (List.mem_cons_of_mem _ hg)))
      rw [List.length_erase_of_mem ha] at h1
      have : 0 < B.length := List.length_pos_of_mem ha
      rw [List.length_cons]; omega
  have := gen (L.map fun (f : Nat) => zfl S f) (T.map fun (f : Nat) => zfl S0 f) (nd h) (fun g hg => by
    obtain ⟨f, m, rfl⟩ := List.mem_map.mp hg
    obtain ⟨g, m', e⟩ := hs f m
    exact List.mem_map.mpr ⟨g, m', e.symm⟩)
  rwa [List.length_map, List.length_map] at this
theorem zmin_mul {p q : Int} (hp : 0 ≤ p) (hq : 0 ≤ q) {r : Int} (h0 : 0 ≤ r) (h1 : r ≤ p) (h2 : r ≤ q) : 40 * r ≤ p * q + 400 := by
  have m1 : r * r ≤ p * q := Int.mul_le_mul h1 h2 h0 hp
  have m2 : 0 ≤ (r - 20) * (r - 20) := by
    rcases Int.le_total 20 r with h | h
    · exact Int.mul_nonneg (by omega) (by omega)
    · have : (r - 20) * (r - 20) = (20 - r) * (20 - r) := by grind
      rw [this]; exact Int.mul_nonneg (by omega) (by omega)
  have m3 : (r - 20) * (r - 20) = r * r - 40 * r + 400 := by grind
  omega
theorem zrow_num {la lb : Bool} {p q u v : Int} (h1 : u ≤ p + q) (hA : la = false → u ≤ v) (hB : lb = false → u ≤ v) (hm : 40 * (u - v) ≤ p * q + 400) (hp : 0 ≤ p) (hq : 0 ≤ q) : ((if (la && lb) = true then u else 0) ≤ (if la = true then p else 0) + (if lb = true then q else 0)) ∧ ((if (la && lb) = true then (1 : Int) else 0) ≤ (if la = true then 1 else 0) + (if lb = true then 1 else 0)) ∧ 40 * (u - v) ≤ (if la = true then p else 0) * (if lb = true then q else 0) + 400 * ((if la = true then 1 else 0) + (if lb = true then 1 else 0) - (if (la && lb) = true then 1 else 0)) := by
  cases la with
  | false =>
    have := hA rfl
    cases lb with
    | false => refine ⟨?_, ?_, ?_⟩ <;> simp <;> omega
    | true => refine ⟨?_, ?_, ?_⟩ <;> simp <;> omega
  | true =>
    cases lb with
    | false =>
      have := hB rfl
      refine ⟨?_, ?_, ?_⟩ <;> simp <;> omega
    | true => refine ⟨?_, ?_, ?_⟩ <;> simp <;> omega
theorem z_row_core {io : Bool} (hμ : Mok μ) (hw0 : tWF G0 n) (hx : x < n) (hy : y < n) (hJ : JI G0 n x y G n ((a0, b0) :: W)) (ea : G.1 a0 = a) (eb : G.1 b0 = b) (h : ZM adm S μ G n fl B R W E) (hab : a ≠ b) (ka : zyk S a = 3) (kb : zyk S b = 3) 
    (hT : (io = true ∧ T = fl b ∧ O = fl a) ∨ (io = false ∧ T = fl a ∧ O = fl b)) (hTO : O.length ≤ T.length)
    (ca : (B a).2.2.2.1 = false → ∀ f ∈ fl b, ∃ g ∈ fl a, zfl S (g : Nat) = zfl S (f : Nat)) (cb : (B b).2.2.2.1 = false → ∀ f ∈ fl a, ∃ g ∈ fl b, zfl S (g : Nat) = zfl S (f : Nat))
    (hA : ZAf S T O [] S1 L W W1 O.length io) (hL : ZCh S1 L (headO L)) (h67 : S1.1 67 ≤ 106000) : ZStep adm G0 n x y S μ G R W E a b 1 (zrow5 S1 a b E.length (B a) (B b) (headO L) (min (zyc S1 a) (zyc S1 b))) := by
  have hab0 : JAb G a0 b0 a b := Or.inl ⟨ea, eb⟩
  obtain ⟨⟨ha, ra⟩, hb, rb⟩ := JI_at hJ hab0
  obtain ⟨hn, hn2, hn3⟩ := h.1.2.1
  rcases h.1.2.2.2.2.1 a ha ra with ⟨q, _⟩ | ⟨q, _⟩ | ⟨q, _⟩ | ⟨_, ca0, gA, chA, srA, lvA⟩
  · rw [ka] at q; cases q
  · rw [ka] at q; cases q
  · rw [ka] at q; cases q
  rcases h.1.2.2.2.2.1 b hb rb with ⟨q, _⟩ | ⟨q, _⟩ | ⟨q, _⟩ | ⟨_, cb0, gB, chB, srB, lvB⟩
  · rw [kb] at q; cases q
  · rw [kb] at q; cases q
  · rw [kb] at q; cases q
  have ltA := ZCh_lt chA
  have ltB := ZCh_lt chB
  have hT0 : ∀ f ∈ T, (f : Int) < S.1 67 := by rcases hT with ⟨_, e, _⟩ | ⟨_, e, _⟩ <;> rw [e] <;> assumption
  have hO0 : ∀ f ∈ O, (f : Int) < S.1 67 := by rcases hT with ⟨_, _, e⟩ | ⟨_, _, e⟩ <;> rw [e] <;> assumption
  obtain ⟨ky1, ky2⟩ := ZAf_keys hA hT0
  have hA' := hA
  obtain ⟨a1, a2, ⟨b1, b2, b3, b4⟩, ⟨w1, w2⟩, g1, g2, ⟨l1, l2, _⟩⟩ := hA
  rw [List.length_nil, Nat.add_zero] at l1
  have TO : ∀ g, (g ∈ T ∨ g ∈ O) ↔ (g ∈ fl a ∨ g ∈ fl b) := by
    intro g
    rcases hT with ⟨_, e1, e2⟩ | ⟨_, e1, e2⟩ <;> rw [e1, e2]
    exact Or.comm
  have lTO : T.length + O.length = (fl a).length + (fl b).length := by
    rcases hT with ⟨_, e1, e2⟩ | ⟨_, e1, e2⟩ <;> rw [e1, e2]
    omega
  -- the last state
  generalize hS5 : zrow5 S1 a b E.length (B a) (B b) (headO L) (min (zyc S1 a) (zyc S1 b)) = S5
  have j5 : ∀ j, j ≠ 23 → j ≠ 24 → j ≠ 25 → j ≠ 26 → j ≠ 39 → S5.2.2.1 j = S1.2.2.1 j := by
    intro j h1 h2 h3 h4 h5
    rw [← hS5]
    unfold zrow5
    funext i
    by_cases e : ((B a).2.2.2.1 && (B b).2.2.2.1) = true
    · simp only [e, if_true]
      show (if j = 25 ∧ i = (b : Int) then _ else if j = 26 ∧ i = (b : Int) then _ else (zbec S1 a b E.length (B a) (B b)).2.2.1 j i) = _
      rw [if_neg (fun q => h3 q.1), if_neg (fun q => h4 q.1), zbec_j h1 h3 h2 h5]
    · simp only [e]
      show (if j = 24 ∧ i = (b : Int) then _ else if j = 25 ∧ i = (b : Int) then _ else if j = 26 ∧ i = (b : Int) then _ else (zbec S1 a b E.length (B a) (B b)).2.2.1 j i) = _
      rw [if_neg (fun q => h2 q.1), if_neg (fun q => h3 q.1), if_neg (fun q => h4 q.1), zbec_j h1 h3 h2 h5]
  have f5 : ∀ f, S5.1 f = (zbec S1 a b E.length (B a) (B b)).1 f := by
    intro f
    rw [← hS5]
    unfold zrow5
    by_cases e : ((B a).2.2.2.1 && (B b).2.2.2.1) = true
    · simp only [e, if_true]; rfl
    · simp only [e]; rfl
  -- at places
  have p5 : ∀ (z : Nat) j, z ≠ a → z ≠ b → (j = 23 ∨ j = 24 ∨ j = 25 ∨ j = 26) → S5.2.2.1 j (z : Int) = S.2.2.1 j (z : Int) := by
    intro z j za zb hj
    have e1 : S1.2.2.1 j = S.2.2.1 j := a1.2.2.1 j (by rcases hj with rfl | rfl | rfl | rfl <;> decide)
    have e2 : (zbec S1 a b E.length (B a) (B b)).2.2.1 j (z : Int) = S1.2.2.1 j (z : Int) := by
      unfold zbec
      by_cases e : ((B a).1 || (B b).1) = true
      · rw [if_pos e]
        show (if j = 39 ∧ (z : Int) = _ then _ else if j = 24 ∧ (z : Int) = (b : Int) then _ else (zbe1 S1 a b).2.2.1 j z) = _
        rw [if_neg (fun q => by rcases hj with rfl | rfl | rfl | rfl <;> cases q.1), if_neg (fun q => zb (by omega)), zbe1_o za]
      · rw [if_neg e]; exact zbe1_o za
    rw [← hS5]
    unfold zrow5
    by_cases e : ((B a).2.2.2.1 && (B b).2.2.2.1) = true
    · simp only [e, if_true]
      show (if j = 25 ∧ (z : Int) = (b : Int) then _ else if j = 26 ∧ (z : Int) = (b : Int) then _ else (zbec S1 a b E.length (B a) (B b)).2.2.1 j z) = _
      rw [if_neg (fun q => zb (by omega)), if_neg (fun q => zb (by omega)), e2, e1]
    · simp only [e]
      show (if j = 24 ∧ (z : Int) = (b : Int) then _ else if j = 25 ∧ (z : Int) = (b : Int) then _ else if j = 26 ∧ (z : Int) = (b : Int) then _ else (zbec S1 a b E.length (B a) (B b)).2.2.1 j z) = _
      rw [if_neg (fun q => zb (by omega)), if_neg (fun q => zb (by omega)), if_neg (fun q => zb (by omega)), e2, e1]
  have s1k : ∀ j, j ≠ 29 → j ≠ 30 → j ≠ 31 → j ≠ 37 → j ≠ 38 → S1.2.2.1 j = S.2.2.1 j := fun j h1 h2 h3 h4 h5 => a1.2.2.1 j (by simp [h1, h2, h3, h4, h5])
  have bec23 : ∀ z : Nat, (zbec S1 a b E.length (B a) (B b)).2.2.1 23 (z : Int) = if z = a then 4 else S.2.2.1 23 (z : Int) := by
    intro z
    have e2 : (zbec S1 a b E.length (B a) (B b)).2.2.1 23 = (zbe1 S1 a b).2.2.1 23 := by
      unfold zbec; split
      · exact zbe2_j (by decide) (by decide)
      · rfl
    rw [e2]
    by_cases e : z = a
    · rw [if_pos e, e]
      show (if 23 = 25 ∧ (a : Int) = (a : Int) then (b : Int) else if 23 = 23 ∧ (a : Int) = (a : Int) then 4 else _) = _
      rw [if_neg (fun q => by cases q.1), if_pos ⟨rfl, rfl⟩]
    · rw [if_neg e, zbe1_o e, s1k 23 (by decide) (by decide) (by decide) (by decide) (by decide)]
  have bec25 : (zbec S1 a b E.length (B a) (B b)).2.2.1 25 (a : Int) = (b : Int) := by
    have e2 : (zbec S1 a b E.length (B a) (B b)).2.2.1 25 = (zbe1 S1 a b).2.2.1 25 := by
      unfold zbec; split
      · exact zbe2_j (by decide) (by decide)
      · rfl
    rw [e2]; exact if_pos ⟨rfl, rfl⟩
  have bec24 : ∀ z : Nat, (zbec S1 a b E.length (B a) (B b)).2.2.1 24 (z : Int) = if z = b then zfb (zbb (B a) (B b)) else S.2.2.1 24 (z : Int) := by
    intro z
    have e1 : S1.2.2.1 24 = S.2.2.1 24 := s1k 24 (by decide) (by decide) (by decide) (by decide) (by decide)
    unfold zbec
    by_cases e : ((B a).1 || (B b).1) = true
    · rw [if_pos e, zbe2_24, zbe1_j (by decide) (by decide), e1]
      by_cases q : z = b
      · rw [if_pos q]; exact if_pos (by omega)
      · rw [if_neg q]; exact if_neg (by omega)
    · rw [if_neg e, zbe1_j (by decide) (by decide), e1]
      by_cases q : z = b
      · rw [if_pos q, q]
        have : zbb (B a) (B b) = B b := if_neg e
        rw [this]; exact h.1.2.2.2.1 b hb
      · rw [if_neg q]
  have k5 : ∀ z : Nat, zyk S5 z = if z = a then 4 else zyk S z := by
    intro z
    rw [← bec23 z, ← hS5]
    unfold zrow5
    by_cases e : ((B a).2.2.2.1 && (B b).2.2.2.1) = true
    · simp only [e, if_true]; rfl
    · simp only [e]; rfl
  have c5a : zyc S5 a = b := by
    rw [← bec25, ← hS5]
    unfold zrow5
    by_cases e : ((B a).2.2.2.1 && (B b).2.2.2.1) = true
    · simp only [e, if_true]
      exact if_neg (fun q => hab (by omega))
    · simp only [e]
      exact if_neg (fun q => hab (by omega))
  have c5b : 0 ≤ zyc S5 b := by
    have e1 : zyc S1 = zyc S := s1k 25 (by decide) (by decide) (by decide) (by decide) (by decide)
    rw [← hS5]
    unfold zrow5
    by_cases e : ((B a).2.2.2.1 && (B b).2.2.2.1) = true
    · simp only [e, if_true]
      show 0 ≤ (if 25 = 25 ∧ (b : Int) = (b : Int) then _ else _)
      rw [if_pos ⟨rfl, rfl⟩, e1]; omega
    · simp only [e]
      show 0 ≤ (if 25 = 25 ∧ (b : Int) = (b : Int) then (if false = true then min (zyc S1 a) (zyc S1 b) else 0) else _)
      rw [if_pos ⟨rfl, rfl⟩, if_neg (by decide)]; omega
  have f5b : zy1 S5 b = headO L := by
    rw [← hS5]
    unfold zrow5
    by_cases e : ((B a).2.2.2.1 && (B b).2.2.2.1) = true
    · simp only [e, if_true]
      exact if_pos ⟨rfl, rfl⟩
    · simp only [e]
      exact if_pos ⟨rfl, rfl⟩
  let Bb : Zfl := ((zbb (B a) (B b)).1, (zbb (B a) (B b)).2.1, (zbb (B a) (B b)).2.2.1, (B a).2.2.2.1 && (B b).2.2.2.1, (zbb (B a) (B b)).2.2.2.2)
  have zl : (zbb (B a) (B b)).2.2.2.1 = (B b).2.2.2.1 := by unfold zbb; split <;> rfl
  have g5b : zyf S5 b = zfb Bb := by
    rw [← hS5]
    unfold zrow5
    by_cases e : ((B a).2.2.2.1 && (B b).2.2.2.1) = true
    · simp only [e, if_true]
      have : Bb = zbb (B a) (B b) := by
        show ((zbb (B a) (B b)).1, (zbb (B a) (B b)).2.1, (zbb (B a) (B b)).2.2.1, (B a).2.2.2.1 && (B b).2.2.2.1, (zbb (B a) (B b)).2.2.2.2) = _
        rw [e]
        have e2 : (B b).2.2.2.1 = true := by rw [Bool.and_eq_true] at e; exact e.2
        rw [← e2, ← zl]
      rw [this]
      exact (bec24 b).trans (if_pos rfl)
    · simp only [e]
      have e' : ((B a).2.2.2.1 && (B b).2.2.2.1) = false := by simpa using e
      have : Bb = ((zbb (B a) (B b)).1, (zbb (B a) (B b)).2.1, (zbb (B a) (B b)).2.2.1, false, (zbb (B a) (B b)).2.2.2.2) := by
        show ((zbb (B a) (B b)).1, (zbb (B a) (B b)).2.1, (zbb (B a) (B b)).2.2.1, (B a).2.2.2.1 && (B b).2.2.2.1, (zbb (B a) (B b)).2.2.2.2) = _
        rw [e']
      rw [this]
      exact if_pos ⟨rfl, rfl⟩
  have g5a : zyf S5 a = zfb (B a) := by
    have e0 : (zbec S1 a b E.length (B a) (B b)).2.2.1 24 (a : Int) = zfb (B a) := by rw [bec24 a, if_neg hab]; exact h.1.2.2.2.1 a ha
    rw [← e0, ← hS5]
    unfold zrow5
    by_cases e : ((B a).2.2.2.1 && (B b).2.2.2.1) = true
    · simp only [e, if_true]; rfl
    · simp only [e]
      exact if_neg (fun q => hab (by omega))
  have e29 : S5.2.2.1 29 = S1.2.2.1 29 := j5 29 (by decide) (by decide) (by decide) (by decide) (by decide)
  have e30 : S5.2.2.1 30 = S1.2.2.1 30 := j5 30 (by decide) (by decide) (by decide) (by decide) (by decide)
  have e31 : S5.2.2.1 31 = S1.2.2.1 31 := j5 31 (by decide) (by decide) (by decide) (by decide) (by decide)
  have e67 : S5.1 67 = S1.1 67 := by rw [f5, zbec_f (by decide)]
  have kd : zkd S5 (mK μ) L = zkd S1 (mK μ) L := zkd_eq (fun f _ => ⟨by show S5.2.2.1 29 _ = _; rw [e29], by show S5.2.2.1 30 _ = _; rw [e30]⟩)
  have lvL : ∀ f ∈ L, mL μ (zfl S1 (f : Nat)) = true := by
    intro f m
    obtain ⟨g, q1, q2, _⟩ := ky1 f m
    rw [q2]
    rcases (TO g).mp q1 with q | q
    · exact lvA g q
    · exact lvB g q
  have lenTL := sub_len T L (by rcases hT with ⟨_, e, _⟩ | ⟨_, e, _⟩ <;> rw [e] <;> exact zsrt_nd (by assumption)) b3
  have hLlt := ZCh_lt hL
  have srtL : zsrt S1 L := b1
  -- the parts of both, by keys
  have kin : ∀ l c, (l, c) ∈ zkd S1 (mK μ) L → (l, c) ∈ zkd S (mK μ) (fl a) ∨ (l, c) ∈ zkd S (mK μ) (fl b) := by
    intro l c m
    obtain ⟨f, mf, rfl, rfl⟩ := zkd_mem.mp m
    obtain ⟨g, q1, q2, q3⟩ := ky1 f mf
    rw [q2, q3]
    rcases (TO g).mp q1 with q | q
    · exact Or.inl (zkd_mem.mpr ⟨g, q, rfl, rfl⟩)
    · exact Or.inr (zkd_mem.mpr ⟨g, q, rfl, rfl⟩)
  have kout : ∀ g, g ∈ fl a ∨ g ∈ fl b → ∃ c, (mK μ (zfl S (g : Nat)), c) ∈ zkd S1 (mK μ) L := by
    intro g hg
    obtain ⟨f, m, e⟩ := ky2 g ((TO g).mpr hg)
    exact ⟨_, zkd_mem.mpr ⟨f, m, by rw [e], rfl⟩⟩
  have hJ' := JI_rows (k := zkd S1 (mK μ) L) (W1 := W1) hw0 hx hy hJ hab0 hab gA gB (zkd_nodup hμ srtL lvL) (fun l => by
      constructor
      · rintro ⟨c, m⟩
        exact (kin l c m).imp (fun z => ⟨c, z⟩) (fun z => ⟨c, z⟩)
      · rintro (⟨c, m⟩ | ⟨c, m⟩)
        · obtain ⟨g, mg, rfl, _⟩ := zkd_mem.mp m
          exact kout g (Or.inl mg)
        · obtain ⟨g, mg, rfl, _⟩ := zkd_mem.mp m
          exact kout g (Or.inr mg)) kin (fun e l => by
      rintro ⟨c, m⟩
      obtain ⟨f, mf, rfl, _⟩ := zkd_mem.mp m
      obtain ⟨g, m', e'⟩ := ca e f mf
      exact ⟨_, zkd_mem.mpr ⟨g, m', by rw [e'], rfl⟩⟩) (fun e l => by
      rintro ⟨c, m⟩
      obtain ⟨f, mf, rfl, _⟩ := zkd_mem.mp m
      obtain ⟨g, m', e'⟩ := cb e f mf
      exact ⟨_, zkd_mem.mpr ⟨g, m', by rw [e'], rfl⟩⟩) (fun q m => by
      obtain ⟨g, hg, k, hk, e, rfl⟩ := g1 q m
      refine ⟨mK μ (zfl S (g : Nat)), ?_⟩
      rcases hT with ⟨rfl, e1, e2⟩ | ⟨rfl, e1, e2⟩
      · rw [e2] at hg
        rw [e1] at hk
        exact ⟨Or.inl (zkd_mem.mpr ⟨g, hg, rfl, rfl⟩), Or.inr (zkd_mem.mpr ⟨k, hk, by rw [e], rfl⟩)⟩
      · rw [e2] at hg
        rw [e1] at hk
        exact ⟨Or.inl (zkd_mem.mpr ⟨k, hk, by rw [e], rfl⟩), Or.inr (zkd_mem.mpr ⟨g, hg, rfl, rfl⟩)⟩) (fun l c1 c2 m1 m2 => by
      obtain ⟨f, n1, r1, rfl⟩ := zkd_mem.mp m1
      obtain ⟨g, n2, r2, rfl⟩ := zkd_mem.mp m2
      have ee : zfl S (f : Nat) = zfl S (g : Nat) := hμ.2.2.2.2 _ _ (lvA f n1) (lvB g n2) (by rw [← r1, ← r2])
      left
      rcases hT with ⟨rfl, e1, e2⟩ | ⟨rfl, e1, e2⟩
      · rcases g2 f (by rw [e2]; exact n1) with w | w
        · exact absurd w (List.not_mem_nil)
        · exact w g (by rw [e1]; exact n2) ee
      · rcases g2 g (by rw [e2]; exact n2) with w | w
        · exact absurd w (List.not_mem_nil)
        · exact w f (by rw [e1]; exact n1) ee.symm)
  have na : (G.2 a).1 = (B a).1 := by rw [gA]
  have nb : (G.2 b).1 = (B b).1 := by rw [gB]
  have ze : (zbb (B a) (B b)).1 = ((B a).1 || (B b).1) := by
    unfold zbb
    by_cases e : ((B a).1 || (B b).1) = true
    · rw [if_pos e, e]
    · rw [if_neg e]
      have e' : ((B a).1 || (B b).1) = false := by simpa using e
      rw [e']
      cases q : (B b).1 with
      | false => rfl
      | true => rw [q, Bool.or_true] at e'; cases e'
  have h5 := h.1.2.2.2.2.2.1
  have hR7 := h.1.2.2.2.2.2.2.1
  have hR8 := h.1.2.2.2.2.2.2.2
  have inL : ∀ f ∈ L, f ∈ fl a ∨ f ∈ fl b ∨ S.1 67 ≤ (f : Int) := by
    intro f m
    rcases b2 f m with q | ⟨q, _⟩
    · rcases (TO f).mp (Or.inl q) with w | w
      · exact Or.inl w
      · exact Or.inr (Or.inl w)
    · exact Or.inr (Or.inr q)
  have old : ∀ (f : Nat), (f : Int) < S.1 67 → f ∉ fl a → f ∉ fl b → zfl S5 f = zfl S f ∧ zft S5 f = zft S f ∧ zfn S5 f = zfn S f := by
    intro f hf fa fb
    obtain ⟨q1, q2, q3⟩ := a2 f hf
    refine ⟨?_, ?_, ?_⟩
    · show S5.2.2.1 29 _ = _; rw [e29]; exact q1
    · show S5.2.2.1 30 _ = _; rw [e30]; exact q2
    · show S5.2.2.1 31 _ = _; rw [e31]
      refine q3 (fun w => ?_)
      rcases (TO f).mp (Or.inl w) with w | w
      · exact fa w
      · exact fb w
  have chL : ZCh S5 L (headO L) := ZCh_eq (S := S1) (by rw [e67]; exact Int.le_refl _) (fun f _ => ⟨by show S5.2.2.1 30 _ = _; rw [e30], by show S5.2.2.1 31 _ = _; rw [e31]⟩) hL
  have hG5 : ZG S5 μ (tlink G a b ((B a).1 || (B b).1, .inr (2, (B a).2.2.2.1 && (B b).2.2.2.1, zkd S1 (mK μ) L))) n (fup fl b L) (fup B b Bb) R := by
    refine ZG_mrg h.1 ha hb ra rb hab ?_ ⟨?_, by rw [e67]; exact h67⟩ (fun z za zb => ⟨p5 z 23 za zb (Or.inl rfl), p5 z 24 za zb (Or.inr (Or.inl rfl)), p5 z 25 za zb (Or.inr (Or.inr (Or.inl rfl))), p5 z 26 za zb (Or.inr (Or.inr (Or.inr rfl)))⟩) (fun z hz rz za zb f hf => ?_) ?_ c5a ?_ ?_ ?_ (fun z za zb => if_neg zb) ?_ (fun z hz rz za zb f hf => ?_) (fun f hf => ?_)
    · rw [f5, zbec_f (by decide)]; exact a1.1 66 (by decide)
    · rw [e67]; omega
    · exact old f (ZNode_lt (h.1.2.2.2.2.1 z hz rz) f hf) (fun q => h5 a z ha hz ra rz (fun e => za e.symm) f q hf) (fun q => h5 b z hb hz rb rz (fun e => zb e.symm) f q hf)
    · rw [k5 a, if_pos rfl]
    · rw [show fup B b Bb a = B a from if_neg hab]; exact g5a
    · rw [k5 b, if_neg (fun q => hab q.symm), kb]; decide
    · rw [show fup B b Bb b = Bb from if_pos rfl]; exact g5b
    · rw [show fup B b Bb b = Bb from if_pos rfl]
      refine Or.inr (Or.inr (Or.inr ⟨by rw [k5 b, if_neg (fun q => hab q.symm), kb], c5b, ?_, by rw [f5b]; exact chL, zsrt_eq (fun f _ => by show S5.2.2.1 29 _ = _; rw [e29]) srtL, fun f m => by show mL μ (S5.2.2.1 29 _) = true; rw [e29]; exact lvL f m⟩))
      show _ = ((zbb (B a) (B b)).1, _)
      rw [ze, kd]
    · rcases inL f hf with q | q | q
      · exact h5 a z ha hz ra rz (fun e => za e.symm) f q
      · exact h5 b z hb hz rb rz (fun e => zb e.symm) f q
      · intro w
        have := ZNode_lt (h.1.2.2.2.2.1 z hz rz) f w
        omega
    · refine ⟨by rw [e67]; have := hR7 f hf; omega, fun z hz rz _ _ => hR8 f hf z hz rz, fun q => ?_⟩
      rcases inL f q with q | q | q
      · exact hR8 f hf a ha ra q
      · exact hR8 f hf b hb rb q
      · have := hR7 f hf; omega
  have kc5 : ∀ y : Nat, zyk S5 y = 1 → zyk S y = 1 ∧ zyc S5 y = zyc S y := by
    intro y hy
    have ya : y ≠ a := fun q => by rw [q, k5 a, if_pos rfl] at hy; cases hy
    have yb : y ≠ b := fun q => by rw [q, k5 b, if_neg (fun q => hab q.symm), kb] at hy; cases hy
    rw [k5 y, if_neg ya] at hy
    exact ⟨hy, p5 y 25 ya yb (Or.inr (Or.inr (Or.inl rfl)))⟩
  obtain ⟨hGG, _, ⟨hE1, hE2, hE3⟩, hJE⟩ := h
  have sE : zEs S1 E := zEs_a (s1k 39 (by decide) (by decide) (by decide) (by decide) (by decide)) hE1
  obtain ⟨q1, q2⟩ := zbec_E (S := S1) (a := a) (b := b) (ba := B a) (bb := B b) sE (by rw [a1.1 79 (by decide)]; exact hE2)
  have e39 : S5.2.2.1 39 = (zbec S1 a b E.length (B a) (B b)).2.2.1 39 := by
    rw [← hS5]
    unfold zrow5
    by_cases e : ((B a).2.2.2.1 && (B b).2.2.2.1) = true
    · simp only [e, if_true]; rfl
    · simp only [e]; rfl
  have lenW : (W1 ++ W).length = W1.length + W.length := List.length_append
  have l2' := zeb_len (b := b) (ba := B a) (bb := B b) (E := E)
  have hPhi := tPhi_link (N := ((B a).1 || (B b).1, .inr (2, (B a).2.2.2.1 && (B b).2.2.2.1, zkd S1 (mK μ) L))) ha hb ra rb hab
  rw [show tkids (G.2 a) = zkd S (mK μ) (fl a) by rw [gA]; rfl, show tkids (G.2 b) = zkd S (mK μ) (fl b) by rw [gB]; rfl, show tkids (((B a).1 || (B b).1, .inr (2, (B a).2.2.2.1 && (B b).2.2.2.1, zkd S1 (mK μ) L)) : TN) = zkd S1 (mK μ) L from rfl, zkd_len, zkd_len, zkd_len] at hPhi
  refine Or.inr ⟨rfl, ⟨?_, by rw [e67]; omega, fun f hf => old f (hR7 f hf) (hR8 f hf a ha ra) (hR8 f hf b hb rb), kc5⟩, _, fup fl b L, fup B b Bb, W1 ++ W, zeb b (B a) (B b) E, hJ', ⟨hG5, ⟨zWs_a (j5 37 (by decide) (by decide) (by decide) (by decide) (by decide)) (j5 38 (by decide) (by decide) (by decide) (by decide) (by decide)) w1, by rw [f5, zbec_f (by decide)]; exact w2⟩, ⟨zEs_a e39 q1, by rw [f5]; exact q2, by rw [← na, ← nb]; exact zeb_lt hGG hE3 ha hb ra rb hab⟩, ?_⟩, ?_, troots_link ha rb ra hab, ?_, zeb_bel (JI_belb hJ hab0)⟩
  · refine zAg_trans (zAg_mono a1 (by decide) (by decide)) ?_
    rw [← hS5]
    unfold zrow5
    by_cases e : ((B a).2.2.2.1 && (B b).2.2.2.1) = true
    · simp only [e, if_true]
      exact zAg_set (by decide) (zAg_set (by decide) zbec_ag)
    · simp only [e]
      exact zAg_set (by decide) (zAg_set (by decide) (zAg_set (by decide) zbec_ag))
  · rw [← na, ← nb]
    have hk1 : zyk S b ≠ 1 := by rw [kb]; decide
    refine JE_link hJ.1 hGG hJE ha hb ra rb hab (by rw [ka]; decide) (fun z hz => if_neg hz) ?_ (fun z hz => ?_) (fun z hz hk => ?_) (fun q => absurd q hk1)
    · rw [show fup B b Bb b = Bb from if_pos rfl]
    · rw [k5 z, if_neg hz]
    · by_cases zb : z = b
      · rw [zb] at hk; exact absurd hk hk1
      · exact p5 z 25 hz zb (Or.inr (Or.inr (Or.inl rfl)))
  · rw [lenW]; omega
  · rw [e67]
    obtain ⟨m, hm⟩ : ∃ m : Nat, S.1 67 = (m : Int) := ⟨(S.1 67).toNat, by omega⟩
    rw [hm]
    have t1 : (tlink G a b ((B a).1 || (B b).1, .inr (2, (B a).2.2.2.1 && (B b).2.2.2.1, zkd S1 (mK μ) L))).1 b = b := by
      show (if G.1 b = a then b else G.1 b) = b
      rw [rb, if_neg (fun q => hab q.symm)]
    have t2 : (tlink G a b ((B a).1 || (B b).1, .inr (2, (B a).2.2.2.1 && (B b).2.2.2.1, zkd S1 (mK μ) L))).2 b = ((B a).1 || (B b).1, .inr (2, (B a).2.2.2.1 && (B b).2.2.2.1, zkd S1 (mK μ) L)) := if_pos rfl
    have loA : tlo G a = (if (B a).2.2.2.1 = true then ((fl a).length : Int) else 0) ∧ tln G a = (if (B a).2.2.2.1 = true then 1 else 0) := by
      unfold tlo tln
      rw [gA]
      cases (B a).2.2.2.1 with
      | false => exact ⟨rfl, rfl⟩
      | true => simp only [ra, if_true, zkd_len]; exact ⟨trivial, trivial⟩
    have loB : tlo G b = (if (B b).2.2.2.1 = true then ((fl b).length : Int) else 0) ∧ tln G b = (if (B b).2.2.2.1 = true then 1 else 0) := by
      unfold tlo tln
      rw [gB]
      cases (B b).2.2.2.1 with
      | false => exact ⟨rfl, rfl⟩
      | true => simp only [rb, if_true, zkd_len]; exact ⟨trivial, trivial⟩
    have loN : tlo (tlink G a b ((B a).1 || (B b).1, .inr (2, (B a).2.2.2.1 && (B b).2.2.2.1, zkd S1 (mK μ) L))) b = (if ((B a).2.2.2.1 && (B b).2.2.2.1) = true then (L.length : Int) else 0) ∧ tln (tlink G a b ((B a).1 || (B b).1, .inr (2, (B a).2.2.2.1 && (B b).2.2.2.1, zkd S1 (mK μ) L))) b = (if ((B a).2.2.2.1 && (B b).2.2.2.1) = true then 1 else 0) := by
      have q1 := t1
      unfold tlo tln
      rw [t2]
      cases hc : ((B a).2.2.2.1 && (B b).2.2.2.1) with
      | false => exact ⟨rfl, rfl⟩
      | true =>
        rw [hc] at q1
        simp only [q1, if_true, zkd_len]; exact ⟨trivial, trivial⟩
    have lO : (O.length : Int) ≤ (fl a).length ∧ (O.length : Int) ≤ (fl b).length := by
      rcases hT with ⟨_, e1, e2⟩ | ⟨_, e1, e2⟩ <;> rw [e1, e2] at hTO <;> rw [e2] <;> omega
    have fewA : (B a).2.2.2.1 = false → L.length ≤ T.length := by
      intro e
      have : L.length ≤ (fl a).length := zsrt_len (S0 := S) srtL (fun f m => by
        obtain ⟨g, q1, q2, _⟩ := ky1 f m
        rcases (TO g).mp q1 with q | q
        · exact ⟨g, q, q2⟩
        · obtain ⟨g', q3, q4⟩ := ca e g q
          exact ⟨g', q3, by rw [q2, q4]⟩)
      rcases hT with ⟨_, e1, e2⟩ | ⟨_, e1, e2⟩
      · rw [e1, e2] at hTO; rw [e1]; omega
      · rw [e1]; omega
    have fewB : (B b).2.2.2.1 = false → L.length ≤ T.length := by
      intro e
      have : L.length ≤ (fl b).length := zsrt_len (S0 := S) srtL (fun f m => by
        obtain ⟨g, q1, q2, _⟩ := ky1 f m
        rcases (TO g).mp q1 with q | q
        · obtain ⟨g', q3, q4⟩ := cb e g q
          exact ⟨g', q3, by rw [q2, q4]⟩
        · exact ⟨g, q, q2⟩)
      rcases hT with ⟨_, e1, e2⟩ | ⟨_, e1, e2⟩
      · rw [e1]; omega
      · rw [e1, e2] at hTO; rw [e1]; omega
    have hm1 := zmin_mul (p := ((fl a).length : Int)) (q := ((fl b).length : Int)) (r := (L.length : Int) - T.length) (by omega) (by omega) (by omega) (by omega) (by omega)
    have l3 : (L.length : Int) ≤ (fl a).length + (fl b).length := by omega
    obtain ⟨r1, r2, r3⟩ := zrow_num (la := (B a).2.2.2.1) (lb := (B b).2.2.2.1) l3 (v := (T.length : Int)) (fun e => by have := fewA e; omega) (fun e => by have := fewB e; omega) hm1 (by omega) (by omega)
    refine zY_link ha hb ra rb hab ?_ ?_ ?_
    · rw [loN.1, loA.1, loB.1]; exact r1
    · rw [loN.2, loA.2, loB.2]; exact r2
    · rw [loN.2, loA.1, loA.2, loB.1, loB.2, show S1.1 67 - (m : Int) = (L.length : Int) - T.length by omega]; exact r3
end ZRows5
