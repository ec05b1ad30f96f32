set_option maxRecDepth 100000
/-! THE REFERENCE'S TYPES: parts of rows put together -/
/-- a piece of a row of parts -/
def ZSg (S : ZS) : List Nat → Int → Int → Prop
  | [], x, y => x = y
  | f :: F, x, y => x = (f : Int) ∧ (f : Int) < S.1 67 ∧ 0 ≤ zft S f ∧ ZSg S F (zfn S f) y
def lastO (P : List Nat) : Int := match P.getLast? with
  | some p => (p : Int)
  | none => -1
def headO (K : List Nat) : Int := match K with
  | k :: _ => (k : Int)
  | [] => -1
section ZRows
variable {adm : Nat → Bool} {d : Nat} {S S' S0 : ZS} {m n a b : Nat} {F P K T O : List Nat} {Q : Option (Option ZV) → ZS → Prop} {i v w k c f l t x y : Int} {R R' : Nat → Prop} {W W1 : TW}
theorem ZCh_Sg : ∀ {F : List Nat} {x : Int}, ZCh S F x ↔ ZSg S F x (-1)
  | [], _ => Iff.rfl
  | _ :: F, _ => and_congr_right fun _ => and_congr_right fun _ => and_congr_right fun _ => ZCh_Sg
theorem ZSg_app : ∀ {P K : List Nat} {x y : Int}, ZSg S (P ++ K) x y ↔ ∃ m, ZSg S P x m ∧ ZSg S K m y
  | [], K, x, y => ⟨fun h => ⟨x, rfl, h⟩, fun ⟨m, h1, h2⟩ => by
    have h1 : x = m := h1
    rw [h1]; exact h2⟩
  | f :: P, K, x, y => by
    constructor
    · rintro ⟨h1, h2, h3, h4⟩
      obtain ⟨m, q1, q2⟩ := ZSg_app.mp h4
      exact ⟨m, ⟨h1, h2, h3, q1⟩, q2⟩
    · rintro ⟨m, ⟨h1, h2, h3, h4⟩, h5⟩
      exact ⟨h1, h2, h3, ZSg_app.mpr ⟨m, h4, h5⟩⟩
theorem ZSg_eq (h67 : S.1 67 ≤ S'.1 67) : ∀ {F : List Nat} {x y : Int}, (∀ f ∈ F, zft S' f = zft S f ∧ zfn S' f = zfn S f) → ZSg S F x y → ZSg S' F x y
  | [], _, _, _, h => h
  | f :: F, x, y, e, h => by
    obtain ⟨h1, h2, h3, h4⟩ := h
    have q := e f (List.mem_cons_self ..)
    exact ⟨h1, by omega, by rw [q.1]; exact h3, by rw [q.2]; exact ZSg_eq h67 (fun g hg => e g (List.mem_cons_of_mem _ hg)) h4⟩
theorem ZSg_lt : ∀ {F : List Nat} {x y : Int}, ZSg S F x y → ∀ f ∈ F, (f : Int) < S.1 67
  | [], _, _, _, _, m => absurd m (List.not_mem_nil)
  | f :: F, _, _, h, g, m => by
    rcases List.mem_cons.mp m with rfl | m
    · exact h.2.1
    · exact ZSg_lt h.2.2.2 g m
theorem ZSg_head (h : ZSg S K x (-1)) : x = headO K := by
  cases K with
  | nil => exact h
  | cons k K => exact h.1
theorem zsrt_nd : ∀ {F : List Nat}, zsrt S F → F.Nodup
  | [], _ => List.nodup_nil
  | f :: F, h => List.nodup_cons.mpr ⟨fun q => by have := h.1 f q; omega, zsrt_nd h.2⟩
theorem zsrt_app : ∀ {P K : List Nat}, zsrt S (P ++ K) ↔ zsrt S P ∧ zsrt S K ∧ ∀ p ∈ P, ∀ k ∈ K, zfl S p < zfl S k
  | [], K => ⟨fun h => ⟨trivial, h, fun p m => absurd m (List.not_mem_nil)⟩, fun h => h.2.1⟩
  | f :: P, K => by
    constructor
    · rintro ⟨h1, h2⟩
      obtain ⟨q1, q2, q3⟩ := zsrt_app.mp h2
      refine ⟨⟨fun g hg => h1 g (List.mem_append_left _ hg), q1⟩, q2, fun p m k hk => ?_⟩
      rcases List.mem_cons.mp m with rfl | m
      · exact h1 k (List.mem_append_right _ hk)
      · exact q3 p m k hk
    · rintro ⟨⟨h1, h2⟩, h3, h4⟩
      refine ⟨fun g hg => ?_, zsrt_app.mpr ⟨h2, h3, fun p m => h4 p (List.mem_cons_of_mem _ m)⟩⟩
      rcases List.mem_append.mp hg with hg | hg
      · exact h1 g hg
      · exact h4 f (List.mem_cons_self ..) g hg
/-- looking for a label -/
theorem z_partOf_a : ∀ {F : List Nat} {x : Int}, ZCh S F x → S.1 67 ≤ 106000 → ∃ r : Int, ZL d 434 [.inl l, .inl x] S = some (some (some (.inl r)), S) ∧ ((r = -1 ∧ ∀ f ∈ F, zfl S (f : Nat) ≠ l) ∨ ∃ f ∈ F, r = (f : Nat) ∧ zfl S (f : Nat) = l)
  | [], x, h, _ => by
    have h : x = -1 := h
    refine ⟨-1, zW_get (zl_partOf_p2 ?_), Or.inl ⟨rfl, fun f m => absurd m (List.not_mem_nil)⟩⟩
    unfold zb_partOf_p2
    exact zW_t h (zW_rI ⟨rfl, rfl⟩)
  | f :: F, x, h, h67 => by
    obtain ⟨h1, h2, h3, h4⟩ := h
    by_cases e : zfl S f = l
    · refine ⟨f, zW_get (zl_partOf_p2 ?_), Or.inr ⟨f, List.mem_cons_self .., rfl, e⟩⟩
      unfold zb_partOf_p2
      rw [h1]
      exact zW_f (by omega) (zW_a (by omega) (zW_t e (zW_rI ⟨rfl, rfl⟩)))
    · obtain ⟨r, r1, r2⟩ := z_partOf_a h4 h67
      refine ⟨r, zW_get (zl_partOf_p2 ?_), ?_⟩
      · unfold zb_partOf_p2
        rw [h1]
        exact zW_f (by omega) (zW_a (by omega) (zW_f e (zW_a (by omega) (zW_let (zW_eq r1 ⟨rfl, rfl⟩)))))
      · rcases r2 with ⟨r2, r3⟩ | ⟨g, g1, g2, g3⟩
        · refine Or.inl ⟨r2, fun g m => ?_⟩
          rcases List.mem_cons.mp m with rfl | m
          · exact e
          · exact r3 g m
        · exact Or.inr ⟨g, List.mem_cons_of_mem _ g1, g2, g3⟩
theorem z_partOf (h : ZCh S F x) (h67 : S.1 67 ≤ 106000) : ∃ r : Int, ZL d 143 [.inl x, .inl l] S = some (some (some (.inl r)), S) ∧ ((r = -1 ∧ ∀ f ∈ F, zfl S (f : Nat) ≠ l) ∨ ∃ f ∈ F, r = (f : Nat) ∧ zfl S (f : Nat) = l) := by
  obtain ⟨r, r1, r2⟩ := z_partOf_a (d := d) (l := l) h h67
  refine ⟨r, zW_get (zl_partOf ?_), r2⟩
  unfold zb_partOf
  exact zW_let (zW_eq r1 ⟨rfl, rfl⟩)
theorem z_fieldsFrom_a : ∀ {F : List Nat} {x : Int} {c : Nat}, ZCh S F x → S.1 67 ≤ 106000 → c + F.length ≤ 200000 → ZL d 436 [.inl (c : Int), .inl x] S = some (some (some (.inl ((c + F.length : Nat) : Int))), S)
  | [], x, c, h, _, _ => by
    have h : x = -1 := h
    refine zW_get (zl_fieldsFrom_p4 ?_)
    unfold zb_fieldsFrom_p4
    exact zW_t h (zW_rI ⟨rfl, rfl⟩)
  | f :: F, x, c, h, h67, hc => by
    obtain ⟨h1, h2, h3, h4⟩ := h
    rw [List.length_cons] at hc
    refine zW_get (zl_fieldsFrom_p4 ?_)
    unfold zb_fieldsFrom_p4
    rw [h1]
    refine zW_f (by omega) (zW_G (by omega) (zW_let (zW_a (by omega) (zW_let ?_))))
    have := z_fieldsFrom_a (c := c + 1) h4 h67 (by omega)
    rw [show ((c + 1 : Nat) : Int) = (c : Int) + 1 by omega] at this
    refine zW_eq this ⟨?_, rfl⟩
    rw [List.length_cons, show c + 1 + F.length = c + (F.length + 1) by omega]
theorem z_fieldsFrom (h : ZCh S F x) (h67 : S.1 67 ≤ 106000) (hl : F.length ≤ 200000) : ZL d 145 [.inl x] S = some (some (some (.inl (F.length : Int))), S) := by
  refine zW_get (zl_fieldsFrom ?_)
  unfold zb_fieldsFrom
  refine zW_let (zW_let ?_)
  have := z_fieldsFrom_a (d := d) (c := 0) h h67 (by omega)
  rw [Nat.zero_add] at this
  exact zW_eq this ⟨rfl, rfl⟩
/-- the last part before is led to a new one -/
theorem ZSg_set (hP : P.getLast? = some a) (hn : P.Nodup) (h : ZSg S P x y) : ZSg (zset S 31 a c) P x c := by
  obtain ⟨P0, rfl⟩ : ∃ P0, P = P0 ++ [a] := by
    refine ⟨P.dropLast, ?_⟩
    have hne : P ≠ [] := fun q => by rw [q] at hP; cases hP
    have := List.dropLast_concat_getLast hne
    rw [List.getLast?_eq_some_getLast hne] at hP
    rw [Option.some.inj hP] at this
    exact this.symm
  obtain ⟨m, h1, h2⟩ := ZSg_app.mp h
  rw [List.nodup_append] at hn
  refine ZSg_app.mpr ⟨m, ZSg_eq (S := S) (S' := zset S 31 a c) (Int.le_refl (S.1 67)) (fun f hf => ⟨?_, ?_⟩) h1, h2.1, h2.2.1, ?_, ?_⟩
  · rfl
  · refine if_neg (fun q => ?_)
    exact hn.2.2 f hf a (List.mem_cons_self ..) (by omega)
  · exact h2.2.2.1
  · exact if_pos ⟨rfl, rfl⟩
/-- what is known when some parts of O have been put in: L now; T and O from S0 -/
def ZAf (S0 : ZS) (T O Ol : List Nat) (S : ZS) (L : List Nat) (W W1 : TW) (nb : Nat) (io : Bool) : Prop :=
  zAg [67, 78] [29, 30, 31, 37, 38] S0 S ∧ (∀ f : Nat, (f : Int) < S0.1 67 → zfl S f = zfl S0 f ∧ zft S f = zft S0 f ∧ (f ∉ T → zfn S f = zfn S0 f)) ∧ (zsrt S L ∧ (∀ f ∈ L, f ∈ T ∨ (S0.1 67 ≤ (f : Int) ∧ ∃ g ∈ O, zfl S f = zfl S0 (g : Nat) ∧ zft S f = zft S0 (g : Nat))) ∧ (∀ g ∈ T, g ∈ L) ∧ ∀ g ∈ O, g ∈ Ol ∨ ∃ f ∈ L, zfl S (f : Nat) = zfl S0 (g : Nat)) ∧
  (zWs S (W1 ++ W) ∧ S.1 78 = ((W1 ++ W).length : Int)) ∧ (∀ q ∈ W1, ∃ g ∈ O, ∃ k ∈ T, zfl S0 (g : Nat) = zfl S0 (k : Nat) ∧ q = if io then ((zft S0 g).toNat, (zft S0 k).toNat) else ((zft S0 k).toNat, (zft S0 g).toNat)) ∧ (∀ g ∈ O, g ∈ Ol ∨ ∀ k ∈ T, zfl S0 (g : Nat) = zfl S0 (k : Nat) → (if io then ((zft S0 g).toNat, (zft S0 k).toNat) else ((zft S0 k).toNat, (zft S0 g).toNat)) ∈ W1) ∧
  (W1.length + L.length + Ol.length = T.length + O.length ∧ S.1 67 = S0.1 67 + (L.length : Int) - T.length ∧ nb = O.length)
theorem lastO_app : lastO (P ++ [a]) = (a : Int) := by
  unfold lastO; rw [List.getLast?_concat]
theorem lastO_nil (h : lastO P = -1) : P = [] := by
  unfold lastO at h
  cases q : P.getLast? with
  | none => exact List.getLast?_eq_none_iff.mp q
  | some p => rw [q] at h; have h : (p : Int) = -1 := h; omega
theorem lastO_some (h : P ≠ []) : ∃ p, P.getLast? = some p ∧ lastO P = (p : Int) := by
  cases q : P.getLast? with
  | none => exact absurd (List.getLast?_eq_none_iff.mp q) h
  | some p => exact ⟨p, rfl, by unfold lastO; rw [q]⟩
/-- where the loop stands -/
def ZAl (S0 : ZS) (T O Ol : List Nat) (S : ZS) (P K : List Nat) (W W1 : TW) (io : Bool) (x7 : Int) : Prop := ZCh S (P ++ K) (headO (P ++ K)) ∧ ZCh S Ol x7 ∧ ZAf S0 T O Ol S (P ++ K) W W1 O.length io ∧ (∀ k ∈ K, k ∈ T) ∧ (∀ o ∈ Ol, o ∈ O) ∧ ∀ p ∈ P, ∀ o ∈ Ol, zfl S (p : Nat) < zfl S0 (o : Nat)
def ZA0 (S0 : ZS) (T O : List Nat) (W : TW) : Prop := (∀ f ∈ T, (f : Int) < S0.1 67) ∧ (∀ f ∈ O, (f : Int) < S0.1 67) ∧ (∀ f ∈ O, f ∉ T) ∧ zsrt S0 T ∧ W.length + O.length ≤ 56999 ∧ S0.1 67 + O.length ≤ 106000 ∧ 0 ≤ S0.1 67
/-- a part of O that T has -/
theorem ZAl_eq {io : Bool} {o k : Nat} {Ol K : List Nat} {x7 : Int} (h0 : ZA0 S0 T O W) (h : ZAl S0 T O (o :: Ol) S P (k :: K) W W1 io x7) (hs : zsrt S0 (o :: Ol)) (e : zfl S k = zfl S o) (hS : S' = zlat S (W1 ++ W).length (if io then zft S o else zft S k) (if io then zft S k else zft S o)) : ZAl S0 T O Ol S' P (k :: K) W ((if io then ((zft S0 o).toNat, (zft S0 k).toNat) else ((zft S0 k).toNat, (zft S0 o).toNat)) :: W1) io (zfn S o) := by
  obtain ⟨c1, c2, ⟨a1, a2, ⟨b1, b2, b3, b4⟩, ⟨w1, w2⟩, g1, g2, ⟨l1, l2, _⟩⟩, hK, hO, hP⟩ := h
  have kT := hK k (List.mem_cons_self ..)
  have oO := hO o (List.mem_cons_self ..)
  have fk := a2 k (h0.1 k kT)
  have fo := a2 o (h0.2.1 o oO)
  have hg : zAg [78] [37, 38] S S' := by rw [hS]; exact zlat_ag
  have e29 : S'.2.2.1 29 = S.2.2.1 29 := hg.2.2.1 29 (by decide)
  have e30 : S'.2.2.1 30 = S.2.2.1 30 := hg.2.2.1 30 (by decide)
  have e31 : S'.2.2.1 31 = S.2.2.1 31 := hg.2.2.1 31 (by decide)
  have e67 : S'.1 67 = S.1 67 := hg.1 67 (by decide)
  obtain ⟨co1, co2, co3, co4⟩ := c2
  have po : 0 ≤ zft S0 o := by rw [← fo.2.1]; exact co3
  have pk : 0 ≤ zft S0 k := by
    rw [← fk.2.1]
    have : ∀ {F : List Nat} {x : Int}, ZCh S F x → ∀ f ∈ F, 0 ≤ zft S (f : Nat) := by
      intro F
      induction F with
      | nil => exact fun _ f m => absurd m (List.not_mem_nil)
      | cons g F ih =>
        intro x hx f m
        rcases List.mem_cons.mp m with rfl | m
        · exact hx.2.2.1
        · exact ih hx.2.2.2 f m
    exact this c1 k (List.mem_append_right _ (List.mem_cons_self ..))
  have q0 : zfl S0 o = zfl S0 k := by rw [← fo.1, ← fk.1, e]
  refine ⟨ZCh_W hg c1, ZCh_W hg co4, ⟨zAg_trans a1 (zAg_mono hg (by decide) (by decide)), fun f hf => ?_, ⟨zsrt_eq (fun f _ => by show S'.2.2.1 29 _ = _; rw [e29]) b1, fun f hf => ?_, b3, fun g hg' => ?_⟩, ?_, fun q hq => ?_, fun g hg' => ?_, ?_, ?_, rfl⟩, hK, fun o' m => hO o' (List.mem_cons_of_mem _ m), fun p hp o' m => ?_⟩
  · show S'.2.2.1 29 _ = _ ∧ S'.2.2.1 30 _ = _ ∧ (_ → S'.2.2.1 31 _ = _)
    rw [e29, e30, e31]; exact a2 f hf
  · show _ ∨ (_ ∧ ∃ g ∈ O, S'.2.2.1 29 _ = _ ∧ S'.2.2.1 30 _ = _)
    rw [e29, e30]; exact b2 f hf
  · rcases b4 g hg' with m | ⟨f, f1, f2⟩
    · rcases List.mem_cons.mp m with rfl | m
      · right
        refine ⟨k, List.mem_append_right _ (List.mem_cons_self ..), ?_⟩
        show S'.2.2.1 29 _ = _
        rw [e29]; exact fk.1.trans q0.symm
      · exact Or.inl m
    · right
      refine ⟨f, f1, ?_⟩
      show S'.2.2.1 29 _ = _
      rw [e29]; exact f2
  · rw [hS]
    cases io with
    | true =>
      have e1 : zft S o = (((zft S0 o).toNat : Nat) : Int) := by rw [fo.2.1]; omega
      have e2 : zft S k = (((zft S0 k).toNat : Nat) : Int) := by rw [fk.2.1]; omega
      refine ⟨?_, ?_⟩
      · show zWs (zlat S _ (zft S o) (zft S k)) _
        rw [e1, e2]
        exact zlat_W (q := ((zft S0 o).toNat, (zft S0 k).toNat)) w1 rfl
      · show (((W1 ++ W).length : Int) + 1) = _
        rw [List.cons_append, List.length_cons]; omega
    | false =>
      have e1 : zft S o = (((zft S0 o).toNat : Nat) : Int) := by rw [fo.2.1]; omega
      have e2 : zft S k = (((zft S0 k).toNat : Nat) : Int) := by rw [fk.2.1]; omega
      refine ⟨?_, ?_⟩
      · show zWs (zlat S _ (zft S k) (zft S o)) _
        rw [e1, e2]
        exact zlat_W (q := ((zft S0 k).toNat, (zft S0 o).toNat)) w1 rfl
      · show (((W1 ++ W).length : Int) + 1) = _
        rw [List.cons_append, List.length_cons]; omega
  · rcases List.mem_cons.mp hq with rfl | hq
    · exact ⟨o, oO, k, kT, q0, rfl⟩
    · exact g1 q hq
  · rcases g2 g hg' with m | m
    · rcases List.mem_cons.mp m with rfl | m
      · right
        intro k' hk' ek
        have : k' = k := by
          -- labels of T are different
          have key : ∀ {F : List Nat}, zsrt S0 F → ∀ a ∈ F, ∀ b ∈ F, zfl S0 (a : Nat) = zfl S0 (b : Nat) → a = b := by
            intro F
            induction F with
            | nil => exact fun _ a m => absurd m (List.not_mem_nil)
            | cons c F ih =>
              intro h a ma b mb hab
              rcases List.mem_cons.mp ma with m1 | m1 <;> rcases List.mem_cons.mp mb with m2 | m2
              · rw [m1, m2]
              · have := h.1 b m2; rw [m1] at hab; omega
              · have := h.1 a m1; rw [m2] at hab; omega
              · exact ih h.2 a m1 b m2 hab
          exact key h0.2.2.2.1 k' hk' k kT (by rw [← ek, q0])
        rw [this]; exact List.mem_cons_self ..
      · exact Or.inl m
    · right
      intro k' hk' ek
      exact List.mem_cons_of_mem _ (m k' hk' ek)
  · rw [List.length_cons] at l1 ⊢; omega
  · rw [e67]; exact l2
  · show S'.2.2.1 29 _ < _
    rw [e29]; exact hP p hp o' (List.mem_cons_of_mem _ m)
theorem sub_len : ∀ (T L : List Nat), T.Nodup → (∀ g ∈ T, g ∈ L) → T.length ≤ L.length := by
  intro T
  induction T with
  | nil => intro L _ _; exact Nat.zero_le _
  | cons a T ih =>
    intro L hn h
    rw [List.nodup_cons] at hn
    have ha := h a (List.mem_cons_self ..)
    have h1 := ih (L.erase a) hn.2 (fun g hg => (List.mem_erase_of_ne (fun q => hn.1 (by rw [← q]; exact hg))).mpr (h g (List.mem_cons_of_mem _ hg)))
    rw [List.length_erase_of_mem ha] at h1
    have : 0 < L.length := List.length_pos_of_mem ha
    rw [List.length_cons]; omega
/-- a part of O that T lacks -/
theorem ZAl_new {io : Bool} {o : Nat} {Ol K : List Nat} {x7 : Int} (h0 : ZA0 S0 T O W) (h : ZAl S0 T O (o :: Ol) S P K W W1 io x7) (hs : zsrt S0 (o :: Ol)) (e : ∀ k ∈ K, zfl S o < zfl S (k : Nat)) (hm : S.1 67 = (m : Int)) (hS : S' = if P = [] then zfld S m (zfl S o) (zft S o) (headO K) else zset (zfld S m (zfl S o) (zft S o) (headO K)) 31 (lastO P) m) : ZAl S0 T O Ol S' (P ++ [m]) K W W1 io (zfn S o) := by
  obtain ⟨c1, c2, ⟨a1, a2, ⟨b1, b2, b3, b4⟩, ⟨w1, w2⟩, g1, g2, ⟨l1, l2, _⟩⟩, hK, hO, hP⟩ := h
  have oO := hO o (List.mem_cons_self ..)
  have fo := a2 o (h0.2.1 o oO)
  obtain ⟨co1, co2, co3, co4⟩ := c2
  have hlt : ∀ f ∈ P ++ K, (f : Int) < S.1 67 := ZCh_lt c1
  have hnd := zsrt_nd b1
  -- the new part's entries, the others'
  have old : ∀ (f : Nat), (f : Int) < m → zfl S' f = zfl S f ∧ zft S' f = zft S f ∧ ((f : Int) ≠ lastO P → zfn S' f = zfn S f) := by
    intro f hf
    rw [hS]
    split
    · exact ⟨zfld_o (by omega), zfld_o (by omega), fun _ => zfld_o (by omega)⟩
    · refine ⟨(show (zfld S m (zfl S o) (zft S o) (headO K)).2.2.1 29 (f : Int) = S.2.2.1 29 f from zfld_o (by omega)), (show (zfld S m (zfl S o) (zft S o) (headO K)).2.2.1 30 (f : Int) = S.2.2.1 30 f from zfld_o (by omega)), fun q => ?_⟩
      exact (if_neg (fun w => q w.2)).trans (zfld_o (by omega))
  have zn := zfld_n (S := S) (m := m) (l := zfl S o) (t := zft S o) (a := headO K)
  have new : zfl S' m = zfl S o ∧ zft S' m = zft S o ∧ zfn S' m = headO K := by
    rw [hS]
    split
    · exact zn
    · next hne =>
      obtain ⟨p, p1, p2⟩ := lastO_some hne
      have := hlt p (List.mem_append_left _ (List.mem_of_getLast? p1))
      refine ⟨zn.1, zn.2.1, ?_⟩
      exact (if_neg (fun w => by rw [p2] at w; omega)).trans zn.2.2
  have f67 : S'.1 67 = m + 1 := by rw [hS]; split <;> rfl
  have ag2 : zAg [67] [29, 30, 31] S S' := by
    rw [hS]
    split
    · exact zfld_ag
    · exact zAg_set (by decide) zfld_ag
  have ag : zAg [67, 78] [29, 30, 31, 37, 38] S S' := zAg_mono ag2 (by decide) (by decide)
  obtain ⟨mm, s1, s2⟩ := ZSg_app.mp (ZCh_Sg.mp c1)
  have hmm : mm = headO K := ZSg_head s2
  -- the pieces in the new state
  have sK : ZSg S' K (headO K) (-1) := by
    rw [← hmm]
    refine ZSg_eq (by rw [f67]; omega) (fun f hf => ?_) s2
    have hf' := hlt f (List.mem_append_right _ hf)
    obtain ⟨q1, q2, q3⟩ := old f (by omega)
    refine ⟨q2, q3 (fun w => ?_)⟩
    by_cases hne : P = []
    · rw [hne] at w
      have w : (f : Int) = -1 := w
      omega
    · obtain ⟨p, p1, p2⟩ := lastO_some hne
      have hp := List.mem_of_getLast? p1
      rw [List.nodup_append] at hnd
      exact hnd.2.2 p hp f hf (by rw [p2] at w; omega)
  have sP : ZSg S' P (headO (P ++ K)) (if P = [] then headO K else (m : Int)) := by
    by_cases hne : P = []
    · rw [if_pos hne, hne]; rfl
    · rw [if_neg hne, hS, if_neg hne]
      obtain ⟨p, p1, p2⟩ := lastO_some hne
      rw [p2]
      rw [List.nodup_append] at hnd
      refine ZSg_set p1 hnd.1 (ZSg_eq (S := S) (y := mm) (by show S.1 67 ≤ m + 1; omega) (fun f hf => ?_) s1)
      have hf' := hlt f (List.mem_append_left _ hf)
      exact ⟨zfld_o (by omega), zfld_o (by omega)⟩
  have hhead : headO ((P ++ [m]) ++ K) = if P = [] then (m : Int) else headO (P ++ K) := by
    cases P with
    | nil => rfl
    | cons p P => rw [if_neg (by simp)]; rfl
  have lab : ∀ f ∈ P ++ K, zfl S' (f : Nat) = zfl S f := fun f hf => (old f (by have := hlt f hf; omega)).1
  have ch : ZCh S' ((P ++ [m]) ++ K) (headO ((P ++ [m]) ++ K)) := by
    rw [ZCh_Sg, ZSg_app]
    refine ⟨headO K, ?_, sK⟩
    rw [ZSg_app]
    refine ⟨m, ?_, rfl, by rw [f67]; omega, by rw [new.2.1]; exact co3, new.2.2⟩
    rw [hhead]
    by_cases hne : P = []
    · rw [if_pos hne, hne]; rfl
    · rw [if_neg hne]
      rw [if_neg hne] at sP; exact sP
  obtain ⟨t1, t2, t3⟩ := zsrt_app.mp b1
  have srt : zsrt S' ((P ++ [m]) ++ K) := by
    refine zsrt_app.mpr ⟨zsrt_app.mpr ⟨zsrt_eq (fun f hf => lab f (List.mem_append_left _ hf)) t1, ⟨fun g hg => absurd hg (List.not_mem_nil), trivial⟩, fun p hp k hk => ?_⟩, zsrt_eq (fun f hf => lab f (List.mem_append_right _ hf)) t2, fun p hp k hk => ?_⟩
    · rcases List.mem_cons.mp hk with rfl | hk
      · rw [new.1, lab p (List.mem_append_left _ hp)]
        have := hP p hp o (List.mem_cons_self ..)
        rw [fo.1]; exact this
      · exact absurd hk (List.not_mem_nil)
    · rw [lab k (List.mem_append_right _ hk)]
      rcases List.mem_append.mp hp with hp | hp
      · rw [lab p (List.mem_append_left _ hp)]; exact t3 p hp k hk
      · rcases List.mem_cons.mp hp with rfl | hp
        · rw [new.1]; exact e k hk
        · exact absurd hp (List.not_mem_nil)
  have m0 : S0.1 67 ≤ (m : Int) := by
    have tl : T.length ≤ (P ++ K).length := by
      have hn0 := zsrt_nd h0.2.2.2.1
      exact sub_len T _ hn0 b3
    omega
  refine ⟨ch, ?_, ⟨zAg_trans a1 ag, fun f hf => ?_, ⟨srt, fun f hf => ?_, fun g hg => ?_, fun g hg => ?_⟩, ?_, g1, fun g hg => ?_, ?_, ?_, rfl⟩, hK, fun o' hm' => hO o' (List.mem_cons_of_mem _ hm'), fun p hp o' hm' => ?_⟩
  · rw [ZCh_Sg] at co4 ⊢
    refine ZSg_eq (by rw [f67]; omega) (fun f hf => ?_) co4
    have fO := hO f (List.mem_cons_of_mem _ hf)
    have hf0 := h0.2.1 f fO
    obtain ⟨q1, q2, q3⟩ := old f (by omega)
    refine ⟨q2, q3 (fun w => ?_)⟩
    by_cases hne : P = []
    · rw [hne] at w
      have w : (f : Int) = -1 := w
      omega
    · obtain ⟨p, p1, p2⟩ := lastO_some hne
      have hp := List.mem_of_getLast? p1
      have : p = f := by rw [p2] at w; omega
      rcases b2 p (List.mem_append_left _ hp) with q | ⟨q, _⟩
      · rw [this] at q; exact h0.2.2.1 f fO q
      · rw [this] at q; omega
  · obtain ⟨q1, q2, q3⟩ := old f (by omega)
    obtain ⟨r1, r2, r3⟩ := a2 f hf
    refine ⟨q1.trans r1, q2.trans r2, fun hT => ?_⟩
    rw [q3 (fun w => ?_), r3 hT]
    by_cases hne : P = []
    · rw [hne] at w
      have w : (f : Int) = -1 := w
      omega
    · obtain ⟨p, p1, p2⟩ := lastO_some hne
      have hp := List.mem_of_getLast? p1
      have : p = f := by rw [p2] at w; omega
      rcases b2 p (List.mem_append_left _ hp) with q | ⟨q, _⟩
      · rw [this] at q; exact hT q
      · rw [this] at q; omega
  · have key : f ∈ P ++ K ∨ f = m := by
      rcases List.mem_append.mp hf with hf | hf
      · rcases List.mem_append.mp hf with hf | hf
        · exact Or.inl (List.mem_append_left _ hf)
        · exact Or.inr (List.mem_singleton.mp hf)
      · exact Or.inl (List.mem_append_right _ hf)
    rcases key with hf | rfl
    · obtain ⟨q1, q2, _⟩ := old f (by have := hlt f hf; omega)
      rw [q1, q2]; exact b2 f hf
    · exact Or.inr ⟨m0, o, oO, by rw [new.1, fo.1], by rw [new.2.1, fo.2.1]⟩
  · rcases List.mem_append.mp (b3 g hg) with q | q
    · exact List.mem_append_left _ (List.mem_append_left _ q)
    · exact List.mem_append_right _ q
  · rcases b4 g hg with q | ⟨f, f1, f2⟩
    · rcases List.mem_cons.mp q with rfl | q
      · right
        exact ⟨m, List.mem_append_left _ (List.mem_append_right _ (List.mem_cons_self ..)), by rw [new.1, fo.1]⟩
      · exact Or.inl q
    · right
      refine ⟨f, ?_, by rw [lab f f1]; exact f2⟩
      rcases List.mem_append.mp f1 with q | q
      · exact List.mem_append_left _ (List.mem_append_left _ q)
      · exact List.mem_append_right _ q
  · have e37 : S'.2.2.1 37 = S.2.2.1 37 := ag2.2.2.1 37 (by decide)
    have e38 : S'.2.2.1 38 = S.2.2.1 38 := ag2.2.2.1 38 (by decide)
    have e78 : S'.1 78 = S.1 78 := ag2.1 78 (by decide)
    exact ⟨zWs_a e37 e38 w1, by rw [e78]; exact w2⟩
  · rcases g2 g hg with q | q
    · rcases List.mem_cons.mp q with rfl | q
      · right
        intro k hk ek
        exfalso
        -- T has no such label: all of T lies in P or K
        have hk0 := h0.1 k hk
        have lk := (a2 k hk0).1
        rcases List.mem_append.mp (b3 k hk) with w | w
        · have := hP k w g (List.mem_cons_self ..)
          rw [lk] at this; omega
        · have := e k w
          rw [lk, fo.1] at this; omega
      · exact Or.inl q
    · exact Or.inr q
  · rw [List.length_append, List.length_append] at *
    rw [List.length_cons] at l1
    rw [List.length_singleton]; omega
  · rw [f67]
    rw [List.length_append] at l2
    rw [List.length_append, List.length_append, List.length_singleton]
    omega
  · rcases List.mem_append.mp hp with hp | hp
    · rw [lab p (List.mem_append_left _ hp)]; exact hP p hp o' (List.mem_cons_of_mem _ hm')
    · rcases List.mem_cons.mp hp with rfl | hp
      · rw [new.1, fo.1]; exact hs.1 o' hm'
      · exact absurd hp (List.not_mem_nil)
end ZRows
