set_option maxRecDepth 100000
/-! THE REFERENCE'S TYPES: two rows become one -/
section ZRows4
variable {adm : Nat → Bool} {d : Nat} {S S' S0 : ZS} {μ : Zmp} {G G' G0 : TG} {n n' m x y z a b a0 b0 : Nat} {fl fl' : Nat → List Nat} {B B' : Nat → Zfl} {F P K T O L FA FB : List Nat} {N : TN} {Q : Option (Option ZV) → ZS → Prop} {i v w k c f l t : Int} {R R' : Nat → Prop} {W W1 : TW} {E : List Nat}
theorem z_min {p q : Int} : ZL d 503 [.inl p, .inl q] S = some (some (some (.inl (min p q))), S) := by
  refine zW_get (zl_J8_min ?_)
  unfold zb_J8_min
  refine zW_if (fun e => zW_rI ⟨?_, rfl⟩) (fun e => zW_rI ⟨?_, rfl⟩)
  · rw [Int.min_eq_left e]
  · rw [Int.min_eq_right (by omega)]
theorem z_mr2 {x3 x4 : Int} (hA : ZCh S FA (zy1 S a)) (h67 : S.1 67 ≤ 106000) (hn : a < 57000) : ∀ (F2 : List Nat) (x5 : Int), ZCh S F2 x5 → (x3 = 0 → (∃ f ∈ F2, ∀ g ∈ FA, zfl S (g : Nat) ≠ zfl S (f : Nat)) → Q (some (some (.inl 0))) S) → ((x3 = 0 → ∀ f ∈ F2, ∃ g ∈ FA, zfl S (g : Nat) = zfl S (f : Nat)) → zW (ZL (d + 1) 724 [.inl (a : Int), .inl (b : Int), .inl x3, .inl x4, .inl (-1)] S) Q) → zW (ZL (d + 1) 724 [.inl (a : Int), .inl (b : Int), .inl x3, .inl x4, .inl x5] S) Q
  | [], x5, h, _, hq => by
    have h : x5 = -1 := h
    rw [h]; exact hq (fun _ f m => absurd m (List.not_mem_nil))
  | f :: F2, x5, h, hc, hq => by
    obtain ⟨h1, h2, h3, h4⟩ := h
    refine zl_mergeRows_p99 ?_
    unfold zb_mergeRows_p99
    rw [h1]
    refine zW_f (by omega) (zW_if (fun e => ?_) (fun e => ?_))
    · refine zW_a (by omega) (zW_a (by omega) ?_)
      obtain ⟨r, r1, r2⟩ := z_partOf (d := d) (l := zfl S f) hA h67
      refine zW_Ie (zc_s.trans r1) ?_
      rcases r2 with ⟨r2, r3⟩ | ⟨g, g1, g2, g3⟩
      · exact zW_t r2 (zW_rZ (Or.inl rfl) (hc e ⟨f, List.mem_cons_self .., r3⟩))
      · refine zW_f (by omega) (zW_a (by omega) (zW_let (z_mr2 hA h67 hn F2 _ h4 (fun e' ⟨f', m, q⟩ => hc e' ⟨f', List.mem_cons_of_mem _ m, q⟩) (fun q => hq (fun e' f' m => ?_)))))
        rcases List.mem_cons.mp m with rfl | m
        · exact ⟨g, g1, g3⟩
        · exact q e' f' m
    · refine zW_a (by omega) (zW_let (z_mr2 hA h67 hn F2 _ h4 (fun e' => absurd e' e) (fun q => hq (fun e' => absurd e' e))))
theorem z_mr1 {x3 x4 : Int} (hB : ZCh S FB (zy1 S b)) (h67 : S.1 67 ≤ 106000) (hn : b < 57000) : ∀ (F1 : List Nat) (x5 : Int), ZCh S F1 x5 → (x4 = 0 → (∃ f ∈ F1, ∀ g ∈ FB, zfl S (g : Nat) ≠ zfl S (f : Nat)) → Q (some (some (.inl 0))) S) → ((x4 = 0 → ∀ f ∈ F1, ∃ g ∈ FB, zfl S (g : Nat) = zfl S (f : Nat)) → zW (ZL (d + 1) 724 [.inl (a : Int), .inl (b : Int), .inl x3, .inl x4, .inl (zy1 S b)] S) Q) → zW (ZL (d + 1) 627 [.inl (a : Int), .inl (b : Int), .inl x3, .inl x4, .inl x5] S) Q
  | [], x5, h, _, hq => by
    have h : x5 = -1 := h
    refine zl_mergeRows_p45 ?_
    unfold zb_mergeRows_p45
    exact zW_t h (zW_a (by omega) (zW_let (hq (fun _ f m => absurd m (List.not_mem_nil)))))
  | f :: F1, x5, h, hc, hq => by
    obtain ⟨h1, h2, h3, h4⟩ := h
    refine zl_mergeRows_p45 ?_
    unfold zb_mergeRows_p45
    rw [h1]
    refine zW_f (by omega) (zW_if (fun e => ?_) (fun e => ?_))
    · refine zW_a (by omega) (zW_a (by omega) ?_)
      obtain ⟨r, r1, r2⟩ := z_partOf (d := d) (l := zfl S f) hB h67
      refine zW_Ie (zc_s.trans r1) ?_
      rcases r2 with ⟨r2, r3⟩ | ⟨g, g1, g2, g3⟩
      · exact zW_t r2 (zW_rZ (Or.inl rfl) (hc e ⟨f, List.mem_cons_self .., r3⟩))
      · refine zW_f (by omega) (zW_a (by omega) (zW_let (z_mr1 hB h67 hn F1 _ h4 (fun e' ⟨f', m, q⟩ => hc e' ⟨f', List.mem_cons_of_mem _ m, q⟩) (fun q => hq (fun e' f' m => ?_)))))
        rcases List.mem_cons.mp m with rfl | m
        · exact ⟨g, g1, g3⟩
        · exact q e' f' m
    · refine zW_a (by omega) (zW_let (z_mr1 hB h67 hn F1 _ h4 (fun e' => absurd e' e) (fun q => hq (fun e' => absurd e' e))))
/-- the state behind two rows -/
def zrow5 (S1 : ZS) (a b m : Nat) (ba bb : Zfl) (r p : Int) : ZS := let S3 := zset (zset (zbec S1 a b m ba bb) 26 b r) 25 b (if (ba.2.2.2.1 && bb.2.2.2.1) = true then p else 0)
  if (ba.2.2.2.1 && bb.2.2.2.1) = true then S3 else zset S3 24 b (zfb ((zbb ba bb).1, (zbb ba bb).2.1, (zbb ba bb).2.2.1, false, (zbb ba bb).2.2.2.2))
theorem z_mr3 {ba bb : Zfl} {xa xb : Int} (hab : a ≠ b) (ha : a < 57000) (hb : b < 57000) (xA : zy1 S a = xa) (xB : zy1 S b = xb) (hall : ∃ r S1, zW (ZL d 144 [.inl xa, .inl xb] S) (fun o S' => o = some (some (.inl r)) ∧ S' = S1) ∧ (zyf S1 a = zfb ba ∧ zyf S1 b = zfb bb) ∧ (S1.1 79 = (m : Int) ∧ m < 57000) ∧ Q (some (some (.inl 1))) (zrow5 S1 a b m ba bb r (min (zyc S1 a) (zyc S1 b)))) : zW (ZL (d + 1) 724 [.inl (a : Int), .inl (b : Int), .inl (bI ba.2.2.2.1), .inl (bI bb.2.2.2.1), .inl (-1)] S) Q := by
  obtain ⟨r, S1, h1, ⟨f1, f2⟩, ⟨e1, e2⟩, hq⟩ := hall
  refine zl_mergeRows_p99 ?_
  unfold zb_mergeRows_p99
  refine zW_t rfl (zW_a (by omega) (zW_a (by omega) ?_))
  rw [show S.2.2.1 26 (a : Int) = xa from xA, show S.2.2.1 26 (b : Int) = xb from xB]
  refine zW_Ie (zc_s.trans (zW_get h1)) (zW_let (zW_a (by omega) (zW_a (by omega) ?_)))
  refine zW_Ie z_min (zW_let ?_)
  refine zW_Ve (zc_s.trans (z_becomes ha hb hab f1 f2 e1 e2)) (zW_st (by omega) ?_)
  have last : ∀ S4 : ZS, zyf S4 b = zfb (zbb ba bb) → Q (some (some (.inl 1))) (zset S4 24 b (zfb ((zbb ba bb).1, (zbb ba bb).2.1, (zbb ba bb).2.2.1, false, (zbb ba bb).2.2.2.2))) → zW (ZL (d + 1) 819 [.inl (b : Int)] S4) Q := by
    intro S4 hf hq
    refine zl_mergeRows_p223 ?_
    unfold zb_mergeRows_p223
    refine zW_a (by omega) ?_
    rw [show S4.2.2.1 24 (b : Int) = zfb (zbb ba bb) from hf, zfb_l]
    exact zW_st (by omega) (zW_rZ (Or.inr rfl) hq)
  have fb : zyf (zbec S1 a b m ba bb) b = zfb (zbb ba bb) := by
    show (zbec S1 a b m ba bb).2.2.1 24 b = _
    unfold zbec
    by_cases e : (ba.1 || bb.1) = true
    · rw [if_pos e, zbe2_24]; exact if_pos rfl
    · rw [if_neg e, zbe1_j (by decide) (by decide)]
      unfold zbb; rw [if_neg e]; exact f2
  unfold zrow5 at hq
  cases qa : ba.2.2.2.1 with
  | false =>
    refine zW_t rfl ?_
    refine zl_mergeRows_p213 ?_
    unfold zb_mergeRows_p213
    refine zW_st (by omega) (zW_t rfl (last _ fb ?_))
    rw [qa] at hq; exact hq
  | true =>
    refine zW_f (by decide) ?_
    cases qb : bb.2.2.2.1 with
    | false =>
      refine zW_t rfl ?_
      refine zl_mergeRows_p213 ?_
      unfold zb_mergeRows_p213
      refine zW_st (by omega) (zW_f (by decide) (zW_t rfl (last _ fb ?_)))
      rw [qa, qb] at hq; exact hq
    | true =>
      refine zW_f (by decide) ?_
      refine zl_mergeRows_p213 ?_
      unfold zb_mergeRows_p213
      refine zW_st (by omega) (zW_f (by decide) (zW_f (by decide) (zW_rZ (Or.inr rfl) ?_)))
      rw [qa, qb] at hq; exact hq
/-- a row's parts as ZAf tells them: keys -/
theorem ZAf_keys {io : Bool} {nb : Nat} (hA : ZAf S0 T O [] S L W W1 nb io) (h0 : ∀ f ∈ T, (f : Int) < S0.1 67) : (∀ f ∈ L, ∃ g, (g ∈ T ∨ g ∈ O) ∧ zfl S (f : Nat) = zfl S0 (g : Nat) ∧ zft S (f : Nat) = zft S0 (g : Nat)) ∧ ∀ g, g ∈ T ∨ g ∈ O → ∃ f ∈ L, zfl S (f : Nat) = zfl S0 (g : Nat) := by
  obtain ⟨a1, a2, ⟨b1, b2, b3, b4⟩, _⟩ := hA
  refine ⟨fun f m => ?_, fun g hg => ?_⟩
  · rcases b2 f m with q | ⟨_, g, g1, g2, g3⟩
    · obtain ⟨q1, q2, _⟩ := a2 f (h0 f q)
      exact ⟨f, Or.inl q, q1, q2⟩
    · exact ⟨g, Or.inr g1, g2, g3⟩
  · rcases hg with q | q
    · exact ⟨g, b3 g q, (a2 g (h0 g q)).1⟩
    · rcases b4 g q with w | w
      · exact absurd w (List.not_mem_nil)
      · exact w
end ZRows4
