set_option maxRecDepth 100000
/-! THE REFERENCE'S TYPES: becomes, later -/
/-- pairs, roots that wait: the latest first -/
def zWs (S : ZS) : TW → Prop
  | [] => True
  | q :: W => S.2.2.1 37 (W.length : Int) = (q.1 : Int) ∧ S.2.2.1 38 (W.length : Int) = (q.2 : Int) ∧ zWs S W
def zEs (S : ZS) : List Nat → Prop
  | [] => True
  | t :: E => S.2.2.1 39 (E.length : Int) = (t : Int) ∧ zEs S E
def zlat (S : ZS) (m : Nat) (a b : Int) : ZS := zput (zset (zset S 37 m a) 38 m b) 78 (m + 1)
/-- a root linked to another one -/
def zbe1 (S : ZS) (a b : Nat) : ZS := zset (zset S 23 a 4) 25 a b
def zbe2 (S : ZS) (b m : Nat) (v : Int) : ZS := zput (zset (zset S 24 b v) 39 m b) 79 (m + 1)
section ZLink
variable {d : Nat} {S S' : ZS} {μ : Zmp} {G G' : TG} {n n' m x y z a b : Nat} {fl fl' : Nat → List Nat} {B B' : Nat → Zfl} {F : List Nat} {N : TN} {Q : Option (Option ZV) → ZS → Prop} {i v w k c f l t : Int} {R R' : Nat → Prop} {W : TW} {E : List Nat}
theorem zWs_eq : ∀ {W : TW}, (∀ i : Int, i < W.length → S'.2.2.1 37 i = S.2.2.1 37 i ∧ S'.2.2.1 38 i = S.2.2.1 38 i) → zWs S W → zWs S' W
  | [], _, _ => trivial
  | q :: W, e, h => by
    have q1 := e (W.length : Int) (by rw [List.length_cons]; omega)
    exact ⟨by rw [q1.1]; exact h.1, by rw [q1.2]; exact h.2.1, zWs_eq (fun i hi => e i (by rw [List.length_cons]; omega)) h.2.2⟩
theorem zEs_eq : ∀ {E : List Nat}, (∀ i : Int, i < E.length → S'.2.2.1 39 i = S.2.2.1 39 i) → zEs S E → zEs S' E
  | [], _, _ => trivial
  | t :: E, e, h => ⟨by rw [e (E.length : Int) (by rw [List.length_cons]; omega)]; exact h.1, zEs_eq (fun i hi => e i (by rw [List.length_cons]; omega)) h.2⟩
theorem zWs_a (h37 : S'.2.2.1 37 = S.2.2.1 37) (h38 : S'.2.2.1 38 = S.2.2.1 38) (h : zWs S W) : zWs S' W := zWs_eq (fun _ _ => by rw [h37, h38]; exact ⟨rfl, rfl⟩) h
theorem zEs_a (h39 : S'.2.2.1 39 = S.2.2.1 39) (h : zEs S E) : zEs S' E := zEs_eq (fun _ _ => by rw [h39]) h
theorem z_later (h : S.1 78 = (m : Int)) (hm : m < 57000) : ZL d 138 [.inl f, .inl t] S = some (some none, zlat S m f t) := by
  refine zW_get (zl_later ?_)
  unfold zb_later
  rw [h]
  refine zW_st (by omega) ?_
  rw [show (zset S 37 (m : Int) f).1 78 = (m : Int) from h]
  refine zW_st (by omega) ?_
  rw [show (zset (zset S 37 (m : Int) f) 38 (m : Int) t).1 78 = (m : Int) from h]
  exact zW_G (by omega) (zW_p (zW_rV ⟨rfl, rfl⟩))
theorem zlat_ag : zAg [78] [37, 38] S (zlat S m f t) := zAg_put (by decide) (zAg_set (by decide) (zAg_set (by decide) zAg_refl))
theorem zlat_W {q : Nat × Nat} (h : zWs S W) (hm : m = W.length) : zWs (zlat S m (q.1 : Nat) (q.2 : Nat)) (q :: W) := by
  subst hm
  refine ⟨?_, ?_, zWs_eq (fun i hi => ⟨?_, ?_⟩) h⟩
  · exact if_pos ⟨rfl, rfl⟩
  · exact if_pos ⟨rfl, rfl⟩
  · exact if_neg (fun z => by omega)
  · exact if_neg (fun z => by omega)
/-- what does not touch the types -/
theorem ZG_ag {F A : List Nat} (h : ZG S μ G n fl B R) (hg : zAg F A S S') (hF : 66 ∉ F ∧ 67 ∉ F) (hA : 23 ∉ A ∧ 24 ∉ A ∧ 25 ∉ A ∧ 26 ∉ A ∧ 29 ∉ A ∧ 30 ∉ A ∧ 31 ∉ A) : ZG S' μ G n fl B R := by
  have e66 := hg.1 66 hF.1
  have e67 := hg.1 67 hF.2
  have e := fun j hj => hg.2.2.1 j hj
  obtain ⟨h1, h2, h3, h4, h5, h6, h7, h8⟩ := h
  have lk : zlk S' = zlk S := by
    funext z
    show (if S'.2.2.1 23 _ = 4 then some (S'.2.2.1 25 _).toNat else none) = _
    rw [e 23 hA.1, e 25 hA.2.2.1]; rfl
  refine ⟨by rw [e66]; exact h1, by rw [e67]; exact h2, ⟨by rw [lk]; exact h3.1, fun x hx => ?_⟩, fun x hx => ?_, fun x hx hr => ?_, h6, fun f hf => by rw [e67]; exact h7 f hf, h8⟩
  · show S'.2.2.1 23 _ = 4 → 0 ≤ S'.2.2.1 25 _
    rw [e 23 hA.1, e 25 hA.2.2.1]; exact h3.2 x hx
  · show S'.2.2.1 24 _ = _
    rw [e 24 hA.2.1]; exact h4 x hx
  · refine ZNode_eq (by rw [e67]; exact Int.le_refl _) ?_ ?_ ?_ (fun f _ => ⟨?_, ?_, ?_⟩) (h5 x hx hr)
    · show S'.2.2.1 23 _ = _; rw [e 23 hA.1]
    · show S'.2.2.1 25 _ = _; rw [e 25 hA.2.2.1]
    · show S'.2.2.1 26 _ = _; rw [e 26 hA.2.2.2.1]
    · show S'.2.2.1 29 _ = _; rw [e 29 hA.2.2.2.2.1]
    · show S'.2.2.1 30 _ = _; rw [e 30 hA.2.2.2.2.2.1]
    · show S'.2.2.1 31 _ = _; rw [e 31 hA.2.2.2.2.2.2]
/-- one root's entries changed -/
theorem ZG_at {B' : Nat → Zfl} {fl' : Nat → List Nat} {N : TN} (h : ZG S μ G n fl B R) (hx : x < n) (hr : G.1 x = x) (h66 : S'.1 66 = S.1 66) (h67 : S'.1 67 = S.1 67) (ho : ∀ z : Nat, z ≠ x → zyk S' z = zyk S z ∧ zyf S' z = zyf S z ∧ zyc S' z = zyc S z ∧ zy1 S' z = zy1 S z) (hf : ∀ z, z < n → G.1 z = z → z ≠ x → ∀ f ∈ fl z, zfl S' f = zfl S f ∧ zft S' f = zft S f ∧ zfn S' f = zfn S f) (hk : zyk S' x ≠ 4) (hb : zyf S' x = zfb (B' x)) (hB : ∀ z, z ≠ x → B' z = B z) (hfl : ∀ z, z ≠ x → fl' z = fl z) (hN : ZNode S' μ N (fl' x) (B' x) x) (hd : ∀ z, z < n → G.1 z = z → z ≠ x → ∀ f ∈ fl' x, f ∉ fl z) (hR : ∀ f, R' f → (f : Int) < S.1 67 ∧ (∀ z, z < n → G.1 z = z → z ≠ x → f ∉ fl z) ∧ f ∉ fl' x) : ZG S' μ (tset G x N) n fl' B' R' := by
  obtain ⟨h1, h2, h3, h4, h5, h6, h7, h8⟩ := h
  have hx4 : zyk S x ≠ 4 := by
    intro q
    have := LkO_some (lk := zlk S) (rt := G.1) h3.1 hx (y := (zyc S x).toNat) (by unfold zlk; rw [if_pos q])
    exact this.2.2 hr
  have lk : ∀ z, z < n → zlk S' z = zlk S z := by
    intro z _
    unfold zlk
    by_cases e : z = x
    · rw [e, if_neg hk, if_neg hx4]
    · rw [(ho z e).1, (ho z e).2.2.1]
  refine ⟨by rw [h66]; exact h1, by rw [h67]; exact h2, ⟨LkO_eq h3.1 lk (fun _ _ => rfl), fun z hz q => ?_⟩, fun z hz => ?_, fun z hz hr' => ?_, fun z z' hz hz' rz rz' hne f hf' => ?_, fun f hf => by rw [h67]; exact (hR f hf).1, fun f hf z hz rz => ?_⟩
  · by_cases e : z = x
    · rw [e] at q; exact absurd q hk
    · rw [(ho z e).1] at q; rw [(ho z e).2.2.1]; exact h3.2 z hz q
  · by_cases e : z = x
    · rw [e]; exact hb
    · rw [(ho z e).2.1, hB z e]; exact h4 z hz
  · show ZNode S' μ (if z = x then N else G.2 z) (fl' z) (B' z) z
    by_cases e : z = x
    · rw [if_pos e, e]; exact hN
    · rw [if_neg e, hfl z e, hB z e]
      exact ZNode_eq (by rw [h67]; exact Int.le_refl _) (ho z e).1 (ho z e).2.2.1 (ho z e).2.2.2 (hf z hz hr' e) (h5 z hz hr')
  · by_cases e : z = x
    · have e' : z' ≠ x := fun q => hne (by rw [e, q])
      rw [e] at hf'
      rw [hfl z' e']
      exact hd z' hz' rz' e' f hf'
    · rw [hfl z e] at hf'
      by_cases e' : z' = x
      · rw [e']; exact fun q => hd z hz rz e f q hf'
      · rw [hfl z' e']; exact h6 z z' hz hz' rz rz' hne f hf'
  · by_cases e : z = x
    · rw [e]; exact (hR f hf).2.2
    · rw [hfl z e]; exact (hR f hf).2.1 z hz rz e
/-- a root becomes another one -/
theorem ZG_link (h : ZG S μ G n fl B R) (ha : a < n) (hb : b < n) (ra : G.1 a = a) (rb : G.1 b = b) (hab : a ≠ b) : ZG (zbe1 S a b) μ (tlink G a b (G.2 b)) n fl B (fun f => R f ∨ f ∈ fl a) := by
  have hla := ZNode_lt (h.2.2.2.2.1 a ha ra)
  obtain ⟨h1, h2, h3, h4, h5, h6, h7, h8⟩ := h
  have o1 : ∀ z : Nat, z ≠ a → ∀ j, (zbe1 S a b).2.2.1 j (z : Int) = S.2.2.1 j (z : Int) := by
    intro z hz j
    show (if j = 25 ∧ (z : Int) = (a : Int) then (b : Int) else if j = 23 ∧ (z : Int) = (a : Int) then 4 else S.2.2.1 j z) = _
    rw [if_neg (fun q => hz (by omega)), if_neg (fun q => hz (by omega))]
  have ka : zyk (zbe1 S a b) a = 4 := by
    show (if 23 = 25 ∧ (a : Int) = (a : Int) then (b : Int) else if 23 = 23 ∧ (a : Int) = (a : Int) then 4 else _) = _
    rw [if_neg (fun q => by cases q.1), if_pos ⟨rfl, rfl⟩]
  have ca : zyc (zbe1 S a b) a = b := if_pos ⟨rfl, rfl⟩
  have oj : ∀ j, j ≠ 23 → j ≠ 25 → (zbe1 S a b).2.2.1 j = S.2.2.1 j := by
    intro j h1 h2
    funext i
    show (if j = 25 ∧ i = (a : Int) then (b : Int) else if j = 23 ∧ i = (a : Int) then 4 else S.2.2.1 j i) = _
    rw [if_neg (fun q => h2 q.1), if_neg (fun q => h1 q.1)]
  have root : ∀ z, z < n → (tlink G a b (G.2 b)).1 z = z → G.1 z = z ∧ z ≠ a := by
    intro z hz hr
    have hr : (if G.1 z = a then b else G.1 z) = z := hr
    split at hr
    · next q => rw [← hr, rb] at q; exact absurd q.symm hab
    · next q => exact ⟨hr, fun e => q (by rw [e, ra])⟩
  refine ⟨h1, h2, ⟨LkO_link h3.1 ha hb ra rb hab (fun z => ?_), fun z hz q => ?_⟩, fun z hz => ?_, fun z hz hr => ?_, fun z z' hz hz' rz rz' hne f hf => h6 z z' hz hz' (root z hz rz).1 (root z' hz' rz').1 hne f hf, fun f hf => ?_, fun f hf z hz rz => ?_⟩
  · unfold zlk
    by_cases e : z = a
    · rw [if_pos e, e, if_pos ka, ca]; rfl
    · rw [if_neg e, show zyk (zbe1 S a b) z = zyk S z from o1 z e 23, show zyc (zbe1 S a b) z = zyc S z from o1 z e 25]
  · by_cases e : z = a
    · rw [e, ca]; omega
    · rw [show zyk (zbe1 S a b) z = zyk S z from o1 z e 23] at q
      rw [show zyc (zbe1 S a b) z = zyc S z from o1 z e 25]
      exact h3.2 z hz q
  · show (zbe1 S a b).2.2.1 24 _ = _
    rw [oj 24 (by decide) (by decide)]; exact h4 z hz
  · obtain ⟨r1, r2⟩ := root z hz hr
    show ZNode _ μ (if z = b then G.2 b else G.2 z) _ _ _
    have : (if z = b then G.2 b else G.2 z) = G.2 z := by split <;> simp_all
    rw [this]
    refine ZNode_eq (S := S) (Int.le_refl (S.1 67)) (o1 z r2 23) (o1 z r2 25) (o1 z r2 26) (fun f _ => ⟨?_, ?_, ?_⟩) (h5 z hz r1)
    · exact congrFun (oj 29 (by decide) (by decide)) _
    · exact congrFun (oj 30 (by decide) (by decide)) _
    · exact congrFun (oj 31 (by decide) (by decide)) _
  · rcases hf with hf | hf
    · exact h7 f hf
    · exact hla f hf
  · obtain ⟨r1, r2⟩ := root z hz rz
    rcases hf with hf | hf
    · exact h8 f hf z hz r1
    · exact h6 a z ha hz ra r1 (fun e => r2 e.symm) f hf
end ZLink
