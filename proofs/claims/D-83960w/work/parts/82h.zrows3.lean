set_option maxRecDepth 100000
/-! THE REFERENCE'S TYPES: mergeRows; how many parts there may be -/
section ZRows3
variable {adm : Nat → Bool} {d : Nat} {S S' S0 : ZS} {μ : Zmp} {G G' G0 : TG} {n n' m x y z a b a0 b0 : Nat} {fl fl' : Nat → List Nat} {B B' : Nat → Zfl} {F P K T O L : List Nat} {N : TN} {Q : Option (Option ZV) → ZS → Prop} {i v w k c f l t : Int} {R R' : Nat → Prop} {W W1 : TW} {E : List Nat}
theorem two_len : ∀ {FA FB : List Nat} {m : Nat}, FA.Nodup → FB.Nodup → (∀ f ∈ FA, f ∉ FB) → (∀ f ∈ FA, f < m) → (∀ f ∈ FB, f < m) → FA.length + FB.length ≤ m := by
  intro FA FB m h1 h2 h3 h4 h5
  have := sub_len (FA ++ FB) (List.range m) (List.nodup_append.mpr ⟨h1, h2, fun a ha b hb q => h3 a ha (by rw [q]; exact hb)⟩) (fun g hg => by
    rw [List.mem_range]
    rcases List.mem_append.mp hg with q | q
    · exact h4 g q
    · exact h5 g q)
  rw [List.length_append, List.length_range] at this
  exact this
/-- a root becomes another one, whose entries change -/
theorem ZG_mrg (h : ZG S μ G n fl B R) (ha : a < n) (hb : b < n) (ra : G.1 a = a) (rb : G.1 b = b) (hab : a ≠ b) (h66 : S'.1 66 = S.1 66) (h67 : S.1 67 ≤ S'.1 67 ∧ S'.1 67 ≤ 106000)
    (ho : ∀ z : Nat, z ≠ a → z ≠ b → zyk S' z = zyk S z ∧ zyf S' z = zyf S z ∧ zyc S' z = zyc S z ∧ zy1 S' z = zy1 S z) (hf : ∀ z, z < n → G.1 z = z → z ≠ a → z ≠ b → ∀ f ∈ fl z, zfl S' f = zfl S f ∧ zft S' f = zft S f ∧ zfn S' f = zfn S f)
    (ka : zyk S' a = 4) (ca : zyc S' a = (b : Int)) (fa : zyf S' a = zfb (B' a)) (kb : zyk S' b ≠ 4) (fb : zyf S' b = zfb (B' b)) (hB : ∀ z, z ≠ a → z ≠ b → B' z = B z) (hN : ZNode S' μ N L (B' b) b) (hd : ∀ z, z < n → G.1 z = z → z ≠ a → z ≠ b → ∀ f ∈ L, f ∉ fl z) (hR : ∀ f, R' f → (f : Int) < S'.1 67 ∧ (∀ z, z < n → G.1 z = z → z ≠ a → z ≠ b → f ∉ fl z) ∧ f ∉ L) : ZG S' μ (tlink G a b N) n (fup fl b L) B' R' := by
  obtain ⟨h1, h2, h3, h4, h5, h6, h7, h8⟩ := h
  have hb4 : zyk S b ≠ 4 := by
    intro q
    have := LkO_some (lk := zlk S) (rt := G.1) h3.1 hb (y := (zyc S b).toNat) (by unfold zlk; rw [if_pos q])
    exact this.2.2 rb
  have root : ∀ z, z < n → (tlink G a b N).1 z = z → G.1 z = z ∧ z ≠ a := by
    intro z hz hr
    have hr : (if G.1 z = a then b else G.1 z) = z := hr
    split at hr
    · next q => rw [← hr, rb] at q; exact absurd q.symm hab
    · next q => exact ⟨hr, fun e => q (by rw [e, ra])⟩
  have lkb : zlk S' b = zlk S b := by unfold zlk; rw [if_neg kb, if_neg hb4]
  refine ⟨by rw [h66]; exact h1, ⟨by omega, h2.2.1, h67.2⟩, ⟨?_, fun z hz q => ?_⟩, fun z hz => ?_, fun z hz hr => ?_, fun z z' hz hz' rz rz' hne f hf' => ?_, fun f hf => (hR f hf).1, fun f hf z hz rz => ?_⟩
  · have lk0 := LkO_link (lk' := fun z => if z = a then some b else zlk S z) h3.1 ha hb ra rb hab (fun _ => rfl)
    refine LkO_eq lk0 (fun z hz => ?_) (fun _ _ => rfl)
    show zlk S' z = if z = a then some b else zlk S z
    by_cases e : z = a
    · rw [if_pos e, e]; unfold zlk; rw [if_pos ka, ca]; rfl
    · rw [if_neg e]
      by_cases e' : z = b
      · rw [e', lkb]
      · unfold zlk; rw [(ho z e e').1, (ho z e e').2.2.1]
  · by_cases e : z = a
    · rw [e, ca]; omega
    · by_cases e' : z = b
      · rw [e'] at q; exact absurd q kb
      · rw [(ho z e e').1] at q; rw [(ho z e e').2.2.1]; exact h3.2 z hz q
  · by_cases e : z = a
    · rw [e]; exact fa
    · by_cases e' : z = b
      · rw [e']; exact fb
      · rw [(ho z e e').2.1, hB z e e']; exact h4 z hz
  · obtain ⟨r1, r2⟩ := root z hz hr
    show ZNode S' μ (if z = b then N else G.2 z) (if z = b then L else fl z) (B' z) z
    by_cases e : z = b
    · rw [if_pos e, if_pos e, e]; exact hN
    · rw [if_neg e, if_neg e, hB z r2 e]
      exact ZNode_eq h67.1 (ho z r2 e).1 (ho z r2 e).2.2.1 (ho z r2 e).2.2.2 (hf z hz r1 r2 e) (h5 z hz r1)
  · obtain ⟨r1, r2⟩ := root z hz rz
    obtain ⟨r1', r2'⟩ := root z' hz' rz'
    have hf' : f ∈ (if z = b then L else fl z) := hf'
    show f ∉ (if z' = b then L else fl z')
    by_cases e : z = b
    · rw [if_pos e] at hf'
      rw [if_neg (fun q => hne (by rw [e, q]))]
      exact hd z' hz' r1' r2' (fun q => hne (by rw [e, q])) f hf'
    · rw [if_neg e] at hf'
      by_cases e' : z' = b
      · rw [if_pos e']; exact fun q => hd z hz r1 r2 e f q hf'
      · rw [if_neg e']; exact h6 z z' hz hz' r1 r1' hne f hf'
  · obtain ⟨r1, r2⟩ := root z hz rz
    show f ∉ (if z = b then L else fl z)
    by_cases e : z = b
    · rw [if_pos e]; exact (hR f hf).2.2
    · rw [if_neg e]; exact (hR f hf).2.1 z hz r1 r2 e
end ZRows3
