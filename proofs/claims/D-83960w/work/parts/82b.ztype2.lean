set_option maxRecDepth 100000
/-! THE REFERENCE'S TYPES: new places, parts -/
def gAdd (G : TG) (n : Nat) (N : TN) : TG := (fun z => if z = n then n else G.1 z, fun z => if z = n then N else G.2 z)
def fup {α : Type} (f : Nat → α) (n : Nat) (v : α) : Nat → α := fun z => if z = n then v else f z
/-- a place more: what, of what, parts, flags -/
def ztyp (S : ZS) (n : Nat) (k c f b : Int) : ZS := zset (zset (zset (zset (zput S 66 (n + 1)) 23 n k) 25 n c) 26 n f) 24 n b
/-- a part more -/
def zfld (S : ZS) (m : Nat) (l t a : Int) : ZS := zset (zset (zset (zput S 67 (m + 1)) 29 m l) 30 m t) 31 m a
section ZTy2
variable {d : Nat} {S S' : ZS} {μ : Zmp} {G G' : TG} {n n' m x y z : Nat} {fl fl' : Nat → List Nat} {B B' : Nat → Zfl} {b : Zfl} {F : List Nat} {N : TN} {Q : Option (Option ZV) → ZS → Prop} {i v w k c f l t a : Int} {R R' : Nat → Prop}
theorem tAdd_g : tAdd G n N (gAdd G n N) := ⟨⟨by omega, fun z hz => ⟨if_neg (by omega), if_neg (by omega)⟩⟩, if_pos rfl, if_pos rfl⟩
theorem z_type (h : S.1 66 = (n : Int)) (hn : n < 57000) (hk : k = 0 ∨ k = 1 ∨ k = 2) : ZL d 4 [.inl k, .inl c, .inl f, .inl (zfb b), .inl a] S = some (some (some (.inl (n : Int))), ztyp S n k c f (zfb b)) := by
  have e1 : zbyte k = k := by rcases hk with rfl | rfl | rfl <;> decide
  refine zW_get (zl_type ?_)
  unfold zb_type
  rw [h]
  refine zW_let (zW_G (by omega) (zW_p (zW_st (by omega) (zW_f (by omega) ?_))))
  refine zl_type_p42 ?_
  unfold zb_type_p42
  refine zW_st (by omega) (zW_st (by omega) (zW_st (by omega) (zW_rI ⟨rfl, ?_⟩)))
  rw [zfb_byte, e1]; rfl
theorem z_type3 (h : S.1 66 = (n : Int)) (hn : n < 57000) : ZL d 4 [.inl 3, .inl c, .inl f, .inl (zfb b), .inl a] S = some (some (some (.inl (n : Int))), ztyp S n 3 a f (zfb b)) := by
  refine zW_get (zl_type ?_)
  unfold zb_type
  rw [h]
  refine zW_let (zW_G (by omega) (zW_p (zW_st (by omega) (zW_t rfl ?_))))
  refine zl_type_p42 ?_
  unfold zb_type_p42
  refine zW_st (by omega) (zW_st (by omega) (zW_st (by omega) (zW_rI ⟨rfl, ?_⟩)))
  rw [zfb_byte, show zbyte 3 = 3 by decide]; rfl
theorem z_field (h : S.1 67 = (m : Int)) (hm : m < 106000) : ZL d 11 [.inl l, .inl t, .inl a] S = some (some (some (.inl (m : Int))), zfld S m l t a) := by
  refine zW_get (zl_field ?_)
  unfold zb_field
  rw [h]
  exact zW_let (zW_G (by omega) (zW_p (zW_st (by omega) (zW_st (by omega) (zW_st (by omega) (zW_rI ⟨rfl, rfl⟩))))))
theorem z_numb (h : 0 ≤ k ∧ k ≤ 100000) : ZL d 16 [.inl k] S = some (some (some (.inl (-1 - k))), S) := by
  refine zW_get (zl_number ?_)
  unfold zb_number
  exact zW_G (by omega) (zW_rI ⟨rfl, rfl⟩)
/-! what these states hold -/
theorem ztyp_f : (ztyp S n k c f v).1 = fun g => if g = 66 then (n + 1 : Int) else S.1 g := rfl
theorem ztyp_a {j : Nat} (h : j ≠ 23 ∧ j ≠ 24 ∧ j ≠ 25 ∧ j ≠ 26) : (ztyp S n k c f v).2.2.1 j = S.2.2.1 j := by
  funext i
  show (if j = 24 ∧ i = (n : Int) then v else if j = 26 ∧ i = (n : Int) then f else if j = 25 ∧ i = (n : Int) then c else if j = 23 ∧ i = (n : Int) then k else S.2.2.1 j i) = _
  rw [if_neg (fun q => h.2.1 q.1), if_neg (fun q => h.2.2.2 q.1), if_neg (fun q => h.2.2.1 q.1), if_neg (fun q => h.1 q.1)]
theorem ztyp_o {j : Nat} {i : Int} (h : i ≠ n) : (ztyp S n k c f v).2.2.1 j i = S.2.2.1 j i := by
  show (if j = 24 ∧ i = (n : Int) then v else if j = 26 ∧ i = (n : Int) then f else if j = 25 ∧ i = (n : Int) then c else if j = 23 ∧ i = (n : Int) then k else S.2.2.1 j i) = _
  rw [if_neg (fun q => h q.2), if_neg (fun q => h q.2), if_neg (fun q => h q.2), if_neg (fun q => h q.2)]
theorem ztyp_n : zyk (ztyp S n k c f v) n = k ∧ zyf (ztyp S n k c f v) n = v ∧ zyc (ztyp S n k c f v) n = c ∧ zy1 (ztyp S n k c f v) n = f := by
  refine ⟨?_, ?_, ?_, ?_⟩
  · show (if 23 = 24 ∧ (n : Int) = (n : Int) then v else if 23 = 26 ∧ (n : Int) = (n : Int) then f else if 23 = 25 ∧ (n : Int) = (n : Int) then c else if 23 = 23 ∧ (n : Int) = (n : Int) then k else _) = _
    rw [if_neg (fun q => by cases q.1), if_neg (fun q => by cases q.1), if_neg (fun q => by cases q.1), if_pos ⟨rfl, rfl⟩]
  · exact if_pos ⟨rfl, rfl⟩
  · show (if 25 = 24 ∧ (n : Int) = (n : Int) then v else if 25 = 26 ∧ (n : Int) = (n : Int) then f else if 25 = 25 ∧ (n : Int) = (n : Int) then c else _) = _
    rw [if_neg (fun q => by cases q.1), if_neg (fun q => by cases q.1), if_pos ⟨rfl, rfl⟩]
  · show (if 26 = 24 ∧ (n : Int) = (n : Int) then v else if 26 = 26 ∧ (n : Int) = (n : Int) then f else _) = _
    rw [if_neg (fun q => by cases q.1), if_pos ⟨rfl, rfl⟩]
theorem ztyp_ag : zAg [66] [23, 24, 25, 26] S (ztyp S n k c f v) := zAg_set (by decide) (zAg_set (by decide) (zAg_set (by decide) (zAg_set (by decide) (zAg_put (by decide) zAg_refl))))
theorem zfld_f : (zfld S m l t a).1 = fun g => if g = 67 then (m + 1 : Int) else S.1 g := rfl
theorem zfld_a {j : Nat} (h : j ≠ 29 ∧ j ≠ 30 ∧ j ≠ 31) : (zfld S m l t a).2.2.1 j = S.2.2.1 j := by
  funext i
  show (if j = 31 ∧ i = (m : Int) then a else if j = 30 ∧ i = (m : Int) then t else if j = 29 ∧ i = (m : Int) then l else S.2.2.1 j i) = _
  rw [if_neg (fun q => h.2.2 q.1), if_neg (fun q => h.2.1 q.1), if_neg (fun q => h.1 q.1)]
theorem zfld_o {j : Nat} {i : Int} (h : i ≠ m) : (zfld S m l t a).2.2.1 j i = S.2.2.1 j i := by
  show (if j = 31 ∧ i = (m : Int) then a else if j = 30 ∧ i = (m : Int) then t else if j = 29 ∧ i = (m : Int) then l else S.2.2.1 j i) = _
  rw [if_neg (fun q => h q.2), if_neg (fun q => h q.2), if_neg (fun q => h q.2)]
theorem zfld_n : zfl (zfld S m l t a) m = l ∧ zft (zfld S m l t a) m = t ∧ zfn (zfld S m l t a) m = a := by
  refine ⟨?_, ?_, ?_⟩
  · show (if 29 = 31 ∧ (m : Int) = (m : Int) then a else if 29 = 30 ∧ (m : Int) = (m : Int) then t else if 29 = 29 ∧ (m : Int) = (m : Int) then l else _) = _
    rw [if_neg (fun q => by cases q.1), if_neg (fun q => by cases q.1), if_pos ⟨rfl, rfl⟩]
  · show (if 30 = 31 ∧ (m : Int) = (m : Int) then a else if 30 = 30 ∧ (m : Int) = (m : Int) then t else _) = _
    rw [if_neg (fun q => by cases q.1), if_pos ⟨rfl, rfl⟩]
  · exact if_pos ⟨rfl, rfl⟩
theorem zfld_ag : zAg [67] [29, 30, 31] S (zfld S m l t a) := zAg_set (by decide) (zAg_set (by decide) (zAg_set (by decide) (zAg_put (by decide) zAg_refl)))
theorem ZCh_lt : ∀ {F : List Nat} {x : Int}, ZCh S F x → ∀ f ∈ F, (f : Int) < S.1 67
  | [], _, _, _, m => absurd m (List.not_mem_nil)
  | f :: F, _, h, g, m => by
    rcases List.mem_cons.mp m with rfl | m
    · exact h.2.1
    · exact ZCh_lt h.2.2.2 g m
theorem ZNode_lt (h : ZNode S μ N F b x) : ∀ f ∈ F, (f : Int) < S.1 67 := by
  rcases h with ⟨_, _, e⟩ | ⟨_, _, e⟩ | ⟨_, _, _, e, _⟩ | ⟨_, _, _, e, _⟩
  · rw [e]; exact fun _ m => absurd m (List.not_mem_nil)
  · rw [e]; exact fun _ m => absurd m (List.not_mem_nil)
  · exact ZCh_lt e
  · exact ZCh_lt e
/-- a part more leaves the graph -/
theorem ZG_field (h : ZG S μ G n fl B R) (hm : S.1 67 = (m : Int)) (hm' : m < 106000) : ZG (zfld S m l t a) μ G n fl B (fun f => R f ∨ f = m) := by
  obtain ⟨h1, h2, h3, h4, h5, h6, h7, h8⟩ := h
  refine ⟨h1, ⟨?_, h2.2.1, ?_⟩, h3, fun x hx => ?_, fun x hx hr => ?_, h6, fun f hf => ?_, fun f hf x hx hr => ?_⟩
  · show (0 : Int) ≤ m + 1; omega
  · show (m + 1 : Int) ≤ 106000; omega
  · show (zfld S m l t a).2.2.1 24 _ = _
    rw [zfld_a (by decide)]; exact h4 x hx
  · have hl := ZNode_lt (h5 x hx hr)
    refine ZNode_eq (by show S.1 67 ≤ m + 1; omega) (by show (zfld S m l t a).2.2.1 23 _ = _; rw [zfld_a (by decide)]) (by show (zfld S m l t a).2.2.1 25 _ = _; rw [zfld_a (by decide)]) (by show (zfld S m l t a).2.2.1 26 _ = _; rw [zfld_a (by decide)]) (fun f hf => ?_) (h5 x hx hr)
    have := hl f hf
    exact ⟨zfld_o (by omega), zfld_o (by omega), zfld_o (by omega)⟩
  · show (f : Int) < m + 1
    rcases hf with hf | rfl
    · have := h7 f hf; omega
    · omega
  · rcases hf with hf | rfl
    · exact h8 f hf x hx hr
    · intro q
      have := ZNode_lt (h5 x hx hr) f q
      omega
/-- a place more -/
theorem ZG_add (h : ZG S μ G n fl B R) (hn : n < 57000) (hk : k ≠ 4) (hR : ∀ f ∈ F, R f) (hN : ZNode (ztyp S n k c f (zfb b)) μ N F b n) : ZG (ztyp S n k c f (zfb b)) μ (gAdd G n N) (n + 1) (fup fl n F) (fup B n b) (fun f => R f ∧ f ∉ F) := by
  obtain ⟨h1, h2, h3, h4, h5, h6, h7, h8⟩ := h
  have g1 : ∀ z, z < n → (gAdd G n N).1 z = G.1 z := fun z hz => if_neg (by omega)
  have g2 : (gAdd G n N).1 n = n := if_pos rfl
  have lk : ∀ z, z < n → zlk (ztyp S n k c f (zfb b)) z = zlk S z := by
    intro z hz
    unfold zlk
    rw [show zyk (ztyp S n k c f (zfb b)) z = zyk S z from ztyp_o (by omega), show zyc (ztyp S n k c f (zfb b)) z = zyc S z from ztyp_o (by omega)]
  refine ⟨rfl, ⟨h2.1, by omega, h2.2.2⟩, ⟨LkO_new (LkO_eq h3.1 lk g1) ?_ g2, fun x hx q => ?_⟩, fun x hx => ?_, fun x hx hr => ?_, fun x y hx hy rx ry hxy g hg => ?_, fun g hg => h7 g hg.1, fun g hg x hx hr => ?_⟩
  · unfold zlk
    rw [ztyp_n.1, if_neg hk]
  · by_cases e : x = n
    · rw [e, ztyp_n.1] at q; exact absurd q hk
    · rw [show zyk (ztyp S n k c f (zfb b)) x = zyk S x from ztyp_o (by omega)] at q
      rw [show zyc (ztyp S n k c f (zfb b)) x = zyc S x from ztyp_o (by omega)]
      exact h3.2 x (by omega) q
  · unfold fup
    by_cases e : x = n
    · rw [if_pos e, e]; exact ztyp_n.2.1
    · rw [if_neg e, show zyf (ztyp S n k c f (zfb b)) x = zyf S x from ztyp_o (by omega)]
      exact h4 x (by omega)
  · unfold fup
    by_cases e : x = n
    · rw [if_pos e, if_pos e, e, show (gAdd G n N).2 n = N from if_pos rfl]; exact hN
    · rw [if_neg e, if_neg e, show (gAdd G n N).2 x = G.2 x from if_neg e]
      rw [g1 x (by omega)] at hr
      refine ZNode_eq (S := S) (Int.le_refl (S.1 67)) (ztyp_o (by omega)) (ztyp_o (by omega)) (ztyp_o (by omega)) (fun f _ => ⟨?_, ?_, ?_⟩) (h5 x (by omega) hr)
      · exact congrFun (ztyp_a (by decide)) _
      · exact congrFun (ztyp_a (by decide)) _
      · exact congrFun (ztyp_a (by decide)) _
  · unfold fup at hg ⊢
    by_cases ex : x = n
    · rw [if_pos ex] at hg
      rw [if_neg (by omega)]
      rw [g1 y (by omega)] at ry
      exact h8 g (hR g hg) y (by omega) ry
    · rw [if_neg ex] at hg
      rw [g1 x (by omega)] at rx
      by_cases ey : y = n
      · rw [if_pos ey]
        exact fun q => h8 g (hR g q) x (by omega) rx hg
      · rw [if_neg ey]
        rw [g1 y (by omega)] at ry
        exact h6 x y (by omega) (by omega) rx ry hxy g hg
  · unfold fup
    by_cases e : x = n
    · rw [if_pos e]; exact hg.2
    · rw [if_neg e]
      rw [g1 x (by omega)] at hr
      exact h8 g hg.1 x (by omega) hr
theorem ZG_R (h : ZG S μ G n fl B R) (hR : ∀ f, R' f → R f) : ZG S μ G n fl B R' := ⟨h.1, h.2.1, h.2.2.1, h.2.2.2.1, h.2.2.2.2.1, h.2.2.2.2.2.1, fun f hf => h.2.2.2.2.2.2.1 f (hR f hf), fun f hf => h.2.2.2.2.2.2.2 f (hR f hf)⟩
end ZTy2
