set_option maxRecDepth 100000
/-! BOTH PARSERS: whether a declaration begins -/
def sDecls : List (List Int) := [[118, 97, 108], [102, 117, 110], [116, 121, 112, 101], [100, 97, 116, 97, 116, 121, 112, 101], [101, 120, 99, 101, 112, 116, 105, 111, 110], [108, 111, 99, 97, 108], [105, 110, 102, 105, 120], [105, 110, 102, 105, 120, 114], [110, 111, 110, 102, 105, 120]]
section ZDec
variable {d : Nat} {t : List Int} {W : List (List Int)} {S : ZS} {Q : Option (Option ZV) → ZS → Prop} {c k : Tok}
theorem zW_isOr {A : ZS → ZR ZS} (m : Nat) (hC : TkC S W c) (hN : NW S W) (hm : m < 44) (h1 : c.1 = 0 ∧ c.2.2.1 = sKept.getD m [] → Q (some (some (.inl 1))) S) (h0 : ¬ (c.1 = 0 ∧ c.2.2.1 = sKept.getD m []) → zW (A S) Q) : zW (zI (zc ZL (d + 1) 45 [.inl (m : Int)] S) fun v S1 => if v = 0 then A S1 else zrZ 1 S1) Q := by
  refine zW_Ie (z_is hC hN hm) ?_
  by_cases q : c.1 = 0 ∧ c.2.2.1 = sKept.getD m []
  · rw [if_pos q]
    exact zW_f (by decide) (zW_rZ (by decide) (h1 q))
  · rw [if_neg q]
    exact zW_t rfl (h0 q)
theorem z_beginsDec (hC : TkC S W c) (hN : NW S W) : ZL (d + 1) 44 [] S = some (some (some (.inl (if c.1 = 0 ∧ c.2.2.1 ∈ sDecls then 1 else 0))), S) := by
  have yes : ∀ m, sKept.getD m [] ∈ sDecls → (c.1 = 0 ∧ c.2.2.1 = sKept.getD m []) → (some (some (.inl 1)) : Option (Option ZV)) = some (some (.inl (if c.1 = 0 ∧ c.2.2.1 ∈ sDecls then 1 else 0))) ∧ S = S := fun m h q => ⟨by rw [if_pos ⟨q.1, by rw [q.2]; exact h⟩], rfl⟩
  refine zW_get (zl_beginsDec ?_)
  unfold zb_beginsDec
  refine zW_isOr 26 hC hN (by decide) (yes 26 (by decide)) (fun q1 => zW_isOr 10 hC hN (by decide) (yes 10 (by decide)) (fun q2 => zW_isOr 25 hC hN (by decide) (yes 25 (by decide)) (fun q3 => zW_isOr 4 hC hN (by decide) (yes 4 (by decide)) (fun q4 => zW_isOr 8 hC hN (by decide) (yes 8 (by decide)) (fun q5 => zW_isOr 17 hC hN (by decide) (yes 17 (by decide)) (fun q6 => zW_isOr 14 hC hN (by decide) (yes 14 (by decide)) (fun q7 => zW_isOr 15 hC hN (by decide) (yes 15 (by decide)) (fun q8 => zW_isOr 18 hC hN (by decide) (yes 18 (by decide)) (fun q9 => zW_rZ (by decide) ⟨?_, rfl⟩)))))))))
  rw [if_neg]
  rintro ⟨h0, h⟩
  simp only [sDecls, List.mem_cons, List.not_mem_nil, or_false] at h
  rcases h with h | h | h | h | h | h | h | h | h
  · exact q1 ⟨h0, h⟩
  · exact q2 ⟨h0, h⟩
  · exact q3 ⟨h0, h⟩
  · exact q4 ⟨h0, h⟩
  · exact q5 ⟨h0, h⟩
  · exact q6 ⟨h0, h⟩
  · exact q7 ⟨h0, h⟩
  · exact q8 ⟨h0, h⟩
  · exact q9 ⟨h0, h⟩
end ZDec
section YDec
variable {B P : Nat → Prop} {C : YC} {X : Nat → Nat} {H : YS} {d a : Nat} {Q : Option (Option ZV) → YS → Prop} {c k : Tok}
theorem zW_isOrY {A : YS → ZR YS} (m : Nat) (hKD : KD C) (hC : CW C) (hF : Lf C B X H) (ht : TokY C B H a c) (hc : c.1 ≤ 6 ∧ c.2.2.1.length ≤ 10000) (hm : m ∈ cstrs) (h1 : c.1 = 0 ∧ c.2.2.1 = cstr m → Q (some (some (.inl 1))) H) (h0 : ¬ (c.1 = 0 ∧ c.2.2.1 = cstr m) → zW (A H) Q) : zW (zI (ycv (YL C) (d + 3) [(22, 316)] (some a) [zr (C.1 m)] H) fun v h => if v = 0 then A h else yrN 1 1 h) Q := by
  rw [ycv_s ht.2.1 ⟨by decide, rfl⟩]
  refine zW_Ie (y_tokIs hKD hC ht hc.1 hc.2 (hF.2 m hm)) ?_
  by_cases q : c.1 = 0 ∧ c.2.2.1 = cstr m
  · rw [if_pos q]
    exact zW_f (by decide) (zW_rN rfl (h1 q))
  · rw [if_neg q]
    exact zW_t rfl (h0 q)
theorem y_isDec (hKD : KD C) (hC : CW C) (hF : Lf C B X H) (ht : TokY C B H a c) (hc : c.1 ≤ 6 ∧ c.2.2.1.length ≤ 10000) : YL C (d + 3) 102 [zr a] H = some (some (some (.inl (if c.1 = 0 ∧ c.2.2.1 ∈ sDecls then 1 else 0))), H) := by
  have yes : ∀ m, cstr m ∈ sDecls → (c.1 = 0 ∧ c.2.2.1 = cstr m) → (some (some (.inl 1)) : Option (Option ZV)) = some (some (.inl (if c.1 = 0 ∧ c.2.2.1 ∈ sDecls then 1 else 0))) ∧ H = H := fun m h q => ⟨by rw [if_pos ⟨q.1, by rw [q.2]; exact h⟩], rfl⟩
  refine zW_get (yl_Parser_isDec ?_)
  unfold yb_Parser_isDec
  refine zW_gR ht.2.1 rfl (zW_svR ?_)
  rw [ht.2.2.1]
  refine zW_if (fun y => ?_) (fun y => zW_rN rfl ⟨?_, rfl⟩)
  · refine zW_isOrY 102 hKD hC hF ht hc (by decide) (yes 102 (by decide)) (fun q1 => zW_isOrY 103 hKD hC hF ht hc (by decide) (yes 103 (by decide)) (fun q2 => zW_isOrY 104 hKD hC hF ht hc (by decide) (yes 104 (by decide)) (fun q3 => zW_isOrY 105 hKD hC hF ht hc (by decide) (yes 105 (by decide)) (fun q4 => zW_isOrY 106 hKD hC hF ht hc (by decide) (yes 106 (by decide)) (fun q5 => zW_isOrY 107 hKD hC hF ht hc (by decide) (yes 107 (by decide)) (fun q6 => zW_isOrY 108 hKD hC hF ht hc (by decide) (yes 108 (by decide)) (fun q7 => zW_isOrY 109 hKD hC hF ht hc (by decide) (yes 109 (by decide)) (fun q8 => zW_isOrY 110 hKD hC hF ht hc (by decide) (yes 110 (by decide)) (fun q9 => zW_rN rfl ⟨?_, rfl⟩)))))))))
    rw [if_neg]
    rintro ⟨h0, h⟩
    simp only [sDecls, List.mem_cons, List.not_mem_nil, or_false] at h
    rcases h with h | h | h | h | h | h | h | h | h
    · exact q1 ⟨h0, h⟩
    · exact q2 ⟨h0, h⟩
    · exact q3 ⟨h0, h⟩
    · exact q4 ⟨h0, h⟩
    · exact q5 ⟨h0, h⟩
    · exact q6 ⟨h0, h⟩
    · exact q7 ⟨h0, h⟩
    · exact q8 ⟨h0, h⟩
    · exact q9 ⟨h0, h⟩
  · rw [if_neg]
    rintro ⟨q, -⟩
    rw [q] at y
    exact y rfl
end YDec
