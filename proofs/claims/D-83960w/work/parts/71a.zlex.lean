set_option maxRecDepth 100000
/-! THE TEXT, plain; the reference's small steps on it -/
theorem zW_get {σ : Type} {x : ZR σ} {o0 : Option (Option ZV)} {S0 : σ} (h : zW x (fun o S' => o = o0 ∧ S' = S0)) : x = some (o0, S0) := by
  obtain ⟨o, S', e, rfl, rfl⟩ := h
  exact e
def tch (t : List Int) (i : Nat) : Int := (t[i]?).getD (-1)
def bI (b : Bool) : Int := if b = true then 1 else 0
def sBlank (c : Int) : Bool := decide (c = 32 ∨ c = 9 ∨ c = 10 ∨ c = 13)
def sLetter (c : Int) : Bool := decide ((97 ≤ c ∧ c ≤ 122) ∨ (65 ≤ c ∧ c ≤ 90))
def sDigit (c : Int) : Bool := decide (48 ≤ c ∧ c ≤ 57)
def sGoes (c : Int) : Bool := sLetter c || sDigit c || decide (c = 95 ∨ c = 39)
def sSign (c : Int) : Bool := decide (c = 33 ∨ c = 35 ∨ c = 36 ∨ c = 37 ∨ c = 38 ∨ c = 42 ∨ c = 43 ∨ c = 45 ∨ c = 47 ∨ c = 58 ∨ c = 60 ∨ c = 61 ∨ c = 62 ∨ c = 63 ∨ c = 64 ∨ c = 92 ∨ c = 94 ∨ c = 96 ∨ c = 124 ∨ c = 126)
def tOK (t : List Int) : Prop := t.length ≤ 8000 ∧ ∀ c ∈ t, 0 ≤ c ∧ c ≤ 255
theorem tch_in {t : List Int} (h : tOK t) (i : Nat) : -1 ≤ tch t i ∧ tch t i ≤ 255 := by
  unfold tch
  cases e : t[i]? with
  | none => exact ⟨by decide, by decide⟩
  | some c => have := h.2 c (List.mem_of_getElem? e); exact ⟨by show -1 ≤ c; omega, this.2⟩
theorem tch_lt {t : List Int} (h : tOK t) (i : Nat) : i < t.length ↔ 0 ≤ tch t i := by
  unfold tch
  by_cases hi : i < t.length
  · rw [List.getElem?_eq_getElem hi]; exact ⟨fun _ => (h.2 _ (List.getElem_mem hi)).1, fun _ => hi⟩
  · rw [List.getElem?_eq_none (by omega)]; exact ⟨fun z => absurd z hi, fun z => absurd z (by decide)⟩
/-- the text lies in the reference -/
def Lx (S : ZS) (t : List Int) : Prop := S.1 6 = (t.length : Int) ∧ tOK t ∧ ∀ i : Nat, i < t.length → S.2.2.1 2 (i : Int) = tch t i
theorem Lx_put {S : ZS} {t : List Int} {f : Nat} {v : Int} (hf : f ≠ 6) : Lx (zput S f v) t = Lx S t := by
  unfold Lx
  rw [zput_1, if_neg (fun z => hf z.symm), zput_3]
theorem Lx_set {S : ZS} {t : List Int} {j : Nat} {i v : Int} (hf : j ≠ 2) : Lx (zset S j i v) t = Lx S t := by
  unfold Lx
  rw [zset_1]
  simp only [zset_3, fun i' : Int => (if_neg (fun z => hf z.1.symm) : (if 2 = j ∧ i' = i then v else S.2.2.1 2 i') = _)]
section ZLex
variable {d : Nat} {t : List Int} {S : ZS} {i : Nat} {c : Int}
theorem z_behind {k : Int} {j : Nat} (h : Lx S t) (hi : S.1 27 + k = (j : Int)) (hj : j ≤ 100000) : ZL d 29 [.inl k] S = some (some (some (.inl (tch t j))), S) := by
  refine zW_get (zl_behind ?_)
  unfold zb_behind
  have h1 := h.1
  have h2 := h.2.1.1
  have h3 := tch_lt h.2.1 j
  refine zW_G (by omega) ?_
  refine zW_if (fun z => ?_) (fun z => ?_)
  · refine zW_a (by omega) (zW_rI ⟨?_, rfl⟩)
    rw [hi, h.2.2 j (by omega)]
  · refine zW_rI ⟨?_, rfl⟩
    have : tch t j = -1 := by have := (tch_in h.2.1 j).1; omega
    rw [this]
theorem z_here (h : Lx S t) (hi : S.1 27 = (i : Int)) (hj : i ≤ 100000) : ZL d 27 [] S = some (some (some (.inl (tch t i))), S) := by
  refine zW_get (zl_here ?_)
  unfold zb_here
  have h1 := h.1
  have h2 := h.2.1.1
  have h3 := tch_lt h.2.1 i
  refine zW_if (fun z => ?_) (fun z => ?_)
  · refine zW_a (by omega) (zW_rI ⟨?_, rfl⟩)
    rw [hi, h.2.2 i (by omega)]
  · refine zW_rI ⟨?_, rfl⟩
    have : tch t i = -1 := by have := (tch_in h.2.1 i).1; omega
    rw [this]
theorem z_isBlank : ZL d 28 [.inl c] S = some (some (some (.inl (bI (sBlank c)))), S) := by
  refine zW_get (zl_isBlank ?_)
  unfold zb_isBlank
  repeat' (first | (refine zW_rZ (by decide) ⟨?_, rfl⟩) | (refine zW_if (fun z => ?_) (fun z => ?_)))
  all_goals (simp [bI, sBlank, *])
theorem z_isLetter : ZL d 30 [.inl c] S = some (some (some (.inl (bI (sLetter c)))), S) := by
  have h2 : ¬ (97 ≤ c ∧ c ≤ 122) → ZL d 359 [.inl c] S = some (some (some (.inl (bI (sLetter c)))), S) := by
    intro h
    refine zW_get (zl_isLetter_p12 ?_)
    unfold zb_isLetter_p12
    repeat' (first | (refine zW_rZ (by decide) ⟨?_, rfl⟩) | (refine zW_if (fun z => ?_) (fun z => ?_)))
    all_goals (unfold bI sLetter; first | rw [if_pos (by simp; omega)] | rw [if_neg (by simp; omega)])
  refine zW_get (zl_isLetter ?_)
  unfold zb_isLetter
  refine zW_if (fun z => ?_) (fun z => zW_if (fun z => ?_) (fun z => ?_))
  · exact zW_eq (h2 (by omega)) ⟨rfl, rfl⟩
  · refine zW_rZ (by decide) ⟨?_, rfl⟩
    unfold bI sLetter
    rw [if_pos (by simp; omega)]
  · exact zW_eq (h2 (by omega)) ⟨rfl, rfl⟩
end ZLex
