set_option maxRecDepth 100000
/-! THE HOUSE'S PARSER: normal form of the grammar's functions -/
section YPrep
variable {t : List Int} {σ : Ps} {τ : Gt} {m : Nat} {g : Gt → Ps → PR}
theorem pB_pT {x : (Int × Nat) ⊕ Ps} {f : Ps → PR} : pB (pT x f) g = pT x fun σ => pB (f σ) g := by cases x <;> rfl
theorem pB_ite {c : Prop} {i : Decidable c} {a b : PR} : pB (@ite PR c i a b) g = @ite PR c i (pB a g) (pB b g) := by split <;> rfl
theorem pB_pR : pB (pR τ σ) g = g τ σ := rfl
theorem pB_pWr : pB (pWr σ) g = pWr σ := rfl
theorem pB_in {e : Int × Nat} : pB (some (.inl e)) g = some (.inl e) := rfl
theorem pB_id {x : PR} : pB x pR = x := by rcases x with _ | _ | ⟨_, _⟩ <;> rfl
theorem pB_pNeed {f : Ps → PR} : pB (pNeed t m σ f) g = pNeed t m σ fun σ1 => pB (f σ1) g := by
  unfold pNeed
  split
  · exact pB_pT
  · rfl
theorem pB_pOpens {f : Ps → PR} : pB (pOpens t σ f) g = pOpens t σ fun σ1 => pB (f σ1) g := by
  unfold pOpens
  split
  · rfl
  · exact pB_pT
theorem pB_pCloses {f : Ps → PR} : pB (pCloses t m σ f) g = pCloses t m σ fun σ1 => pB (f σ1) g := by
  unfold pCloses
  split
  · exact pB_pT
  · rfl
theorem pB_pName {f : List Int → Ps → PR} : pB (pName t σ f) g = pName t σ fun b σ1 => pB (f b σ1) g := by
  unfold pName
  split
  · exact pB_pT
  · rfl
theorem pB_pAny {f : List Int → Ps → PR} : pB (pAny t σ f) g = pAny t σ fun b σ1 => pB (f b σ1) g := by
  unfold pAny
  split
  · exact pB_pT
  · rfl
theorem pB_pOpn {f : Nat → List Int → Ps → PR} : pB (pOpn t σ f) g = pOpn t σ fun q b σ1 => pB (f q b σ1) g := by
  unfold pOpn
  split
  · rw [pB_pT]
    congr 1
    funext σ1
    exact pB_pAny
  · exact pB_pName
theorem pB_pLab {f : List Int → Ps → PR} : pB (pLab t σ f) g = pLab t σ fun b σ1 => pB (f b σ1) g := by
  unfold pLab
  split
  · split
    · rfl
    · exact pB_pT
  · exact pB_pName
theorem tIs_ne {c : Tok} {m m' : Nat} (h : kwd m ≠ kwd m') (a : tIs c m) (b : tIs c m') : False := h (a.2.symm.trans b.2)
def nE (m : Nat) (f : Ps → PR) (σ : Ps) : PR := if pIs σ m then f σ else none
theorem nE_pos {f : Ps → PR} (h : pIs σ m) : nE m f σ = f σ := if_pos h
theorem nE_he {f : Ps → PR} {r : (Int × Nat) ⊕ (Gt × Ps)} (h : pIs σ m) (he : f σ = some r) : pB (nE m f σ) pR = some r := by rw [nE_pos h, pB_id]; exact he
theorem nE_is {f : Ps → PR} {r : (Int × Nat) ⊕ (Gt × Ps)} (he : nE m f σ = some r) : pIs σ m ∧ f σ = some r := by
  unfold nE at he
  split at he
  · next h => exact ⟨h, he⟩
  · cases he
end YPrep
