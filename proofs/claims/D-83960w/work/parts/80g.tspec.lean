set_option maxRecDepth 100000
/-! WHAT A JOIN GIVES. Types by what they may be: a set S of valuations of numbered types (for each idea of what admits equality); a graph that stands for it; types as functions of a valuation -/
abbrev tT : Nat → Bool := fun _ => true
/-- a graph at rest -/
def TGI (adm : Nat → Bool) (G : TG) (n : Nat) : Prop := tWF G n ∧ tFinS G n ∧ tClo adm G n ∧ tRE adm G n ∧ adm 0 = true
def JRes (adm : Nat → Bool) (G0 : TG) (n0 x y : Nat) (r : Int) (G : TG) (n : Nat) : Prop :=
  (r = 8 ∧ ∀ w, ¬ (tSol tT G0 n0 w ∧ tGen G0 n0 w ∧ w x = w y)) ∨
  (r = 9 ∧ (∃ w, tSol tT G0 n0 w ∧ tGen G0 n0 w ∧ w x = w y) ∧ ∀ w, ¬ (tSol tT G0 n0 w ∧ w x = w y ∧ tFin (w x))) ∨
  (r = 10 ∧ (∃ w, tSol tT G0 n0 w ∧ tGen G0 n0 w ∧ w x = w y ∧ tFin (w x)) ∧ ∀ w, ¬ (tSol adm G0 n0 w ∧ tGen G0 n0 w ∧ w x = w y)) ∨
  (r = 0 ∧ TGI adm G n ∧ JI G0 n0 x y G n [])
abbrev Sv : Type := Nat → Ttr
abbrev TS : Type := (Nat → Bool) → Sv → Prop
abbrev Tf : Type := Sv → Ttr
def sag (nv : Nat) (v v' : Sv) : Prop := ∀ k, k < nv → v k = v' k
def fLoc (nv : Nat) (a : Tf) : Prop := ∀ v v', sag nv v v' → a v = a v'
def TRep (S : TS) (nv : Nat) (ρ : Nat → Nat) (G : TG) (n : Nat) : Prop := (∀ k, k < nv → ρ k < n) ∧ (∀ adm v v', sag nv v v' → S adm v → S adm v') ∧ (∀ adm w, tSol adm G n w → S adm (fun k => w (ρ k))) ∧ ∀ adm v, S adm v → ∃ w, tSol adm G n w ∧ sag nv (fun k => w (ρ k)) v
def TSt (G : TG) (n : Nat) (ρ : Nat → Nat) (nv x : Nat) (a : Tf) : Prop := x < n ∧ (∀ w, tSol tT G n w → w x = a (fun k => w (ρ k))) ∧ fLoc nv a
/-- variables of a text: numbers and names -/
def sgen (rg : List (Nat × Nat)) (v : Sv) : Prop := ∀ q ∈ rg, v q.1 = tleaf (3 * q.2 + 1)
def TRig (rg : List (Nat × Nat)) (nv : Nat) (ρ : Nat → Nat) (G : TG) (n : Nat) : Prop := (∀ q ∈ rg, q.1 < nv ∧ ∃ e, G.2 (G.1 (ρ q.1)) = (e, .inl (q.2 + 2))) ∧ ∀ z, z < n → G.1 z = z → ∀ e k, G.2 z = (e, .inl (k + 2)) → ∃ q ∈ rg, q.2 = k ∧ G.1 (ρ q.1) = z
def sjoin (S : TS) (a b : Tf) : TS := fun adm v => S adm v ∧ a v = b v
noncomputable def sOut (adm : Nat → Bool) (S : TS) (rg : List (Nat × Nat)) (a b : Tf) : Int :=
  @ite Int (∃ v, S tT v ∧ sgen rg v ∧ a v = b v) (Classical.propDecidable _) (@ite Int (∃ v, S tT v ∧ sgen rg v ∧ a v = b v ∧ tFin (a v)) (Classical.propDecidable _) (@ite Int (∃ v, S adm v ∧ sgen rg v ∧ a v = b v) (Classical.propDecidable _) 0 10) 9) 8
section TSpec
variable {adm : Nat → Bool} {G0 G G' : TG} {n0 n n' nv x y x1 y1 z c : Nat} {v w u : Nat → Ttr} {S : TS} {ρ : Nat → Nat} {a b : Tf} {rg : List (Nat × Nat)} {r : Int}
theorem sag_refl : sag nv v v := fun _ _ => rfl
theorem sag_symm (h : sag nv v w) : sag nv w v := fun k hk => (h k hk).symm
theorem sag_trans (h : sag nv v w) (h' : sag nv w u) : sag nv v u := fun k hk => (h k hk).trans (h' k hk)
theorem JI_nil (h : JI G0 n0 x y G n []) : (∀ adm w, tSol adm G n w → tSol adm G0 n0 w ∧ w x = w y) ∧ ∀ adm w, tSol adm G0 n0 w → w x = w y → ∃ w', (∀ z, z < n0 → w' z = w z) ∧ tSol adm G n w' := ⟨fun adm w hs => h.2.2.1 adm w hs (fun q m => absurd m (List.not_mem_nil)), fun adm w hs hv => by
  obtain ⟨w', q1, q2, _⟩ := h.2.2.2.1 adm w hs hv
  exact ⟨w', q1, q2⟩⟩
theorem JRes_ring (hx : x < n0) (h : JI G0 n0 x y G n []) (hr : ∀ w, ¬ (tSol tT G n w ∧ tFin (w x))) : JRes adm G0 n0 x y 9 G n := by
  obtain ⟨s1, s2⟩ := tSol_ext h.1
  obtain ⟨h1, h2⟩ := JI_nil h
  obtain ⟨q1, q2⟩ := h1 _ _ s1
  refine Or.inr (Or.inl ⟨rfl, ⟨_, q1, JI_gen' h s2, q2⟩, ?_⟩)
  rintro w ⟨r1, r2, r3⟩
  obtain ⟨w', p1, p2⟩ := h2 _ w r1 r2
  exact hr w' ⟨p2, by rw [p1 x hx]; exact r3⟩
theorem JI_fin (hw0 : tWF G0 n0) (hf : tFinS G0 n0) (hx : x < n0) (hy : y < n0) (h : JI G0 n0 x y G n []) (fx : tFin (tV G (tU0 G) x)) : tFinS G n := by
  obtain ⟨h1, -⟩ := JI_nil h
  refine tCh_fin hw0 h.1 hf h.2.2.2.2.1 hx hy (fun w hs => (h1 _ w hs).1) fx ?_
  rw [← (h1 _ _ (tSol_ext h.1).1).2]; exact fx
theorem JRes_eq (hx : x < n0) (h : JI G0 n0 x y G n []) (hf : tFinS G n) (hr : ∀ w, ¬ tSol adm G n w) : JRes adm G0 n0 x y 10 G n := by
  obtain ⟨s1, s2⟩ := tSol_ext h.1
  obtain ⟨h1, h2⟩ := JI_nil h
  obtain ⟨q1, q2⟩ := h1 _ _ s1
  refine Or.inr (Or.inr (Or.inl ⟨rfl, ⟨_, q1, JI_gen' h s2, q2, tV_fin h.1 hf tU0_fin x (by have := h.2.2.2.2.1.1; omega)⟩, ?_⟩))
  rintro w ⟨r1, r2, r3⟩
  obtain ⟨w', p1, p2⟩ := h2 _ w r1 r3
  exact hr w' p2
theorem TRig_gen (hw : tWF G n) (hR : TRep S nv ρ G n) (hg : TRig rg nv ρ G n) (hs : tSol adm G n w) : tGen G n w ↔ sgen rg (fun k => w (ρ k)) := by
  constructor
  · intro h q m
    obtain ⟨q1, e, q2⟩ := hg.1 q m
    have hr := hR.1 q.1 q1
    show w (ρ q.1) = _
    rw [hs.1 _ hr]
    exact h _ (hw.1 _ hr).1 (hw.1 _ hr).2 e q.2 q2
  · intro h z hz hr e k hg'
    obtain ⟨q, m, q1, q2⟩ := hg.2 z hz hr e k hg'
    have := h q m
    have this : w (ρ q.1) = tleaf (3 * q.2 + 1) := this
    rw [hs.1 _ (hR.1 q.1 (hg.1 q m).1), q2, q1] at this
    exact this
/-- the join as the types see it -/
theorem TR_join (hG : TGI adm G n) (hR : TRep S nv ρ G n) (hg : TRig rg nv ρ G n) (ha : TSt G n ρ nv x a) (hb : TSt G n ρ nv y b) (h : JRes adm G n x y r G' n') : sOut adm S rg a b = r ∧ (r = 0 → TGI adm G' n' ∧ TRep (sjoin S a b) nv ρ G' n' ∧ TRig rg nv ρ G' n' ∧ n ≤ n' ∧ (∀ adm w, tSol adm G' n' w → tSol adm G n w) ∧ ∀ z c, TSt G n ρ nv z c → TSt G' n' ρ nv z c) := by
  obtain ⟨hx, ha1, ha2⟩ := ha
  obtain ⟨hy, hb1, hb2⟩ := hb
  -- solutions on either side
  have to : ∀ adm' w, tSol adm' G n w → tGen G n w → w x = w y → S adm' (fun k => w (ρ k)) ∧ sgen rg (fun k => w (ρ k)) ∧ a (fun k => w (ρ k)) = b (fun k => w (ρ k)) := fun adm' w s1 s2 s3 => ⟨hR.2.2.1 _ w s1, (TRig_gen hG.1 hR hg s1).mp s2, by rw [← ha1 w (tSol_t s1), ← hb1 w (tSol_t s1), s3]⟩
  have fro : ∀ adm' v, S adm' v → sgen rg v → a v = b v → ∃ w, tSol adm' G n w ∧ tGen G n w ∧ w x = w y ∧ w x = a v := by
    intro adm' v s1 s2 s3
    obtain ⟨w, q1, q2⟩ := hR.2.2.2 _ v s1
    have e1 : w x = a v := by rw [ha1 w (tSol_t q1)]; exact ha2 _ _ q2
    have e2 : w y = b v := by rw [hb1 w (tSol_t q1)]; exact hb2 _ _ q2
    refine ⟨w, q1, (TRig_gen hG.1 hR hg q1).mpr (fun q m => ?_), by rw [e1, e2, s3], e1⟩
    show w (ρ q.1) = _
    rw [← s2 q m]
    exact q2 q.1 (hg.1 q m).1
  unfold sOut
  rcases h with ⟨rfl, h1⟩ | ⟨rfl, ⟨w, s1, s2, s3⟩, h1⟩ | ⟨rfl, ⟨w, s1, s2, s3, s4⟩, h1⟩ | ⟨rfl, h1, h2⟩
  · refine ⟨?_, fun q => by cases q⟩
    rw [if_neg]
    rintro ⟨v, q1, q2, q3⟩
    obtain ⟨w, r1, r2, r3, _⟩ := fro _ v q1 q2 q3
    exact h1 w ⟨r1, r2, r3⟩
  · refine ⟨?_, fun q => by cases q⟩
    rw [if_pos ⟨_, to _ w s1 s2 s3⟩, if_neg]
    rintro ⟨v, q1, q2, q3, q4⟩
    obtain ⟨w, r1, r2, r3, r4⟩ := fro _ v q1 q2 q3
    exact h1 w ⟨r1, r3, by rw [r4]; exact q4⟩
  · refine ⟨?_, fun q => by cases q⟩
    have t1 := to _ w s1 s2 s3
    rw [if_pos ⟨_, t1⟩, if_pos ⟨_, t1.1, t1.2.1, t1.2.2, by rw [← ha1 w s1]; exact s4⟩, if_neg]
    rintro ⟨v, q1, q2, q3⟩
    obtain ⟨w, r1, r2, r3, r4⟩ := fro _ v q1 q2 q3
    exact h1 w ⟨r1, r2, r3⟩
  · obtain ⟨n1, n2⟩ := JI_nil h2
    have hle := h2.2.2.2.2.1.1
    have g := h1
    obtain ⟨g1, g2, g3, g4, g5⟩ := h1
    obtain ⟨e1, e2⟩ := tSol_ex g1 g3 g5 g4
    have ef : tFin (tV G' (tU0 G') x) := tV_fin g1 g2 tU0_fin x (by omega)
    have t1 := to _ _ (n1 _ _ e1).1 (JI_gen' h2 e2) (n1 _ _ e1).2
    have t2 := to _ _ (n1 _ _ (tSol_t e1)).1 (JI_gen' h2 e2) (n1 _ _ e1).2
    have ef2 : tFin (a (fun k => tV G' (tU0 G') (ρ k))) := by rw [← ha1 _ (n1 _ _ (tSol_t e1)).1]; exact ef
    rw [if_pos ⟨_, t2⟩, if_pos ⟨_, t2.1, t2.2.1, t2.2.2, ef2⟩, if_pos ⟨_, t1⟩]
    refine ⟨rfl, fun _ => ⟨g, ⟨fun k hk => ?_, fun adm' v v' hv q => ⟨hR.2.1 adm' v v' hv q.1, ?_⟩, fun adm' w hs => ?_, fun adm' v q => ?_⟩, ⟨fun q m => ?_, fun z hz hr e k hg' => ?_⟩, hle, fun adm' w hs => (n1 adm' w hs).1, fun z c hc => ⟨?_, fun w hs => hc.2.1 w (n1 _ w hs).1, hc.2.2⟩⟩⟩
    · have := hR.1 k hk; omega
    · rw [← ha2 v v' hv, ← hb2 v v' hv]; exact q.2
    · obtain ⟨q1, q2⟩ := n1 adm' w hs
      exact ⟨hR.2.2.1 adm' w q1, by rw [← ha1 w (tSol_t q1), ← hb1 w (tSol_t q1), q2]⟩
    · obtain ⟨q1, q2⟩ := q
      obtain ⟨w, r1, r2⟩ := hR.2.2.2 adm' v q1
      have e1 : w x = a v := by rw [ha1 w (tSol_t r1)]; exact ha2 _ _ r2
      have e2 : w y = b v := by rw [hb1 w (tSol_t r1)]; exact hb2 _ _ r2
      obtain ⟨w', p1, p2⟩ := n2 adm' w r1 (by rw [e1, e2, q2])
      refine ⟨w', p2, fun k hk => ?_⟩
      show w' (ρ k) = _
      rw [p1 _ (hR.1 k hk)]; exact r2 k hk
    · obtain ⟨q1, e, q2⟩ := hg.1 q m
      have hr := hR.1 q.1 q1
      have hr' := hG.1.1 _ hr
      obtain ⟨r1, e', r2⟩ := h2.2.2.2.2.2.2.1 _ hr'.1 hr'.2 q.2 ⟨e, q2⟩
      refine ⟨q1, e', ?_⟩
      rw [h2.2.2.2.2.2.2.2.2 _ hr, r1]; exact r2
    · obtain ⟨r1, r2, e', r3⟩ := h2.2.2.2.2.2.2.2.1 z hz hr k ⟨e, hg'⟩
      obtain ⟨q, m, q1, q2⟩ := hg.2 z r1 r2 e' k r3
      refine ⟨q, m, q1, ?_⟩
      rw [h2.2.2.2.2.2.2.2.2 _ (hR.1 q.1 (hg.1 q m).1), q2]; exact hr
    · have := hc.1; omega
end TSpec
