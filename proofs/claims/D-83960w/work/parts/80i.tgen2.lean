set_option maxRecDepth 100000
/-! WHAT BECOMES GENERAL: what is around stays as it is; copies -/
/-- two valuations agree on what is around -/
def Rag (adm : Nat → Bool) (E : TI → Prop) (Lo : Tf → Prop) (v v2 : Sv) : Prop := (∀ I, E I → ∀ T, I adm v T ↔ I adm v2 T) ∧ ∀ a, Lo a → a v = a v2
def Igen (S : TS) (E : TI → Prop) (Lo : Tf → Prop) (a : Tf) : TI := fun adm v T => ∃ v2, S adm v2 ∧ Rag adm E Lo v v2 ∧ T = a v2
/-- a set of roots with their parts -/
def tSet (G : TG) (n : Nat) (R : Nat → Prop) : Prop := ∀ z, R z → (z < n ∧ G.1 z = z) ∧ ∀ l c, (l, c) ∈ tkids (G.2 z) → R (G.1 c)
/-- none of N is met from b on -/
def tAv (G : TG) (n : Nat) (N : Nat → Prop) (b : Nat) : Prop := ∃ R, tSet G n R ∧ R (G.1 b) ∧ ∀ z, R z → ¬ N z
/-- told by what is around, up to what is general -/
def tDet (G : TG) (n : Nat) (P : Nat → Prop) (ρ : Nat → Nat) (E : TI → Prop) (Lo : Tf → Prop) (z : Nat) : Prop := ∀ adm w w2, tSol adm G n w → tSol adm G n w2 → Rag adm E Lo (fun k => w (ρ k)) (fun k => w2 (ρ k)) → ∃ f, w2 z = tV G (tup w P f) z
section TGen2
variable {adm : Nat → Bool} {G0 G G' : TG} {n0 n n' nv x y z c b : Nat} {v w w2 u u' f : Nat → Ttr} {S : TS} {ρ : Nat → Nat} {P Q P' Q' N R K : Nat → Prop} {I : TI} {p : List Ky} {l : Ky} {T : Ttr} {E : TI → Prop} {Lo : Tf → Prop} {a : Tf}
theorem tW_alike2 (hP : ∀ y, R y → ((∃ e o, G.2 y = (e, .inl o)) → u y = u' y) ∧ ((∃ e lab kids, G.2 y = (e, .inr (lab, true, kids))) → u y = u' y) ∧ ∀ l c, (l, c) ∈ tkids (G.2 y) → R (G.1 c)) : ∀ p x, R (G.1 x) → tW G u p x = tW G u' p x := by
  intro p
  induction p with
  | nil =>
    intro x hx
    obtain ⟨h1, h2, h3⟩ := hP _ hx
    rcases hg : G.2 (G.1 x) with ⟨e, o | ⟨lab, loose, kids⟩⟩
    · simp only [tW, hg, h1 ⟨e, o, hg⟩]
    · simp only [tW, hg]
  | cons k p ih =>
    intro x hx
    obtain ⟨h1, h2, h3⟩ := hP _ hx
    rcases hg : G.2 (G.1 x) with ⟨e, o | ⟨lab, loose, kids⟩⟩
    · simp only [tW, hg, h1 ⟨e, o, hg⟩]
    · simp only [tW, hg]
      cases hf : kids.find? (fun z => z.1 == k) with
      | none =>
        cases loose with
        | true => simp only [h2 ⟨e, lab, kids, hg⟩]
        | false => rfl
      | some z => exact ih z.2 (h3 z.1 z.2 (by rw [hg]; exact List.mem_of_find?_eq_some hf))
theorem Rag_symm (h : Rag adm E Lo v w) : Rag adm E Lo w v := ⟨fun I hI T => (h.1 I hI T).symm, fun a ha => (h.2 a ha).symm⟩
theorem Rag_trans (h : Rag adm E Lo v w) (h' : Rag adm E Lo w u) : Rag adm E Lo v u := ⟨fun I hI T => (h.1 I hI T).trans (h'.1 I hI T), fun a ha => (h.2 a ha).trans (h'.2 a ha)⟩
theorem Rag_loc (hE : ∀ I, E I → ∃ b, TSc G n P ρ nv b I) (hL : ∀ a, Lo a → fLoc nv a) (h : sag nv v w) : Rag adm E Lo v w := ⟨fun I hI T => by
  obtain ⟨b, hb⟩ := hE I hI
  exact hb.2.2 v w h adm T, fun a ha => hL a ha v w h⟩
/-- parts of what is told are told -/
theorem tDet_kid (hw : tWF G n) (h : tDet G n P ρ E Lo z) (hz : z < n) (hr : G.1 z = z) (m : (l, c) ∈ tkids (G.2 z)) : tDet G n P ρ E Lo (G.1 c) := by
  intro adm w w2 s1 s2 hR
  obtain ⟨f, e⟩ := h adm w w2 s1 s2 hR
  refine ⟨f, ?_⟩
  rcases hg : G.2 z with ⟨e0, o | ⟨lab, loose, kids⟩⟩
  · rw [hg] at m; exact absurd m (List.not_mem_nil)
  · rw [hg] at m
    have hk := hw.2 z hz hr _ _ _ _ hg
    have hsz := (s2.2 z hz hr).2
    rw [hg] at hsz
    have hc := hk.2 l c m
    rw [← s2.1 c hc, ← hsz.2.1 l c m, e]
    have : tV G (tup w P f) (G.1 c) = tV G (tup w P f) c := (funext fun p => tW_root (hw.1 c hc).2 p).symm
    rw [this]
    exact funext fun p => tW_k hr hg hk.1 m
theorem tDet_u (h : tDet G n P ρ E Lo z) (hr : G.1 z = z) {e : Bool} {o : Nat} (hg : G.2 z = (e, .inl o)) (hp : ¬ P z) (s1 : tSol adm G n w) (s2 : tSol adm G n w2) (hR : Rag adm E Lo (fun k => w (ρ k)) (fun k => w2 (ρ k))) : w z = w2 z := by
  obtain ⟨f, e⟩ := h adm w w2 s1 s2 hR
  rw [e, show tV G (tup w P f) z = tup w P f z from funext fun p => tW_u hr hg p, tup_n hp]
theorem tDet_c (hw : tWF G n) (hq : tGQ G n P Q) (h : tDet G n P ρ E Lo z) (hz : z < n) (hn : ¬ Q (G.1 z)) (s1 : tSol adm G n w) (s2 : tSol adm G n w2) (hR : Rag adm E Lo (fun k => w (ρ k)) (fun k => w2 (ρ k))) : w z = w2 z := by
  obtain ⟨f, e⟩ := h adm w w2 s1 s2 hR
  rw [e, tup_c hw hq s1 hz hn]
theorem tDet_E (hw : tWF G n) (hq : tGQ G n P Q) (hI : TSc G n P ρ nv b I) (hE : E I) : tDet G n P ρ E Lo (G.1 b) := by
  intro adm w w2 s1 s2 hR
  have h1 := (hI.2.1 adm w2 s2 _).mpr (tInst_self hq hw s2 hI.1)
  have h2 := (hR.1 I hE _).mpr h1
  obtain ⟨f, _, e⟩ := (hI.2.1 adm w s1 _).mp h2
  refine ⟨f, ?_⟩
  rw [← s2.1 b hI.1, e]
  exact funext fun p => tW_root (hw.1 b hI.1).2 p
theorem tDet_L (hw : tWF G n) (hq : tGQ G n P Q) (ha : TSt G n ρ nv x a) (hL : Lo a) (hn : ¬ Q (G.1 x)) : tDet G n P ρ E Lo (G.1 x) := by
  intro adm w w2 s1 s2 hR
  have e : w x = w2 x := by
    rw [ha.2.1 w (tSol_t s1), ha.2.1 w2 (tSol_t s2)]
    exact hR.2 a hL
  refine ⟨w, ?_⟩
  rw [tup_c hw hq s1 (hw.1 x ha.1).1 (by rw [(hw.1 x ha.1).2]; exact hn), ← s1.1 x ha.1, ← s2.1 x ha.1, e]
/-- what does not meet what becomes general is as it was -/
theorem tAv_same (hw : tWF G n) (hP : ∀ z, P' z ↔ P z ∨ N z) (hA : tAv G n N b) : tV G (tup w P' f) b = tV G (tup w P f) b := by
  obtain ⟨R, h1, h2, h3⟩ := hA
  have e : ∀ z, R z → tup w P' f z = tup w P f z := by
    intro z hz
    by_cases q : P z
    · rw [tup_p q, tup_p ((hP z).mpr (Or.inl q))]
    · rw [tup_n q, tup_n (fun w => ((hP z).mp w).elim q (h3 z hz))]
  exact funext fun p => tW_alike2 (R := R) (fun y hy => ⟨fun _ => e y hy, fun _ => e y hy, (h1 y hy).2⟩) p b h2
theorem TSc_more (hw : tWF G n) (hP : ∀ z, P' z ↔ P z ∨ N z) (hN : ∀ z, N z → ∀ adm w, tSol adm G n w → w z [] ≠ none ∧ ((G.2 z).1 = true → tEq adm (w z))) (hA : tAv G n N b) (hI : TSc G n P ρ nv b I) : TSc G n P' ρ nv b I := by
  refine ⟨hI.1, fun adm w hs T => ?_, hI.2.2⟩
  rw [hI.2.1 adm w hs]
  constructor
  · rintro ⟨f, h1, h2⟩
    refine ⟨tup w P f, fun z hz => ?_, ?_⟩
    · by_cases q : P z
      · rw [tup_p q]; exact h1 z q
      · rw [tup_n q]; exact hN z (((hP z).mp hz).resolve_left q) adm w hs
    · have : tup w P' (tup w P f) = tup w P f := by
        funext z
        by_cases q : P' z
        · exact tup_p q
        · rw [tup_n q, tup_n (fun h => q ((hP z).mpr (Or.inl h)))]
      rw [this]; exact h2
  · rintro ⟨f, h1, h2⟩
    exact ⟨f, fun z hz => h1 z ((hP z).mpr (Or.inl hz)), by rw [← tAv_same hw hP hA]; exact h2⟩
/-- b becomes general in N -/
theorem TSc_gen (hw : tWF G n) (hd : tDn G n) (hR : TRep S nv ρ G n) (hq : tGQ G n P Q) (hq' : tGQ G n P' Q') (hP : ∀ z, P' z ↔ P z ∨ N z)
    (hE : ∀ I, E I → ∃ b, TSc G n P ρ nv b I ∧ tAv G n N b) (hL : ∀ a, Lo a → ∃ x, TSt G n ρ nv x a ∧ ¬ Q' (G.1 x)) (hb : TSt G n ρ nv b a)
    (hB : ∃ B, tSet G n B ∧ B (G.1 b) ∧ ∀ z, B z → ¬ P z ∧ ((∃ e o, G.2 z = (e, .inl o)) → N z ∨ tDet G n P ρ E Lo z) ∧ ((∃ e lab kids, G.2 z = (e, .inr (lab, true, kids))) → tDet G n P ρ E Lo z ∧ ¬ Q z)) : TSc G n P' ρ nv b (Igen S E Lo a) := by
  have hE' : ∀ I, E I → ∃ b, TSc G n P ρ nv b I := fun I hI => by
    obtain ⟨b, h, _⟩ := hE I hI
    exact ⟨b, h⟩
  have hL' : ∀ a, Lo a → fLoc nv a := fun a ha => by
    obtain ⟨x, h, _⟩ := hL a ha
    exact h.2.2
  refine ⟨hb.1, fun adm w hs T => ⟨?_, ?_⟩, fun v v' hv adm T => ?_⟩
  · rintro ⟨v2, s2, hr, rfl⟩
    obtain ⟨w2, r1, r2⟩ := hR.2.2.2 adm v2 s2
    have hr2 : Rag adm E Lo (fun k => w (ρ k)) (fun k => w2 (ρ k)) := Rag_trans hr (Rag_loc hE' hL' (sag_symm r2))
    refine ⟨w2, fun z hz => ?_, ?_⟩
    · obtain ⟨h1, e, hg⟩ := hq'.2.1 z hz
      obtain ⟨h2, h3⟩ := hq'.1 z h1
      have := tSol_u r1 z h2 h3
      rw [hg] at this ⊢
      exact ⟨this.1, this.2.2⟩
    · obtain ⟨B, b1, b2, b3⟩ := hB
      have e1 : a v2 = w2 b := by
        rw [hb.2.1 w2 (tSol_t r1)]
        exact hb.2.2 _ _ (sag_symm r2)
      rw [e1, show w2 b = tV G w2 b from (funext fun p => tV_only hw r1 p b hb.1).symm]
      refine funext fun p => (tW_alike2 (R := B) (fun y hy => ?_) p b b2).symm
      obtain ⟨c1, c2, c3⟩ := b3 y hy
      refine ⟨fun hg => ?_, fun hg => ?_, (b1 y hy).2⟩
      · by_cases q : P' y
        · exact tup_p q
        · rw [tup_n q]
          rcases c2 hg with h | h
          · exact absurd ((hP y).mpr (Or.inr h)) q
          · obtain ⟨e, o, hg⟩ := hg
            exact tDet_u h (b1 y hy).1.2 hg c1 hs r1 hr2
      · have q : ¬ P' y := fun q => by
          obtain ⟨e, lab, kids, hg⟩ := hg
          obtain ⟨_, e', hg'⟩ := hq'.2.1 y q
          rw [hg] at hg'; cases hg'
        rw [tup_n q]
        obtain ⟨h1, h2⟩ := c3 hg
        exact tDet_c hw hq h1 (b1 y hy).1.1 (by rw [(b1 y hy).1.2]; exact h2) hs r1 hr2
  · rintro ⟨f, h1, rfl⟩
    have s2 := tup_sol hw hd hq' hs h1
    refine ⟨_, hR.2.2.1 adm _ s2, ⟨fun I hI T => ?_, fun a' ha' => ?_⟩, hb.2.1 _ (tSol_t s2)⟩
    · obtain ⟨be, k1, k2⟩ := hE I hI
      rw [k1.2.1 adm w hs, k1.2.1 adm _ s2]
      unfold tInst
      refine exists_congr fun g => and_congr_right fun _ => ?_
      obtain ⟨R, r1, r2, r3⟩ := k2
      have : tV G (tup (tV G (tup w P' f)) P g) be = tV G (tup w P g) be := by
        refine funext fun p => tW_alike2 (R := R) (fun y hy => ⟨fun hg => ?_, fun hg => ?_, (r1 y hy).2⟩) p be r2
        · by_cases q : P y
          · rw [tup_p q, tup_p q]
          · obtain ⟨e, o, hg⟩ := hg
            rw [tup_n q, tup_n q, show tV G (tup w P' f) y = tup w P' f y from funext fun p => tW_u (r1 y hy).1.2 hg p]
            exact tup_n (fun h => ((hP y).mp h).elim q (r3 y hy))
        · have q : ¬ P y := fun q => by
            obtain ⟨e, lab, kids, hg⟩ := hg
            obtain ⟨_, e', hg'⟩ := hq.2.1 y q
            rw [hg] at hg'; cases hg'
          rw [tup_n q, tup_n q]
          refine tup_c hw hq' hs (r1 y hy).1.1 (fun h => ?_)
          rw [(r1 y hy).1.2] at h
          obtain ⟨e, lab, kids, hg⟩ := hg
          exact hq'.2.2.2 y h e lab kids hg
      rw [this]
    · obtain ⟨x, k1, k2⟩ := hL a' ha'
      rw [← k1.2.1 w (tSol_t hs), ← k1.2.1 _ (tSol_t s2)]
      exact (tup_c hw hq' hs k1.1 k2).symm
  · have hr := Rag_loc (adm := adm) hE' hL' hv
    constructor
    · rintro ⟨v2, s2, h, e⟩
      exact ⟨v2, s2, Rag_trans (Rag_symm hr) h, e⟩
    · rintro ⟨v2, s2, h, e⟩
      exact ⟨v2, s2, Rag_trans hr h, e⟩
end TGen2
