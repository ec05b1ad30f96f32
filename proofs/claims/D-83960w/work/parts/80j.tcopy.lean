set_option maxRecDepth 100000
/-! COPIES of general types; new places in general -/
/-- K: what lies below b; m: where each place's copy is; c: what comes -/
def tCopy (kq : Bool) (G : TG) (n : Nat) (P Q : Nat → Prop) (b : Nat) (G' : TG) (n' c : Nat) : Prop := tExt G n G' n' ∧ ∃ (K : Nat → Prop) (m : Nat → Nat), tSet G n K ∧ K (G.1 b) ∧ (c < n' ∧ G'.1 c = m (G.1 b)) ∧ (∀ z z', K z → K z' → n ≤ m z → m z = m z' → z = z') ∧ (∀ y, n ≤ y → y < n' → ∃ z, K z ∧ m z = y) ∧
  ∀ z, K z → (¬ Q z ∧ m z = z) ∨ ((n ≤ m z ∧ m z < n' ∧ G'.1 (m z) = m z) ∧ ((P z ∧ G'.2 (m z) = G.2 z) ∨ ∃ e e' lab kids kids', G.2 z = (e, .inr (lab, false, kids)) ∧ G'.2 (m z) = (e', .inr (lab, false, kids')) ∧ e' = (kq && e) ∧ kids'.map Prod.fst = kids.map Prod.fst ∧ ∀ l d d', (l, d) ∈ kids → (l, d') ∈ kids' → d' < n' ∧ G'.1 d' = m (G.1 d)))
/-- one more numbered type, of a scheme -/
def sinst (S : TS) (nv : Nat) (I : TI) : TS := fun adm v => S adm v ∧ I adm v (v nv)
def rupd (ρ : Nat → Nat) (nv c : Nat) : Nat → Nat := fun k => if k = nv then c else ρ k
section TCopy
variable {adm : Nat → Bool} {G0 G G' : TG} {n0 n n' nv x y z c b : Nat} {v w w2 u u' f : Nat → Ttr} {S : TS} {ρ : Nat → Nat} {P Q P' Q' N R K : Nat → Prop} {I : TI} {p : List Ky} {l : Ky} {T : Ttr} {kq : Bool}
theorem map_mem {k1 k2 : List (Ky × Nat)} (h : k1.map Prod.fst = k2.map Prod.fst) (m : (l, c) ∈ k1) : ∃ d, (l, d) ∈ k2 := by
  have : l ∈ k1.map Prod.fst := List.mem_map.mpr ⟨(l, c), m, rfl⟩
  rw [h] at this
  obtain ⟨q, q1, q2⟩ := List.mem_map.mp this
  exact ⟨q.2, by rw [← q2]; exact q1⟩
theorem tCopy_wf (hw : tWF G n) (h : tCopy kq G n P Q b G' n' c) : tWF G' n' := by
  obtain ⟨he, K, m, hK, kb, hc, inj, sur, h⟩ := h
  have root : ∀ y, n ≤ y → y < n' → ∃ z, K z ∧ m z = y ∧ G'.1 y = y := by
    intro y h1 h2
    obtain ⟨z, z1, z2⟩ := sur y h1 h2
    refine ⟨z, z1, z2, ?_⟩
    rcases h z z1 with ⟨_, q⟩ | ⟨q, _⟩
    · have := (hK z z1).1.1; omega
    · rw [← z2]; exact q.2.2
  have hm : ∀ z, K z → m z < n' ∧ G'.1 (m z) = m z := by
    intro z hz
    rcases h z hz with ⟨_, q⟩ | ⟨q, _⟩
    · obtain ⟨h1, h2⟩ := (hK z hz).1
      rw [q]
      exact ⟨by have := he.1; omega, by rw [(he.2 z h1).1]; exact h2⟩
    · exact ⟨q.2.1, q.2.2⟩
  refine ⟨fun z hz => ?_, fun z hz hr e lab loose kids hg => ?_⟩
  · by_cases q : z < n
    · have := hw.1 z q
      rw [(he.2 z q).1, (he.2 _ this.1).1]
      exact ⟨by have := he.1; omega, this.2⟩
    · obtain ⟨_, _, _, r⟩ := root z (by omega) hz
      rw [r, r]; exact ⟨hz, rfl⟩
  · by_cases q : z < n
    · rw [(he.2 z q).1] at hr
      rw [(he.2 z q).2] at hg
      have := hw.2 z q hr e lab loose kids hg
      exact ⟨this.1, fun l c m => by have := this.2 l c m; have := he.1; omega⟩
    · obtain ⟨z0, z1, z2, r⟩ := root z (by omega) hz
      obtain ⟨h1, h2⟩ := (hK z0 z1).1
      rcases h z0 z1 with ⟨_, q'⟩ | ⟨_, ⟨_, q'⟩ | ⟨e1, e2, lab1, k1, k2, q1, q2, q3, q4, q5⟩⟩
      · omega
      · rw [z2, hg] at q'
        have := hw.2 z0 h1 h2 e lab loose kids q'.symm
        exact ⟨this.1, fun l c m => by have := this.2 l c m; have := he.1; omega⟩
      · rw [z2, hg] at q2
        cases q2
        have := hw.2 z0 h1 h2 _ _ _ _ q1
        refine ⟨by rw [q4]; exact this.1, fun l c m => ?_⟩
        obtain ⟨d, md⟩ := map_mem q4 m
        exact (q5 l d c md m).1
theorem tCopy_ext (hw : tWF G n) (hd : tDn G n) (hq : tGQ G n P Q) (hb : b < n) (h : tCopy kq G n P Q b G' n' c) (s1 : tSol adm G n w) (f1 : tokP adm G P f) : ∃ w', (∀ y, y < n → w' y = w y) ∧ tSol adm G' n' w' ∧ w' c = tV G (tup w P f) b ∧ ∀ y, n ≤ y → y < n' → ∃ z, z < n ∧ w' y = tV G (tup w P f) z := by
  obtain ⟨he, K, m, hK, kb, ⟨hc1, hc⟩, inj, sur, h⟩ := h
  have sW := tup_sol hw hd hq s1 f1
  -- the place that a new one is a copy of
  have back : ∃ bk : Nat → Nat, ∀ y, n ≤ y → y < n' → K (bk y) ∧ m (bk y) = y := by
    refine (Classical.skolem (p := fun (y z : Nat) => n ≤ y → y < n' → K z ∧ m z = y)).mp fun y => ?_
    by_cases hy : n ≤ y ∧ y < n'
    · obtain ⟨z, hz⟩ := sur y hy.1 hy.2
      exact ⟨z, fun _ _ => hz⟩
    · exact ⟨0, fun h1 h2 => absurd ⟨h1, h2⟩ hy⟩
  obtain ⟨bk, hbk⟩ := back
  have bkm : ∀ z, K z → n ≤ m z → m z < n' → bk (m z) = z := by
    intro z hz h1 h2
    obtain ⟨r1, r2⟩ := hbk _ h1 h2
    exact inj _ _ r1 hz (by rw [r2]; exact h1) r2
  let w' : Nat → Ttr := fun y => if y < n then w y else tV G (tup w P f) (bk y)
  have wo : ∀ y, y < n → w' y = w y := fun y hy => if_pos hy
  have wn : ∀ y, n ≤ y → w' y = tV G (tup w P f) (bk y) := fun y hy => if_neg (by omega)
  -- at a place's copy
  have wm : ∀ z, K z → w' (m z) = tV G (tup w P f) z := by
    intro z hz
    obtain ⟨h1, h2⟩ := (hK z hz).1
    rcases h z hz with ⟨q, q'⟩ | ⟨⟨r0, r1, r2⟩, _⟩
    · rw [q', wo z h1, tup_c hw hq s1 h1 (by rw [h2]; exact q)]
    · rw [wn _ r0, bkm z hz r0 r1]
  have so : tSol adm G n w' := tSol_ag wo hw s1
  have newr : ∀ y, n ≤ y → y < n' → G'.1 y = y := by
    intro y h1 h2
    obtain ⟨r1, r2⟩ := hbk y h1 h2
    rcases h _ r1 with ⟨_, q⟩ | ⟨q, _⟩
    · have := (hK _ r1).1.1; omega
    · rw [r2] at q; exact q.2.2
  refine ⟨w', wo, ⟨fun z hz => ?_, fun z hz hr => ?_⟩, ?_, fun y h1 h2 => ⟨bk y, (hK _ (hbk y h1 h2).1).1.1, wn y h1⟩⟩
  · by_cases q : z < n
    · rw [(he.2 z q).1]; exact so.1 z q
    · rw [newr z (by omega) hz]
  · by_cases q : z < n
    · rw [(he.2 z q).1] at hr
      rw [(he.2 z q).2]; exact so.2 z q hr
    · obtain ⟨r1, r2⟩ := hbk z (by omega) hz
      obtain ⟨h1, h2⟩ := (hK _ r1).1
      have sz := sW.2 _ h1 h2
      have ev : w' z = tV G (tup w P f) (bk z) := wn z (by omega)
      rcases h _ r1 with ⟨_, q'⟩ | ⟨_, ⟨hp, q'⟩ | ⟨e1, e2, lab1, k1, k2, q1', q', q3', q4, q5⟩⟩
      · omega
      · obtain ⟨_, e, hg⟩ := hq.2.1 _ hp
        rw [r2, hg] at q'
        rw [hg] at sz
        rw [q']
        unfold tsat at sz ⊢
        rw [ev]; exact sz
      · rw [r2] at q'
        rw [q1'] at sz
        rw [q']
        have kw := hw.2 _ h1 h2 _ _ _ _ q1'
        refine ⟨fun z => by rw [ev]; exact sz.1 (by rw [q3', Bool.and_eq_true] at z; exact z.2), by rw [ev]; exact sz.2.1, fun l d' md' => ?_, fun _ l p hn => ?_⟩
        · obtain ⟨d, md⟩ := map_mem q4 md'
          obtain ⟨p1, p2⟩ := q5 l d d' md md'
          have hdl := kw.2 l d md
          rw [ev, sz.2.2.1 l d md, sW.1 d hdl, ← wm _ ((hK _ r1).2 l d (by rw [q1']; exact md)), ← p2]
          by_cases dn : d' < n
          · rw [(he.2 d' dn).1]; exact (so.1 d' dn).symm
          · rw [newr d' (by omega) p1]
        · rw [ev]
          refine sz.2.2.2 rfl l p (fun d md => ?_)
          obtain ⟨d', md'⟩ := map_mem q4.symm md
          exact hn d' md'
  · have e1 : w' c = w' (G'.1 c) := by
      by_cases cn : c < n
      · rw [(he.2 c cn).1]; exact so.1 c cn
      · rw [newr c (by omega) hc1]
    rw [e1, hc, wm _ kb]
    exact (funext fun p => tW_root (hw.1 b hb).2 p).symm
theorem TR_copy (hw : tWF G n) (hd : tDn G n) (hR : TRep S nv ρ G n) (hq : tGQ G n P Q) (hI : TSc G n P ρ nv b I) (h : tCopy kq G n P Q b G' n' c) : TRep (sinst S nv I) (nv + 1) (rupd ρ nv c) G' n' ∧ TSt G' n' (rupd ρ nv c) (nv + 1) c (fun v => v nv) := by
  have hw' := tCopy_wf hw h
  have hh := h
  obtain ⟨he, K, m, hK, kb, ⟨hc1, hc⟩, inj, sur, h⟩ := h
  have rk : ∀ k, k < nv → rupd ρ nv c k = ρ k := fun k hk => if_neg (by omega)
  have rn : rupd ρ nv c nv = c := if_pos rfl
  refine ⟨⟨fun k hk => ?_, fun adm v v' hv q => ⟨hR.2.1 adm v v' (fun k hk => hv k (by omega)) q.1, ?_⟩, fun adm w hs => ⟨?_, ?_⟩, fun adm v q => ?_⟩, hc1, fun w _ => by show w c = w (rupd ρ nv c nv); rw [rn], fun v v' hv => hv nv (by omega)⟩
  · by_cases q : k = nv
    · rw [q, rn]; exact hc1
    · rw [rk k (by omega)]; have := hR.1 k (by omega); have := he.1; omega
  · rw [← hv nv (by omega)]
    exact (hI.2.2 v v' (fun k hk => hv k (by omega)) adm _).mp q.2
  · refine hR.2.1 adm _ _ (fun k hk => ?_) (hR.2.2.1 adm w (tExt_sol hw he hs))
    show w (ρ k) = w (rupd ρ nv c k)
    rw [rk k hk]
  · -- every valuation of the copy is one of the scheme's
    have s0 := tExt_sol hw he hs
    have e0 : I adm (fun k => w (rupd ρ nv c k)) (w (rupd ρ nv c nv)) ↔ I adm (fun k => w (ρ k)) (w c) := by
      rw [rn]
      exact hI.2.2 _ _ (fun k hk => by show w (rupd ρ nv c k) = w (ρ k); rw [rk k hk]) adm _
    rw [e0, hI.2.1 adm w s0]
    refine ⟨tup w K (fun z => w (m z)), fun z hz => ?_, ?_⟩
    · obtain ⟨q1, e, hg⟩ := hq.2.1 z hz
      by_cases k : K z
      · rw [tup_p k]
        rcases h z k with ⟨q, _⟩ | ⟨⟨_, r1, r2⟩, ⟨_, q⟩ | ⟨e1, e2, lab1, k1, k2, q, _⟩⟩
        · exact absurd q1 q
        · have := tSol_u hs _ r1 r2
          rw [q, hg] at this
          rw [hg]
          exact ⟨this.1, this.2.2⟩
        · rw [hg] at q; cases q
      · rw [tup_n k]
        obtain ⟨z1, z2⟩ := hq.1 z q1
        have := tSol_u s0 z z1 z2
        rw [hg] at this ⊢
        exact ⟨this.1, this.2.2⟩
    · have key : ∀ p z, K z → tW G (tup w P (tup w K (fun z => w (m z)))) p z = w (m z) p := by
        intro p
        induction p with
        | nil =>
          intro z hz
          obtain ⟨h1, h2⟩ := (hK z hz).1
          rcases h z hz with ⟨q, q'⟩ | ⟨⟨_, r1, r2⟩, ⟨q, q'⟩ | ⟨e1, e2, lab1, k1, k2, q, q', _⟩⟩
          · rw [q']; exact congrFun (tup_c hw hq s0 h1 (by rw [h2]; exact q)) []
          · obtain ⟨_, e, hg⟩ := hq.2.1 z q
            rw [tW_u h2 hg, tup_p q, tup_p hz]
          · rw [tW_l h2 q]
            have := (hs.2 _ r1 r2).2
            rw [q'] at this
            exact this.1.symm
        | cons a p ih =>
          intro z hz
          obtain ⟨h1, h2⟩ := (hK z hz).1
          rcases h z hz with ⟨q, q'⟩ | ⟨⟨_, r1, r2⟩, ⟨q, q'⟩ | ⟨e1, e2, lab1, k1, k2, q, q', _, q4, q5⟩⟩
          · rw [q']; exact congrFun (tup_c hw hq s0 h1 (by rw [h2]; exact q)) (a :: p)
          · obtain ⟨_, e, hg⟩ := hq.2.1 z q
            rw [tW_u h2 hg, tup_p q, tup_p hz]
          · have sm := (hs.2 _ r1 r2).2
            rw [q'] at sm
            have kw := hw.2 z h1 h2 _ _ _ _ q
            by_cases ha : ∃ d, (a, d) ∈ k1
            · obtain ⟨d, md⟩ := ha
              obtain ⟨d', md'⟩ := map_mem q4.symm md
              have hdl := kw.2 a d md
              rw [tW_k h2 q kw.1 md, tW_root (hw.1 d hdl).2, ih _ ((hK z hz).2 a d (by rw [q]; exact md))]
              obtain ⟨p1, p2⟩ := q5 a d d' md md'
              rw [← p2, ← hs.1 d' p1, ← sm.2.1 a d' md']
              rfl
            · have na : ∀ d, (a, d) ∉ k1 := fun d md => ha ⟨d, md⟩
              rw [tW_n h2 q na]
              refine (sm.2.2 rfl a p (fun d' md' => ?_)).symm
              obtain ⟨d, md⟩ := map_mem q4 md'
              exact na d md
      rw [hs.1 c hc1, hc]
      refine funext fun p => ?_
      show _ = tW G _ p b
      rw [tW_root (hw.1 b hI.1).2]
      exact (key p _ kb).symm
  · -- every one of the scheme's is one of the copy
    obtain ⟨q1, q2⟩ := q
    obtain ⟨w, s1, s2⟩ := hR.2.2.2 adm v q1
    have q3 := (hI.2.2 _ v s2 adm _).mpr q2
    obtain ⟨f, f1, f2⟩ := (hI.2.1 adm w s1 _).mp q3
    obtain ⟨w', r1, r2, r3, _⟩ := tCopy_ext hw hd hq hI.1 hh s1 f1
    refine ⟨w', r2, fun k hk => ?_⟩
    show w' (rupd ρ nv c k) = v k
    by_cases q : k = nv
    · rw [q, rn, f2]; exact r3
    · rw [rk k (by omega), r1 _ (hR.1 k (by omega))]
      exact s2 k (by omega)
theorem tCopy_TGI (hG : TGI adm G n) (hd : tDn G n) (hq : tGQ G n P Q) (hb : b < n) (h : tCopy kq G n P Q b G' n' c) : TGI adm G' n' := by
  have hw' := tCopy_wf hG.1 h
  have hh := h
  obtain ⟨g1, ⟨w, f1, f2⟩, g3, g4, g5⟩ := hG
  obtain ⟨he, K, m, hK, kb, ⟨hc1, hc⟩, inj, sur, h⟩ := h
  refine ⟨hw', ?_, fun z hz hr lab loose kids hg => ?_, fun z hz hr k hg => ?_, g5⟩
  · have : tup w P w = w := by
      funext z
      by_cases hp : P z
      · exact tup_p hp
      · exact tup_n hp
    have ok : tokP tT G P w := by
      intro z hp
      obtain ⟨h1, e, hg⟩ := hq.2.1 z hp
      obtain ⟨h2, h3⟩ := hq.1 z h1
      have := tSol_u f1 z h2 h3
      rw [hg] at this ⊢
      exact ⟨this.1, this.2.2⟩
    obtain ⟨w', r1, r2, _, r4⟩ := tCopy_ext (kq := kq) g1 hd hq hb hh f1 ok
    refine ⟨w', r2, fun z hz => ?_⟩
    by_cases q : z < n
    · rw [r1 z q]; exact f2 z q
    · obtain ⟨z0, z1, z2⟩ := r4 z (by omega) hz
      rw [z2, this, show tV G w z0 = w z0 from funext fun p => tV_only g1 f1 p z0 z1]
      exact f2 z0 z1
  · by_cases q : z < n
    · rw [(he.2 z q).1] at hr
      rw [(he.2 z q).2] at hg
      obtain ⟨c1, c2⟩ := g3 z q hr lab loose kids hg
      refine ⟨c1, fun hl l c m => ?_⟩
      have hk := (g1.2 z q hr _ _ _ _ hg).2 l c m
      rw [(he.2 c hk).1, (he.2 _ (g1.1 c hk).1).2]
      exact c2 hl l c m
    · obtain ⟨z0, z1, z2⟩ := sur z (by omega) hz
      obtain ⟨h1, h2⟩ := (hK z0 z1).1
      rcases h z0 z1 with ⟨_, q'⟩ | ⟨_, ⟨hp, q'⟩ | ⟨e1, e2, lab1, k1, k2, q1', q', q3', q4, q5⟩⟩
      · omega
      · obtain ⟨_, e, hg'⟩ := hq.2.1 _ hp
        rw [z2, hg, hg'] at q'; cases q'
      · rw [z2, hg] at q'
        cases q'
        have q3' := q3'.symm
        rw [Bool.and_eq_true] at q3'
        obtain ⟨kt, et⟩ := q3'
        subst et
        obtain ⟨c1, c2⟩ := g3 z0 h1 h2 _ _ _ q1'
        refine ⟨c1, fun hl l d' m' => ?_⟩
        obtain ⟨d, md⟩ := map_mem q4 m'
        obtain ⟨p1, p2⟩ := q5 l d d' md m'
        have hdk := c2 hl l d md
        rw [p2]
        have kd := (hK z0 z1).2 l d (by rw [q1']; exact md)
        rcases h _ kd with ⟨_, w1⟩ | ⟨_, ⟨_, w1⟩ | ⟨e3, e4, lab3, k3, k4, w1, w2, w3, _⟩⟩
        · rw [w1, (he.2 _ (hK _ kd).1.1).2]; exact hdk
        · rw [w1]; exact hdk
        · rw [w2]
          rw [w1] at hdk
          show e4 = true
          rw [w3, kt]; exact hdk
  · by_cases q : z < n
    · rw [(he.2 z q).1] at hr
      rw [(he.2 z q).2] at hg
      exact g4 z q hr k hg
    · obtain ⟨z0, z1, z2⟩ := sur z (by omega) hz
      obtain ⟨h1, h2⟩ := (hK z0 z1).1
      rcases h z0 z1 with ⟨_, q'⟩ | ⟨_, ⟨hp, q'⟩ | ⟨e1, e2, lab1, k1, k2, q1', q', q3', q4, q5⟩⟩
      · omega
      · obtain ⟨_, e, hg'⟩ := hq.2.1 _ hp
        rw [z2, hg, hg'] at q'; cases q'
      · rw [z2, hg] at q'; cases q'
end TCopy
