set_option maxRecDepth 100000
/-! THE REFERENCE'S TYPES: instance -/
/-- what is general, as the state has it -/
def zGs (S : ZS) (G : TG) (n : Nat) (P Q : Nat → Prop) : Prop := tGQ G n P Q ∧ (∀ z, Q z → P z ∨ ∃ l c, (l, c) ∈ tkids (G.2 z) ∧ Q (G.1 c)) ∧ (∀ z : Nat, z < n → G.1 z = z → zyk S z = 0 → (P z ↔ zandI (zyf S z) 4 = 4)) ∧ ∀ z : Nat, z < n → G.1 z = z → zyk S z = 1 → zandI (zyf S z) 4 = 0
section ZInst4
variable {adm : Nat → Bool} {d : Nat} {S S1 S' S0 : ZS} {μ : Zmp} {G G' G'' : TG} {n n' m x y z a b t c N1 : Nat} {fl fl' : Nat → List Nat} {B B' : Nat → Zfl} {F L : List Nat} {N : TN} {i v w st N2 : Int} {R P Q Kp Bk Bk' : Nat → Prop} {cp : Nat → Nat} {K : List (Nat × List Nat)} {up : Option Nat}
theorem zGs_gen (h : ZG S μ G n fl B R) (hg : zGs S G n P Q) : zGen S G n B P Q := by
  obtain ⟨h1, h2, h3, h4⟩ := hg
  refine ⟨h1, h2, fun z hz hr hk => ?_, fun z hz hr hk => ?_⟩
  · rw [h3 z hz hr hk, h.2.2.2.1 z hz, zfb_4]
    cases (B z).2.2.1 <;> decide
  · have := h4 z hz hr hk
    rw [h.2.2.2.1 z hz, zfb_4] at this
    cases q : (B z).2.2.1 with
    | false => rfl
    | true => rw [q] at this; cases this
theorem isum_ext {f g : Nat → Int} (h : n ≤ n') (h1 : ∀ z, z < n → f z = g z) (h2 : ∀ z, n ≤ z → z < n' → f z = 0) : isum f n' = isum g n := by
  induction n' with
  | zero =>
    have : n = 0 := by omega
    rw [this]; rfl
  | succ k ih =>
    by_cases q : n = k + 1
    · rw [q]
      exact isum_eq (fun z hz => h1 z (by omega))
    · have e : isum f (k + 1) = isum f k + f k := rfl
      rw [e, ih (by omega) (fun z a b => h2 z a (by omega)), h2 k (by omega) (by omega)]
      omega
theorem zY_ext (he : tExt G n G' n') (hn : ∀ y, n ≤ y → y < n' → ∀ e lab kids, G'.2 y ≠ (e, .inr (lab, true, kids))) : zY v G' n' = zY v G n := by
  have o1 : ∀ z, z < n → tlo G' z = tlo G z := fun z hz => by unfold tlo; rw [(he.2 z hz).1, (he.2 z hz).2]
  have o2 : ∀ z, z < n → tln G' z = tln G z := fun z hz => by unfold tln; rw [(he.2 z hz).1, (he.2 z hz).2]
  have n1 : ∀ z, n ≤ z → z < n' → tlo G' z = 0 ∧ tln G' z = 0 := by
    intro z h1 h2
    have := hn z h1 h2
    unfold tlo tln
    rcases hg : G'.2 z with ⟨e, o | ⟨lab, loose, kids⟩⟩
    · exact ⟨rfl, rfl⟩
    · cases loose with
      | false => exact ⟨rfl, rfl⟩
      | true => exact absurd hg (this e lab kids)
  unfold zY tK1 tK2 tKN
  rw [isum_ext he.1 o1 (fun z a b => (n1 z a b).1), isum_ext (f := fun z => tlo G' z * tlo G' z) (g := fun z => tlo G z * tlo G z) he.1 (fun z hz => by show tlo G' z * tlo G' z = _; rw [o1 z hz]) (fun z a b => by show tlo G' z * tlo G' z = 0; rw [(n1 z a b).1]; rfl), isum_ext he.1 o2 (fun z a b => (n1 z a b).2)]
/-- a graph at rest is at rest with nothing waiting -/
theorem JE_rest (h : ZG S μ G n fl B R) (hG : TGI adm G n) (hA : ZAd S μ adm) (hd : ∀ z, z < n → G.1 z = z → (B z).2.2.2.2 = true → zyk S z ≠ 0 ∧ zyk S z ≠ 1 ∧ (G.2 z).1 = true) : JE adm S μ G n B [] := by
  intro z hz hr
  have cl : (G.2 z).1 = true → zcl adm G z := by
    intro e lab loose kids hg
    exact hG.2.2.1 z hz hr lab loose kids (Prod.ext e hg)
  refine ⟨fun e => Or.inr ⟨cl e, fun hk => ?_⟩, fun q => ?_⟩
  · obtain ⟨i, g, gi⟩ := ZG_1 h hz hr hk
    have : (mE μ (zyc S z) || (B z).1) = true := by rw [g] at e; exact e
    rw [this] at g
    have := hG.2.2.2.1 z hz hr i g
    rw [hA.2.2.2 i, gi] at this
    exact this
  · obtain ⟨q1, q2, q3⟩ := hd z hz hr q
    exact ⟨q1, q2, q3, cl q3⟩
/-- an instance is a copy -/
theorem zIv_copy (h : zIv P Q Kp S0 μ G n fl B R st x N1 N2 none S' G' n' fl' B' [] Bk cp) (hb : G.1 b = x) (hx : Bk x) : tCopy true G n P Q b G' n' (cp x) := by
  obtain ⟨⟨hG, hq, he, hfb, hnl⟩, _, _, ⟨hD, hi, hs⟩, _, _⟩ := h
  have hdx := (hD x hx).2
  refine ⟨he, Bk, cp, fun z hz => ⟨(hD z hz).2.1, (hD z hz).2.2.1⟩, by rw [hb]; exact hx, ⟨?_, ?_⟩, hi, hs, fun z hz => ?_⟩
  · rcases hdx.2.2 with ⟨_, q⟩ | ⟨_, q, _⟩
    · rw [q]; have := hdx.1.1; have := he.1; omega
    · exact q.2.1
  · rw [hb]
    rcases hdx.2.2 with ⟨_, q⟩ | ⟨_, q, _⟩
    · rw [q, (he.2 x hdx.1.1).1]; exact hdx.1.2
    · exact q.2.2
  · rcases (hD z hz).2.2.2 with q | ⟨_, q1, q2⟩
    · exact Or.inl q
    · exact Or.inr ⟨q1, q2⟩
/-- what making an instance gives -/
def ZIo (adm : Nat → Bool) (P Q Kp : Nat → Prop) (S : ZS) (μ : Zmp) (G : TG) (n : Nat) (R : Nat → Prop) (b : Nat) (v : Int) (S' : ZS) : Prop := ∃ c G' n', v = ((c : Nat) : Int) ∧ tCopy true G n P Q b G' n' c ∧ ZTG adm S' μ G' n' R ∧ ZDq S S' ∧ S'.1 68 = S.1 68 + 2 ∧ n' ≤ n + cnt Kp n ∧ S'.1 67 ≤ S.1 67 + zleft G n Kp (fun _ => False) ∧ tPhi G' n' + S.1 67 ≤ tPhi G n + S'.1 67 ∧ ∀ v, zY v G' n' = zY v G n
theorem z_instance (hT : ZTG adm S μ G n R) (hg : zGs S G n P Q) (hb : b < n) (hKp : tSet G n Kp) (hk : Kp (G.1 b)) (h68 : S.1 68 ≤ 1999999990) (hN1 : n + cnt Kp n ≤ 57000) (hN2 : S.1 67 + zleft G n Kp (fun _ => False) ≤ 106000) : zW (ZL (d + 3) 125 [.inl (b : Int)] S) (oI (ZIo adm P Q Kp S μ G n R b) (fun _ => False)) := by
  obtain ⟨⟨fl, B, h1, hJE⟩, hV, hA, ⟨m0, m1⟩, hri, hG⟩ := hT
  have hw := hG.1
  obtain ⟨x1, x2⟩ := hw.1 b hb
  have ag1 : zAg [68] [] S (zput S 68 (S.1 68 + 2)) := zAg_put (by decide) zAg_refl
  obtain ⟨S0, g1, g2, g3⟩ := z_find (d := d + 1) (ZG_ag h1 ag1 (by decide) (by decide)) hb
  have ag0 : zAg [68] [25] S S0 := zAg_trans (zAg_mono ag1 (by decide) (by decide)) (zAg_mono g2.1 (by decide) (by decide))
  have a : ∀ j, j ≠ 25 → S0.2.2.1 j = S.2.2.1 j := fun j hj => ag0.2.2.1 j (by simp [hj])
  have e68 : S0.1 68 = S.1 68 + 2 := g2.1.1 68 (by decide)
  have e67 : S0.1 67 = S.1 67 := ag0.1 67 (by decide)
  have c25 : ∀ z : Nat, zyk S z ≠ 4 → zyc S0 z = zyc S z := g2.2
  have q0 : ZDq S S0 := ZDq_trans (ZDq_ag ag1 (by decide) (by decide)) (ZDq_cq (ZCq_lk g2))
  have ek : zyk S0 = zyk S := a 23 (by decide)
  have ef : zyf S0 = zyf S := a 24 (by decide)
  have em : zymk S0 = zymk S := a 27 (by decide)
  have hgen : zGen S0 G n B P Q := zGs_gen g3 (by unfold zGs; rw [ek, ef]; exact hg)
  have iv : zIv P Q Kp S0 μ G n fl B R (S.1 68 + 2) (G.1 b) (n + cnt Kp n) (S.1 67 + zleft G n Kp (fun _ => False)) (some (G.1 b)) S0 G n fl B [] (fun _ => False) (fun z => z) := by
    refine ⟨⟨g3, ZDq_refl, ⟨Nat.le_refl _, fun _ _ => ⟨rfl, rfl⟩⟩, fun _ _ => ⟨rfl, rfl⟩, fun y h1 h2 => by omega, Int.le_refl _⟩, ⟨trivial, trivial⟩, ⟨e68, fun z hz => ⟨fun q => ?_, fun q => ?_⟩, fun z h1 h2 => ?_⟩, ⟨fun z hz => False.elim hz, fun z z' hz => False.elim hz, fun y h1 h2 => by omega⟩, ⟨fun z hz => ?_, ?_, by rw [e67]; exact Int.le_refl _⟩, Or.inr (Or.inr rfl)⟩
    · rw [em] at q
      have := m1 z (by omega) (by have := h1.2.1.2.1; omega)
      omega
    · rcases q with q | q
      · exact absurd q List.not_mem_nil
      · exact False.elim q
    · rw [em]
      have := m1 z h1 h2
      omega
    · rcases hz with q | q
      · exact absurd q List.not_mem_nil
      · exact False.elim q
    · have := cnt_le (n := n) (P := fun z => Kp z ∧ ¬ False) (Q := Kp) (fun z _ h => h.1)
      show n + cnt (fun z => Kp z ∧ ¬ False) n ≤ _
      omega
  have hn2 := h1.2.1.2.1
  refine zl_instance ?_
  unfold zb_instance
  refine zW_f (by omega) (zW_G (by omega) (zW_p ?_))
  have k : zW (ZL (d + 2) 129 [.inl (b : Int)] (zput S 68 (S.1 68 + 2))) (oI (zIo P Q Kp S0 μ G n fl B R (S.1 68 + 2) (G.1 b) (n + cnt Kp n) (S.1 67 + zleft G n Kp (fun _ => False))) (fun _ => False)) := by
    refine zl_instanceOf ?_
    unfold zb_instanceOf
    refine zW_Ie (zc_s.trans g1) (zW_let (zW_let (zW_a (by omega) ?_)))
    have hm : zymk S0 (G.1 b : Nat) ≠ S.1 68 + 2 := by
      rw [em]
      have := m1 (G.1 b : Nat) (by omega) (by omega)
      omega
    rw [e68]
    refine zW_f hm ?_
    have hent := z_enter (d := d) g3 hgen hKp hN1 x1 x2 hk iv hm (show tRel S0 G fl (G.1 b) (G.1 b) [] from rfl)
    refine zW_I (P := _) (T := fun _ => False) (by exact hent) (fun r S3 hr => zW_let ?_) (fun S5 q => False.elim q)
    obtain ⟨G3, m3, fl3, B3, K3, Bk3, cp3, rfl, r1, r2⟩ := hr
    exact z_inst_loop g3 hw hG.2.1 hgen hKp hN1 hN2 _ K3 S3 G3 m3 fl3 B3 Bk3 cp3 (Nat.le_refl _) r1
  refine zW_I (P := _) (T := fun _ => False) (by exact k) (fun r S' hr => zW_rI ?_) (fun S5 q => False.elim q)
  obtain ⟨G', n', fl', B', Bk, cp, rfl, hx, hI⟩ := hr
  have hcopy := zIv_copy (b := b) hI rfl hx
  have hdn : tDn G n := fun z hz hr lab loose kids hg hl l c m => (hG.2.2.1 z hz hr lab loose kids hg).2 hl l c m
  have hG' := tCopy_TGI hG hdn hg.1 hb hcopy
  obtain ⟨⟨iG, iq, ie, ifb, inl, iphi⟩, _, ⟨i68, imk, imb⟩, ⟨iD, _, isur⟩, ⟨_, iN1, iN2⟩, _⟩ := hI
  have hq := ZDq_trans q0 iq
  have zl0 : 0 ≤ zleft G n Kp Bk := isum_nn (fun z _ => by split <;> omega)
  have newN : ∀ y, n ≤ y → y < n' → ∀ e k, G'.2 y ≠ (e, .inl (k + 2)) := by
    intro y h1 h2 e k hgy
    obtain ⟨z, z1, z2⟩ := isur y h1 h2
    obtain ⟨_, ⟨w1, w2⟩, _, w⟩ := iD z z1
    rcases w with ⟨_, w⟩ | ⟨_, _, ⟨hp, w⟩ | ⟨e1, e2, lab1, k1, k2, q1, q2, _⟩⟩
    · omega
    · obtain ⟨_, e0, g0⟩ := hg.1.2.1 z hp
      rw [z2, hgy, g0] at w
      have := congrArg Prod.snd w
      have this : (Sum.inl (k + 2) : Nat ⊕ (Nat × Bool × List (Ky × Nat))) = Sum.inl 0 := this
      have := Sum.inl.inj this
      omega
    · rw [z2, hgy] at q2
      have := congrArg Prod.snd q2
      cases this
  have newR : ∀ y, n ≤ y → y < n' → G'.1 y = y := by
    intro y h1 h2
    obtain ⟨z, z1, z2⟩ := isur y h1 h2
    obtain ⟨_, ⟨w1, w2⟩, _, w⟩ := iD z z1
    rcases w with ⟨_, w⟩ | ⟨_, w, _⟩
    · omega
    · rw [← z2]; exact w.2.2
  have hA' : ZAd S' μ adm := ⟨⟨hA.1.1, fun c hc => by rw [hq.1.2.2.1 36 (by decide)]; exact hA.1.2 c hc⟩, hA.2⟩
  have old : ∀ z : Nat, z < n → zyk S' z = zyk S z ∧ (zyk S z ≠ 4 → zyc S' z = zyc S z) := fun z hz => by
    obtain ⟨p1, _, _, p4⟩ := hq.2.2.2 z (by rw [h1.1]; omega)
    exact ⟨p1, p4⟩
  refine ⟨cp (G.1 b), G', n', rfl, hcopy, ⟨⟨fl', B', iG, JE_rest iG hG' hA' (fun z hz hr hd => ?_)⟩, fun z hz hkz => ?_, hA', ⟨by omega, fun z w1 w2 => by rw [i68]; exact imb z w1 w2⟩, fun z z' kk hz hz' hr hr' w1 w2 => ?_, hG'⟩, hq, i68, by omega, by omega, by rw [← e67]; exact iphi, fun v => zY_ext ie (fun y w1 w2 => (inl y w1 w2).2)⟩
  · by_cases q : z < n
    · rw [(ie.2 z q).1] at hr
      rw [(ie.2 z q).2, (old z q).1]
      rw [(ifb z q).2] at hd
      obtain ⟨p1, p2, p3, _⟩ := (hJE z q hr).2 hd
      exact ⟨p1, p2, p3⟩
    · rw [(inl z (by omega) hz).1] at hd; cases hd
  · by_cases q : z < n
    · obtain ⟨p1, p2⟩ := old z q
      rw [p1] at hkz
      rw [p2 (by rw [hkz]; decide), hq.1.2.2.1 3 (by decide), hq.1.2.2.1 4 (by decide), hq.1.2.2.1 5 (by decide)]
      exact hV z q hkz
    · obtain ⟨i, g, _⟩ := ZG_1 iG hz (newR z (by omega) hz) hkz
      exact absurd g (newN z (by omega) hz _ i)
  · have zn : ∀ z, z < n' → (G'.2 z).2 = .inl (kk + 2) → z < n := fun z hz w => by
      refine Classical.byContradiction fun q => ?_
      exact newN z (by omega) hz (G'.2 z).1 kk (Prod.ext rfl w)
    have a1 := zn z hz w1
    have a2 := zn z' hz' w2
    rw [(ie.2 z a1).1] at hr
    rw [(ie.2 z' a2).1] at hr'
    rw [(ie.2 z a1).2] at w1
    rw [(ie.2 z' a2).2] at w2
    exact hri z z' kk a1 a2 hr hr' w1 w2
end ZInst4
