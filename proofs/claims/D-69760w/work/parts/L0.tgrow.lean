/-! TABLES THAT GROW -/
/-- new nodes behind a table: nothing general in them, none a part of itself -/
def Gw (M : Nat) (τ : Tb) (M' : Nat) (τ' : Tb) : Prop := M ≤ M' ∧ (∀ x, x < M → uN τ' x = uN τ x ∧ uP τ' x = uP τ x ∧ uS τ' x = uS τ x) ∧ (∀ w, M ≤ w → w < M' → uS τ' w = none ∧ uN τ' w ≠ -2 ∧ ∀ p, p ∈ uP τ' w → p < M' ∧ (p < M → cln M τ p)) ∧ ∃ g : Nat → Nat, ∀ w, M ≤ w → w < M' → 0 ≤ uN τ' w → ∀ p, p ∈ uP τ' w → M ≤ p → g p < g w
section
variable {M M' M2 : Nat} {τ τ' τ2 : Tb} {rt dp : Nat → Nat} {ρ : Nat → Tr}
theorem Gw.rf : Gw M τ M τ := ⟨Nat.le_refl _, fun _ _ => ⟨rfl, rfl, rfl⟩, fun w h1 h2 => by omega, fun _ => 0, fun w h1 h2 => by omega⟩
theorem Gw.kc (g : Gw M τ M' τ') {K : Nat → Prop} (k : KC M τ K) : KC M' τ' K := by
  intro z hz
  obtain ⟨h1, h2, h3⟩ := k z hz
  obtain ⟨e1, e2, e3⟩ := g.2.1 z h1
  have := g.1
  exact ⟨by omega, by rw [e3]; exact h2, by rw [e1, e2]; exact h3⟩
theorem Gw.cl (g : Gw M τ M' τ') {x : Nat} (h : cln M τ x) : cln M' τ' x := by
  obtain ⟨K, k1, k2, k3⟩ := h
  exact ⟨K, g.kc k1, k2, fun z hz => by rw [(g.2.1 z (k1 z hz).1).1]; exact k3 z hz⟩
theorem Gw.cl' (g : Gw M τ M' τ') (kc : KC M τ (· < M)) {x : Nat} (hx : x < M) (h : cln M' τ' x) : cln M τ x := by
  obtain ⟨K, k1, k2, k3⟩ := h
  refine ⟨fun z => K z ∧ z < M, fun z hz => ?_, ⟨k2, hx⟩, fun z hz => by rw [← (g.2.1 z hz.2).1]; exact k3 z hz.1⟩
  obtain ⟨e1, e2, e3⟩ := g.2.1 z hz.2
  obtain ⟨h1, h2, h3⟩ := k1 z hz.1
  obtain ⟨c1, c2, c3⟩ := kc z hz.2
  rw [e3] at h2
  rw [e1, e2] at h3
  exact ⟨hz.2, fun y hy => ⟨h2 y hy, c2 y hy⟩, fun hn p hp => ⟨h3 hn p hp, c3 hn p hp⟩⟩
theorem Gw.new (g : Gw M τ M' τ') {w : Nat} (h1 : M ≤ w) (h2 : w < M') : cln M' τ' w := by
  refine ⟨fun z => (M ≤ z ∧ z < M') ∨ cln M τ z, fun z hz => ?_, Or.inl ⟨h1, h2⟩, fun z hz => ?_⟩
  · rcases hz with ⟨a1, a2⟩ | c
    · obtain ⟨b1, -, b3⟩ := g.2.2.1 z a1 a2
      refine ⟨a2, fun y hy => (by rw [b1] at hy; cases hy), fun _ p hp => ?_⟩
      obtain ⟨c1, c2⟩ := b3 p hp
      by_cases c : p < M
      · exact Or.inr (c2 c)
      · exact Or.inl ⟨by omega, c1⟩
    · have hz := c.lt
      obtain ⟨e1, e2, e3⟩ := g.2.1 z hz
      have := g.1
      obtain ⟨K, k1, k2, k3⟩ := c
      obtain ⟨c1, c2, c3⟩ := k1 z k2
      rw [e1, e2, e3]
      exact ⟨by omega, fun y hy => Or.inr ⟨K, k1, c2 y hy, k3⟩, fun hn p hp => Or.inr ⟨K, k1, c3 hn p hp, k3⟩⟩
  · rcases hz with ⟨a1, a2⟩ | c
    · exact (g.2.2.1 z a1 a2).2.1
    · have hz := c.lt
      obtain ⟨K, k1, k2, k3⟩ := c
      rw [(g.2.1 z hz).1]
      exact k3 z k2
theorem bnd (f : Nat → Nat) : ∀ M, ∃ K, ∀ x, x < M → f x ≤ K := by
  intro M
  induction M with
  | zero => exact ⟨0, fun x hx => by omega⟩
  | succ M ih =>
    obtain ⟨K, hK⟩ := ih
    refine ⟨K + f M, fun x hx => ?_⟩
    by_cases c : x = M
    · rw [c]; omega
    · have := hK x (by omega)
      omega
theorem Gw.kc2 (g : Gw M τ M' τ') (kc : KC M τ (· < M)) : KC M' τ' (· < M') := by
  intro z hz
  by_cases c : z < M
  · obtain ⟨e1, e2, e3⟩ := g.2.1 z c
    obtain ⟨c1, c2, c3⟩ := kc z c
    have := g.1
    rw [e1, e2, e3]
    exact ⟨hz, fun y hy => by have := c2 y hy; omega, fun hn p hp => by have := c3 hn p hp; omega⟩
  · obtain ⟨b1, -, b3⟩ := g.2.2.1 z (by omega) hz
    exact ⟨hz, fun y hy => (by rw [b1] at hy; cases hy), fun _ p hp => (b3 p hp).1⟩
theorem Gw.sf (g : Gw M τ M' τ') (s : SF M τ rt dp) (kc : KC M τ (· < M)) : SF M' τ' (rtC M rt) dp := by
  obtain ⟨km, k1, k2⟩ := s.kmx
  obtain ⟨r, nc, cp, km0, hk⟩ := s
  obtain ⟨g1, g2, g3, gg, g4⟩ := g
  have rC : ∀ z, z < M → rtC M rt z = rt z := fun z hz => by unfold rtC; rw [if_pos hz]
  have rN : ∀ z, ¬ z < M → rtC M rt z = z := fun z hz => by unfold rtC; rw [if_neg hz]
  refine ⟨fun z hz => ?_, fun z hz hn => ?_, fun f hf z hz hn => ?_, ?_⟩
  · by_cases c : z < M
    · obtain ⟨h1, h2, h3⟩ := r z c
      rw [rC z c, (g2 z c).2.2]
      refine ⟨by omega, fun y hy => ?_, h3⟩
      obtain ⟨c1, c2, c3⟩ := h2 y hy
      rw [rC y c1]
      exact ⟨by omega, c2, c3⟩
    · rw [rN z c, (g3 z (by omega) hz).1]
      exact ⟨hz, fun y hy => (by cases hy), fun _ => rfl⟩
  · by_cases c : z < M
    · rw [rC z c, (g2 _ (r z c).1).1, (g2 z c).1]
      rw [(g2 z c).1] at hn
      exact nc z c hn
    · rw [rN z c]
  · by_cases c : z < M
    · rw [rC z c, (g2 _ (r z c).1).2.1, (g2 z c).2.1]
      rw [(g2 z c).1] at hn
      refine cp f ⟨fun y hy => ?_, fun p hp => (by cases hp)⟩ z c hn
      have := hf.1 y (by omega)
      rw [rC y hy] at this
      exact this
    · rw [rN z c]
  · obtain ⟨K, hK⟩ := bnd km0 M
    refine ⟨fun z => if z < M then km0 z else K + 1 + gg z, fun z hz => ⟨fun y hy => ?_, fun hn p hp => ?_⟩⟩
    · dsimp only
      by_cases c : z < M
      · rw [(g2 z c).2.2] at hy
        have hyM := ((r z c).2.1 y hy).1
        rw [if_pos c, if_pos hyM]
        exact (hk z c).1 y hy
      · rw [(g3 z (by omega) hz).1] at hy
        cases hy
    · dsimp only
      by_cases c : z < M
      · rw [(g2 z c).1] at hn
        rw [(g2 z c).2.1] at hp
        have hpM := (kc z c).2.2 hn p hp
        rw [if_pos c, if_pos hpM]
        exact (hk z c).2 hn p hp
      · rw [if_neg c]
        by_cases c2 : p < M
        · rw [if_pos c2]
          have := hK p c2
          omega
        · rw [if_neg c2]
          have := g4 z (by omega) hz hn p hp (by omega)
          omega
theorem Gw.sl (g : Gw M τ M' τ') (kc : KC M τ (· < M)) : Sl M' τ' ρ ↔ Sl M τ ρ ∧ ∀ w, M ≤ w → w < M' → 0 ≤ uN τ' w → ρ w = gt (uN τ' w) ((uP τ' w).map ρ) := by
  obtain ⟨g1, g2, g3, -⟩ := g
  constructor
  · intro h
    refine ⟨fun z hz => ?_, fun w h1 h2 hn => (h w h2).2 hn⟩
    have := h z (by omega)
    obtain ⟨e1, e2, e3⟩ := g2 z hz
    rw [e1, e2, e3] at this
    exact this
  · rintro ⟨h1, h2⟩ z hz
    by_cases c : z < M
    · obtain ⟨e1, e2, e3⟩ := g2 z c
      rw [e1, e2, e3]
      exact h1 z c
    · refine ⟨fun y hy => ?_, h2 z (by omega) hz⟩
      rw [(g3 z (by omega) hz).1] at hy
      cases hy
theorem Gw.ext (g : Gw M τ M' τ') (s : SF M τ rt dp) (kc : KC M τ (· < M)) (h : Sl M τ ρ) (θ : Nat → Tr) : ∃ ρ', Sl M' τ' ρ' ∧ (∀ x, x < M → ρ' x = ρ x) ∧ ∀ w, M ≤ w → w < M' → uN τ' w < 0 → ρ' w = θ w := by
  obtain ⟨ρ', h1, h2⟩ := (g.sf s kc).sol (g.kc2 kc) (fun v => if v < M then ρ v else θ v)
  have hM := g.1
  refine ⟨ρ', h1, fun x hx => ?_, fun w h3 h4 hn => ?_⟩
  · refine s.uniq kc ((g.sl kc).mp h1).1 h (fun y hy hn => ?_) x hx
    have hr := (s.1 y hy).1
    have e : rtC M rt (rt y) = rt y := by unfold rtC; rw [if_pos hr]; exact s.1.id hy
    have := h2 (rt y) (by omega) (by rw [e, (g.2.1 _ hr).1]; exact hn)
    rw [e, if_pos hr] at this
    exact this
  · have e : rtC M rt w = w := by unfold rtC; rw [if_neg (by omega)]
    have := h2 w h4 (by rw [e]; exact hn)
    rw [e, if_neg (by omega)] at this
    exact this
theorem Gw.tr (a : Gw M τ M' τ') (kc : KC M τ (· < M)) (b : Gw M' τ' M2 τ2) : Gw M τ M2 τ2 := by
  obtain ⟨a1, a2, a3, ag, a4⟩ := id a
  obtain ⟨b1, b2, b3, bg, b4⟩ := b
  obtain ⟨K, hK⟩ := bnd ag M'
  refine ⟨by omega, fun x hx => ?_, fun w h1 h2 => ?_, fun z => if z < M' then ag z else K + 1 + bg z, fun w h1 h2 hn p hp hpM => ?_⟩
  · obtain ⟨c1, c2, c3⟩ := a2 x hx
    obtain ⟨d1, d2, d3⟩ := b2 x (by omega)
    exact ⟨d1.trans c1, d2.trans c2, d3.trans c3⟩
  · by_cases c : w < M'
    · obtain ⟨d1, d2, d3⟩ := b2 w c
      obtain ⟨e1, e2, e3⟩ := a3 w h1 c
      rw [d1, d2, d3]
      exact ⟨e1, e2, fun p hp => ⟨by have := (e3 p hp).1; omega, (e3 p hp).2⟩⟩
    · obtain ⟨e1, e2, e3⟩ := b3 w (by omega) h2
      exact ⟨e1, e2, fun p hp => ⟨(e3 p hp).1, fun hpM => a.cl' kc hpM ((e3 p hp).2 (by omega))⟩⟩
  · dsimp only
    by_cases c : w < M'
    · obtain ⟨d1, d2, d3⟩ := b2 w c
      rw [d1] at hn
      rw [d2] at hp
      have := ((a3 w h1 c).2.2 p hp).1
      rw [if_pos c, if_pos this]
      exact a4 w h1 c hn p hp hpM
    · rw [if_neg c]
      by_cases c2 : p < M'
      · rw [if_pos c2]
        have := hK p c2
        omega
      · rw [if_neg c2]
        have := b4 w (by omega) h2 hn p hp (by omega)
        omega
/-- copies are new nodes -/
theorem CpO.gw {V : List Nat} (co : CpO M τ rt V) (r : RTs M τ rt dp) (kc : KC M τ (· < M)) (hn : ∀ z, z ∈ V → uN τ z ≠ -1) : Gw M τ (M + V.length) (cpT M τ rt V) := by
  have hv : ∀ i, i < V.length → ∃ z, V[i]? = some z := fun i hi => ⟨_, List.getElem?_eq_getElem hi⟩
  have hpp : ∀ i z, V[i]? = some z → ∀ q, q ∈ uP (cpT M τ rt V) (M + i) → q < M + i ∧ (q < M → cln M τ q) := fun i z hz q hq => by
    rw [cp_P' hz] at hq
    obtain ⟨p, hp, rfl⟩ := List.mem_map.mp hq
    obtain ⟨c1, c2, -, c4⟩ := co.2 i z hz
    have hp0 : p < M := by
      unfold pc at hp
      by_cases c : 0 ≤ uN τ z
      · rw [if_pos c] at hp; exact (kc z c1).2.2 c p hp
      · rw [if_neg c] at hp; cases hp
    rcases c4 p hp with c | ⟨j, h1, h2⟩
    · have e : cpn M V (rt p) = rt p := by
        unfold cpn
        rw [if_neg (fun q => (co.mem q).2.2.1 c)]
      rw [e]
      have := (r p hp0).1
      exact ⟨by omega, fun _ => c⟩
    · have hm := List.mem_of_getElem? h2
      obtain ⟨d1, d2, d3⟩ := cpn_mem (M0 := M) hm
      have : V.idxOf (rt p) = j := by
        obtain ⟨hj, ej⟩ := List.getElem?_eq_some_iff.mp h2
        obtain ⟨hd, ed⟩ := List.getElem?_eq_some_iff.mp d3
        have pw := List.pairwise_iff_getElem.mp co.1
        refine Classical.byContradiction fun hne => ?_
        rcases Nat.lt_or_gt_of_ne hne with q | q
        · exact pw _ _ hd hj q (by rw [ed, ej])
        · exact pw _ _ hj hd q (by rw [ed, ej])
      rw [d1, this]
      exact ⟨by omega, fun q => by omega⟩
  refine ⟨by omega, fun x hx => ⟨cp_N hx, cp_P hx, by rw [cp_S, if_pos hx]⟩, fun w h1 h2 => ?_, fun w => w, fun w h1 h2 hn p hp hpM => ?_⟩
  · obtain ⟨i, rfl⟩ : ∃ i, w = M + i := ⟨w - M, by omega⟩
    obtain ⟨z, hz⟩ := hv i (by omega)
    refine ⟨by rw [cp_S, if_neg (by omega)], ?_, fun p hp => ?_⟩
    · rw [cp_N' hz]
      split
      · decide
      · next c => exact fun q => by omega
    · obtain ⟨q1, q2⟩ := hpp i z hz p hp
      exact ⟨by omega, q2⟩
  · obtain ⟨i, rfl⟩ : ∃ i, w = M + i := ⟨w - M, by omega⟩
    obtain ⟨z, hz⟩ := hv i (by omega)
    exact (hpp i z hz p hp).1
end
