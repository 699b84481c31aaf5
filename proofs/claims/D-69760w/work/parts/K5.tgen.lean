/-! GENERAL VARIABLES: what is clean of them -/
/-- the variables of V become general -/
def gnT (τ : Tb) (V : List Nat) : Tb := (fun z => if z ∈ V ∧ uN τ z < 0 then -2 else uN τ z, τ.2.1, τ.2.2)
section
variable {M : Nat} {τ : Tb} {rt dp : Nat → Nat} {V V' : List Nat} {K : Nat → Prop}
theorem gn_uP : uP (gnT τ V) = uP τ := rfl
theorem gn_uS : uS (gnT τ V) = uS τ := rfl
theorem gn_uN (z : Nat) : uN (gnT τ V) z = if z ∈ V ∧ uN τ z < 0 then -2 else uN τ z := rfl
theorem gn_nil : gnT τ [] = τ := by
  show ((fun z => if z ∈ ([] : List Nat) ∧ uN τ z < 0 then (-2 : Int) else uN τ z), τ.2.1, τ.2.2) = τ
  have : (fun z => if z ∈ ([] : List Nat) ∧ uN τ z < 0 then (-2 : Int) else uN τ z) = τ.1 := by
    funext z
    rw [if_neg (fun q => by cases q.1)]
    rfl
  rw [this]
theorem gn_pos {z : Nat} : 0 ≤ uN (gnT τ V) z ↔ 0 ≤ uN τ z := by
  rw [gn_uN]
  split
  · next h => exact ⟨fun q => absurd q (by decide), fun q => absurd h.2 (by omega)⟩
  · exact Iff.rfl
theorem gn_eq {z : Nat} (h : 0 ≤ uN τ z) : uN (gnT τ V) z = uN τ z := by
  rw [gn_uN, if_neg (fun q => by omega)]
theorem gn_kc : KC M (gnT τ V) K ↔ KC M τ K := by
  unfold KC
  constructor
  · intro k z hz
    obtain ⟨h1, h2, h3⟩ := k z hz
    exact ⟨h1, h2, fun hn => h3 (gn_pos.mpr hn)⟩
  · intro k z hz
    obtain ⟨h1, h2, h3⟩ := k z hz
    exact ⟨h1, h2, fun hn => h3 (gn_pos.mp hn)⟩
theorem gn_pc {z : Nat} : pc (gnT τ V) z = pc τ z := by
  unfold pc
  by_cases c : 0 ≤ uN τ z
  · rw [if_pos c, if_pos (gn_pos.mpr c)]
    rfl
  · rw [if_neg c, if_neg (fun q => c (gn_pos.mp q))]
theorem gn_rts : RTs M (gnT τ V) rt dp ↔ RTs M τ rt dp := Iff.rfl
theorem gn_sl {ρ : Nat → Tr} : Sl M (gnT τ V) ρ ↔ Sl M τ ρ := by
  unfold Sl
  constructor
  · intro k z hz
    refine ⟨(k z hz).1, fun hn => ?_⟩
    have := (k z hz).2 (gn_pos.mpr hn)
    rw [gn_eq hn] at this
    exact this
  · intro k z hz
    refine ⟨(k z hz).1, fun hn => ?_⟩
    have hn' := gn_pos.mp hn
    rw [gn_eq hn']
    exact (k z hz).2 hn'
theorem gn_sf (h : SF M τ rt dp) : SF M (gnT τ V) rt dp := by
  obtain ⟨r, nc, cp, km, hk⟩ := h
  refine ⟨r, fun z hz hn => ?_, fun f hf z hz hn => cp f hf z hz (gn_pos.mp hn), km, fun x hx => ⟨(hk x hx).1, fun hn => (hk x hx).2 (gn_pos.mp hn)⟩⟩
  have hn' := gn_pos.mp hn
  have e := nc z hz hn'
  rw [gn_eq hn', gn_eq (by rw [e]; exact hn'), e]
theorem gn_cons {x : Nat} (h : 0 ≤ uN τ x) : gnT τ (x :: V) = gnT τ V := by
  show ((fun z => if z ∈ x :: V ∧ uN τ z < 0 then (-2 : Int) else uN τ z), τ.2.1, τ.2.2) = ((fun z => if z ∈ V ∧ uN τ z < 0 then (-2 : Int) else uN τ z), τ.2.1, τ.2.2)
  congr 1
  funext z
  by_cases c : z ∈ V ∧ uN τ z < 0
  · rw [if_pos c, if_pos ⟨List.mem_cons_of_mem _ c.1, c.2⟩]
  · rw [if_neg c, if_neg]
    rintro ⟨q1, q2⟩
    rcases List.mem_cons.mp q1 with q | q
    · rw [q] at q2; omega
    · exact c ⟨q, q2⟩
/-- nodes whose roots lie in a set that is closed -/
def Cls (M : Nat) (rt : Nat → Nat) (S : Nat → Prop) : Nat → Prop := fun w => w < M ∧ S (rt w)
theorem Cls.kc (s : SF M τ rt dp) (kc : KC M τ (· < M)) {S : Nat → Prop} (hS : ∀ z, z < M → S z → ∀ p, p ∈ pc τ z → S (rt p)) : KC M τ (Cls M rt S) := by
  obtain ⟨r, nc, cp, -⟩ := s
  rintro w ⟨hw, hs⟩
  refine ⟨hw, fun y hy => ?_, fun hn p hp => ⟨(kc w hw).2.2 hn p hp, ?_⟩⟩
  · obtain ⟨c1, c2, -⟩ := (r w hw).2.1 y hy
    exact ⟨c1, by rw [← c2]; exact hs⟩
  · have h1 : rt p ∈ (uP τ w).map rt := List.mem_map.mpr ⟨p, hp, rfl⟩
    rw [cp rt r.rsp w hw hn] at h1
    obtain ⟨q, hq, e⟩ := List.mem_map.mp h1
    rw [← e]
    refine hS _ (r w hw).1 hs q ?_
    unfold pc
    rw [if_pos (by rw [nc w hw hn]; exact hn)]
    exact hq
theorem cln.part {x p : Nat} (h : cln M τ x) (hp : p ∈ pc τ x) : cln M τ p := by
  obtain ⟨K, k1, k2, k3⟩ := h
  unfold pc at hp
  by_cases c : 0 ≤ uN τ x
  · rw [if_pos c] at hp
    exact ⟨K, k1, (k1 x k2).2.2 c p hp, k3⟩
  · rw [if_neg c] at hp
    cases hp
theorem cln.lt {x : Nat} (h : cln M τ x) : x < M := by
  obtain ⟨K, k1, k2, -⟩ := h
  exact (k1 x k2).1
theorem cln.rtt {x : Nat} (h : cln M τ x) (r : RTs M τ rt dp) : cln M τ (rt x) := by
  have hx := h.lt
  obtain ⟨K, k1, k2, k3⟩ := h
  exact ⟨K, k1, k1.rtt r _ x (Nat.lt_succ_self _) hx k2, k3⟩
theorem cln_rt (s : SF M τ rt dp) (kc : KC M τ (· < M)) (gr : ∀ x, x < M → uN τ x = -2 → uS τ x = none) {x : Nat} (hx : x < M) : cln M τ (rt x) ↔ cln M τ x := by
  have r := s.1
  refine ⟨fun h => ⟨Cls M rt (cln M τ), Cls.kc s kc fun z hz h p hp => (h.part hp).rtt r, ⟨hx, h⟩, ?_⟩, fun h => h.rtt r⟩
  rintro w ⟨hw, c⟩ e
  have := gr w hw e
  rw [(r w hw).2.2 this] at c
  obtain ⟨K, k1, k2, k3⟩ := c
  exact k3 w k2 e
/-- a node is clean if its parts are -/
theorem cln_mk (s : SF M τ rt dp) (kc : KC M τ (· < M)) (gr : ∀ x, x < M → uN τ x = -2 → uS τ x = none) {x : Nat} (hx : x < M) (nx : uS τ x = none) (hn : uN τ x ≠ -2) (h : ∀ p, p ∈ pc τ x → cln M τ (rt p)) : cln M τ x := by
  have r := s.1
  refine ⟨Cls M rt (fun z => z = x ∨ cln M τ z), Cls.kc s kc fun z hz h1 p hp => ?_, ⟨hx, Or.inl ((r x hx).2.2 nx)⟩, ?_⟩
  · rcases h1 with h1 | h1
    · rw [h1] at hp; exact Or.inr (h p hp)
    · exact Or.inr ((h1.part hp).rtt r)
  · rintro w ⟨hw, c⟩ e
    have := gr w hw e
    rw [(r w hw).2.2 this] at c
    rcases c with c | c
    · rw [c] at e; exact hn e
    · obtain ⟨K, k1, k2, k3⟩ := c
      exact k3 w k2 e
/-- what lies in V and E has no variables of others -/
theorem cln_V (s : SF M τ rt dp) (kc : KC M τ (· < M)) {E : Nat → Prop} (hE : ∀ z, z < M → E z → ∀ p, p ∈ pc τ z → E (rt p)) (hV : ∀ z, z ∈ V → ∀ p, p ∈ pc τ z → rt p ∈ V ∨ E (rt p)) (hV' : ∀ z, z ∈ V' → uS τ z = none ∧ z < M ∧ ¬ E z) (hs : ∀ z, z ∈ V → z ∈ V') {x : Nat} (hx : x < M) (h : rt x ∈ V ∨ E (rt x)) : cln M (gnT τ V') x ↔ cln M (gnT τ V) x := by
  have r := s.1
  constructor
  · rintro ⟨K, k1, k2, k3⟩
    refine ⟨K, gn_kc.mpr (gn_kc.mp k1), k2, fun z hz e => k3 z hz ?_⟩
    rw [gn_uN] at e ⊢
    by_cases c : z ∈ V ∧ uN τ z < 0
    · rw [if_pos ⟨hs z c.1, c.2⟩]
    · rw [if_neg c] at e
      split
      · rfl
      · exact e
  · rintro ⟨K, k1, k2, k3⟩
    have k1' := gn_kc.mp k1
    have kC : KC M τ (Cls M rt (fun z => z ∈ V ∨ E z)) := Cls.kc s kc fun z hz h1 p hp => by
      rcases h1 with h1 | h1
      · exact hV z h1 p hp
      · exact Or.inr (hE z hz h1 p hp)
    refine ⟨fun z => K z ∧ Cls M rt (fun z => z ∈ V ∨ E z) z, gn_kc.mpr fun z hz => ⟨hz.2.1, fun y hy => ⟨(k1' z hz.1).2.1 y hy, (kC z hz.2).2.1 y hy⟩, fun hn p hp => ⟨(k1' z hz.1).2.2 hn p hp, (kC z hz.2).2.2 hn p hp⟩⟩, ⟨k2, hx, h⟩, ?_⟩
    rintro z ⟨h1, h2, h3⟩ e
    refine k3 z h1 ?_
    rw [gn_uN] at e ⊢
    by_cases c : z ∈ V' ∧ uN τ z < 0
    · obtain ⟨c1, c2, c3⟩ := hV' z c.1
      rw [(r z c2).2.2 c1] at h3
      rw [if_pos ⟨h3.resolve_right c3, c.2⟩]
    · rw [if_neg c] at e
      split
      · rfl
      · exact e
end
