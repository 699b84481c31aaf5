/-! THE COMPONENT'S TYPES: an equation -/
def pS (f : Nat → List Nat) : Nat → Nat
  | 0 => 0
  | M + 1 => pS f M + (f M).length
/-- a table that is solved -/
def SF (M : Nat) (τ : Tb) (rt dp : Nat → Nat) : Prop := RTs M τ rt dp ∧ NC M τ rt ∧ CP M τ rt [] ∧ Fn M τ
/-- nothing general is a part of x -/
def cln (M : Nat) (τ : Tb) (x : Nat) : Prop := ∃ K : Nat → Prop, KC M τ K ∧ K x ∧ ∀ z, K z → uN τ z ≠ -2
/-- of what is known by -2 something general is a part; what is general isn't the same as anything -/
def FLs (G : Gh) (h : AH) (M : Nat) (τ : Tb) : Prop := (∀ x, x < M → uS τ x = none → aI h (gW G 1032) x = -2 → ¬ cln M τ x) ∧ ∀ x, x < M → uN τ x = -2 → uS τ x = none
/-- the first three nodes -/
def B3 (M : Nat) (τ : Tb) : Prop := 3 ≤ M ∧ (uN τ 0 = 7 ∧ uN τ 1 = 8 ∧ uN τ 2 = 9) ∧ uP τ 0 = [] ∧ uP τ 1 = [] ∧ uP τ 2 = []
/-- the table of types, solved; m: the latest mark -/
def TT (G : Gh) (h : AH) (M Pn : Nat) (τ : Tb) (m : Nat) : Prop := ∃ fs rt dp, TyS G h M Pn τ fs ∧ NmS G h M τ ∧ SF M τ rt dp ∧ MK G h M m ∧ pS (uP τ) M ≤ Pn ∧ FLs G h M τ ∧ B3 M τ
/-- the table behind an equation that holds -/
def EqT (M : Nat) (τ τ' : Tb) (a b : Nat) : Prop := (uN τ' = uN τ ∧ uP τ' = uP τ) ∧ (∀ ρ, Sl M τ' ρ ↔ Sl M τ ρ ∧ ρ a = ρ b) ∧ ∀ K : Nat → Prop, KC M τ K → K a → K b → KC M τ' K ∧ ∀ z, z < M → uS τ' z ≠ uS τ z → K z
def smQ (G : Gh) (h : AH) (M Pn : Nat) (τ : Tb) (m a b : Nat) : Outcome → AH → Prop := fun o h' => FTy G h h' ∧ ((o = .returned (some (.int 0)) ∧ ∀ ρ, Sl M τ ρ → ρ a ≠ ρ b) ∨ (o = .returned (some (.int 1)) ∧ ∃ τ', TT G h' M Pn τ' (m + 2) ∧ EqT M τ τ' a b ∧ (∀ z y, z < M → uS τ z = some y → uS τ' z = some y) ∧ ∀ z, z < M → uS τ' z = none → aI h' (gW G 1032) z = aI h (gW G 1032) z))
section
variable {M a b : Nat} {τ τ' : Tb}
theorem KC.or {K K' : Nat → Prop} (k : KC M τ K) (k' : KC M τ K') : KC M τ (fun z => K z ∨ K' z) := by
  rintro z (hz | hz)
  · obtain ⟨h1, h2, h3⟩ := k z hz
    exact ⟨h1, fun y hy => Or.inl (h2 y hy), fun hn p hp => Or.inl (h3 hn p hp)⟩
  · obtain ⟨h1, h2, h3⟩ := k' z hz
    exact ⟨h1, fun y hy => Or.inr (h2 y hy), fun hn p hp => Or.inr (h3 hn p hp)⟩
/-- an equation between clean nodes leaves all as clean as it was -/
theorem EqT.cl (e : EqT M τ τ' a b) (ha : cln M τ a) (hb : cln M τ b) (kept : ∀ z y, z < M → uS τ z = some y → uS τ' z = some y) {x : Nat} : cln M τ' x ↔ cln M τ x := by
  obtain ⟨⟨eN, eP⟩, -, hK⟩ := e
  constructor
  · rintro ⟨K, k1, k2, k3⟩
    refine ⟨K, fun z hz => ?_, k2, fun z hz => by rw [← eN]; exact k3 z hz⟩
    obtain ⟨h1, h2, h3⟩ := k1 z hz
    exact ⟨h1, fun y hy => h2 y (kept z y h1 hy), fun hn p hp => h3 (by rw [eN]; exact hn) p (by rw [eP]; exact hp)⟩
  · rintro ⟨K, k1, k2, k3⟩
    obtain ⟨A, a1, a2, a3⟩ := ha
    obtain ⟨B, b1, b2, b3⟩ := hb
    refine ⟨fun z => K z ∨ A z ∨ B z, (hK _ (k1.or (a1.or b1)) (Or.inr (Or.inl a2)) (Or.inr (Or.inr b2))).1, Or.inl k2, fun z hz => ?_⟩
    rw [eN]
    rcases hz with hz | hz | hz
    · exact k3 z hz
    · exact a3 z hz
    · exact b3 z hz
end
section
variable {G : Gh} {d M Pn m a b : Nat} {h : AH} {τ τ' : Tb} {fs rt dp : Nat → Nat}
theorem rpL_app : ∀ l1 l2 : List Nat, rpL τ (l1 ++ l2) = rpL τ l1 + rpL τ l2 := by
  intro l1
  induction l1 with
  | nil => intro l2; show rpL τ l2 = 0 + rpL τ l2; omega
  | cons z l ih =>
    intro l2
    show rpw τ z + rpL τ (l ++ l2) = rpw τ z + rpL τ l + rpL τ l2
    rw [ih]
    omega
theorem rp_pS : ∀ M, rp M τ ≤ pS (uP τ) M := by
  intro M
  induction M with
  | zero => exact Nat.le_refl _
  | succ M ih =>
    unfold rp at ih ⊢
    rw [List.range_succ, rpL_app]
    show rpL τ (List.range M) + (rpw τ M + 0) ≤ pS (uP τ) M + (uP τ M).length
    have : rpw τ M ≤ (uP τ M).length := by
      unfold rpw
      split <;> omega
    omega
theorem Jn_one {ρ : Nat → Tr} : Jn M τ [(a, b)] ρ ↔ Sl M τ ρ ∧ ρ a = ρ b := by
  refine ⟨fun h => ⟨h.1, h.2 (a, b) (List.mem_cons_self ..)⟩, fun h => ⟨h.1, fun p hp => ?_⟩⟩
  rcases List.mem_cons.mp hp with rfl | hp
  · exact h.2
  · cases hp
theorem Jn_nil {ρ : Nat → Tr} : Jn M τ [] ρ ↔ Sl M τ ρ := ⟨fun h => h.1, fun h => ⟨h, fun p hp => (by cases hp)⟩⟩
theorem RTs.id (r : RTs M τ rt dp) {z : Nat} (hz : z < M) : rt (rt z) = rt z := (r _ (r z hz).1).2.2 (r.none _ z (Nat.lt_succ_self _) hz)
theorem RTs.rsp (r : RTs M τ rt dp) : Rsp M rt rt [] := ⟨fun z hz => (r.id hz).symm, fun p hp => (by cases hp)⟩
theorem TyS.kc (k : TyS G h M Pn τ fs) : KC M τ (· < M) := fun z hz => ⟨hz, fun y hy => ((k.2.2.2.2.2 z hz).2.1 y hy).2, fun _ p hp => by
  obtain ⟨i, hi⟩ := List.getElem?_of_mem hp
  exact ((k.2.2.2.2.2 z hz).2.2.2.2.2 i p hi).2⟩
theorem c_jnd (hD : DW (gW G)) (k : TyS G h M Pn τ fs) (nm : NmS G h M τ) (s : SF M τ rt dp) (hp : pS (uP τ) M ≤ Pn) (hPn : Pn < 149000) (ha : a < M) (hb : b < M) : C G mX3_joined (d + 1) [.ref (gW G 2), .int (nI a), .int (nI b)] h (jQ G h M Pn τ fs a b) := by
  obtain ⟨r, nc, cp, -⟩ := s
  refine bX3_joined G d h _ _ _ (k.1.at (by decide)) ⟨(vp_in_nI (n := 0) (by decide) (by decide)), fun h2 e2 => ⟨(vp_in_nI (n := 1) (by decide) (by decide)), fun h5 e5 => ?_⟩⟩
  have e2' : h2 = sI h (gW G 1039) (2 * ([] : List (Nat × Nat)).length) (nI a) := e2
  have e5' : h5 = sI h2 (gW G 1039) (2 * ([] : List (Nat × Nat)).length + 1) (nI b) := e5
  obtain ⟨k2, T2⟩ := k.pl hD e2
  obtain ⟨k5, T5⟩ := k2.pl hD e5
  have pl : PL G h5 [(a, b)] := PL.push (L := []) (fun i p hp => (by cases hp)) e2' e5'
  have rl := rp_pS (τ := τ) M
  refine jn_18 hD hPn _ h5 τ rt dp [(a, b)] (Nat.lt_succ_self _) ⟨⟨k5, nm.mv (T2.tr T5) k.1 hD, pl, T2.tr T5⟩, ⟨r, nc, fun f q => cp f ⟨q.1, fun p hp => (by cases hp)⟩, fun K s1 s2 s3 => ⟨s1, fun p hp => ?_, fun z hz hn => absurd rfl hn⟩, fun f q => q.2 (a, b) (List.mem_cons_self ..)⟩, fun ρ => Iff.rfl, rfl, rfl, fun p hp => ?_, by show 1 + rp M τ ≤ 1 + Pn; omega, fun z hz _ => by rw [e5, aI_sI, if_neg (fun w => absurd (hD 1032 1039 (by decide) (by decide) w.1) (by decide)), e2, aI_sI, if_neg (fun w => absurd (hD 1032 1039 (by decide) (by decide) w.1) (by decide))]⟩
  · rcases List.mem_cons.mp hp with rfl | hp
    · exact ⟨s2, s3⟩
    · cases hp
  · rcases List.mem_cons.mp hp with rfl | hp
    · exact ⟨ha, hb⟩
    · cases hp
theorem c_same (hD : DW (gW G)) (k0 : TT G h M Pn τ m) (hPn : Pn < 149000) (hm : m + 2 < 2147483648) (ha : a < M) (hb : b < M) (ca : cln M τ a) (cb : cln M τ b) : C G mX3_same (d + 3) [.ref (gW G 2), .int (nI a), .int (nI b)] h (smQ G h M Pn τ m a b) := by
  obtain ⟨fs, rt, dp, k, nm, s, mk, hp, fl, b3⟩ := k0
  have s2 := k.1.at (i := 2) (by decide)
  refine bX3_same G (d + 2) h _ _ _ s2 (C.use (c_jnd (d := d + 1) hD k nm s hp hPn ha hb) (by decide) ?_)
  rintro o h1 ⟨T1, hq⟩ lm -
  rcases hq with ⟨rfl, hno⟩ | ⟨rfl, τ', rt', dp', ⟨⟨k1, nm1, -, -⟩, ⟨r1, nc1, cp1, tk, eq⟩, hJ, eN, eP, -, -, h32⟩⟩
  · exact KI.i ⟨fun _ => ⟨T1, Or.inl ⟨rfl, fun ρ h1 h2 => hno ρ (Jn_one.mpr ⟨h1, h2⟩)⟩⟩, fun z => absurd rfl z⟩
  refine KI.i ⟨fun z => absurd z (by decide), fun _ => C.ri (c_fd k1 r1 ha) ?_⟩
  have mk1 : MK G h1 M m := by
    have a1 := (lm.a hD (kw1033 s2) (by decide) (by decide) (by decide) (by decide) (by decide)).1
    refine ⟨by rw [lm.fi s2.1 (by decide) (by decide)]; exact mk.1, fun z hz => ?_⟩
    rw [a1]
    exact mk.2 z hz
  have hra := (r1 a ha).1
  have nra : uS τ' (rt' a) = none := r1.none _ a (Nat.lt_succ_self _) ha
  refine C.use (c_fin (d := d) hD k1 nm1 r1 mk1 hm hra nra) (by decide) ?_
  rintro o h2 ⟨⟨T2, mk2, k2⟩, hq⟩ lm2 -
  have a32 := (lm2.a hD (kw1032 (k1.1.at (by decide))) (by decide) (by decide) (by decide) (by decide) (by decide)).1
  have kept : ∀ z y, z < M → uS τ z = some y → uS τ' z = some y := fun z y hz e => by
    refine Classical.byContradiction fun hn => ?_
    have := ((tk (· < M) k.kc ha hb).2.2 z hz (by rw [e]; exact hn)).2
    rw [e] at this
    cases this
  have eS : ∀ ρ, Sl M τ' ρ ↔ Sl M τ ρ ∧ ρ a = ρ b := fun ρ => by rw [← Jn_one, ← hJ ρ, Jn_nil]
  rcases hq with ⟨rfl, hno⟩ | ⟨rfl, Cl, hin, nd, co⟩
  · refine KI.i ⟨fun _ => ⟨T1.tr T2, Or.inl ⟨rfl, fun ρ h1 h2 => hno ((eS ρ).mpr ⟨h1, h2⟩).fn⟩⟩, fun z => absurd rfl z⟩
  have hE : EqT M τ τ' a b := ⟨⟨eN, eP⟩, eS, fun K h1 h2 h3 => by
    obtain ⟨t1, -, t3⟩ := tk K h1 h2 h3
    exact ⟨t1, fun z hz hn => (t3 z hz hn).1⟩⟩
  refine KI.i ⟨fun z => absurd z (by decide), fun _ => ⟨T1.tr T2, Or.inr ⟨rfl, τ', ⟨fs, rt', dp', k2, nm1.mv T2 k1.1 hD, ⟨r1, nc1, cp1, ?_⟩, mk2, by rw [eP]; exact hp, ⟨fun x hx hn => ?_, fun x hx hn => ?_⟩, by unfold B3; rw [eN, eP]; exact b3⟩, hE, kept, fun z hz hn => by rw [a32]; exact h32 z hz hn⟩⟩⟩
  · obtain ⟨-, -, -, km, hkm⟩ := s
    have cmp : ∀ z, z < M → 0 ≤ uN τ' z → (uP τ' z).map rt' = (uP τ' (rt' z)).map rt' := fun z hz hn => cp1 rt' r1.rsp z hz hn
    have child : ∀ z p, z < M → rt' z ∈ Cl → 0 ≤ uN τ' z → p ∈ uP τ' z → rt' p ∈ Cl ∧ rkk Cl (rt' p) < rkk Cl (rt' z) := by
      intro z p hz hc hn hp
      have h1 : rt' p ∈ (uP τ' z).map rt' := List.mem_map.mpr ⟨p, hp, rfl⟩
      rw [cmp z hz hn] at h1
      obtain ⟨q, hq, e⟩ := List.mem_map.mp h1
      rw [← e]
      refine ClOK.rkl Cl nd co _ hc q ?_
      unfold pc
      rw [if_pos (by rw [nc1 z hz hn]; exact hn)]
      exact hq
    have kc : KC M τ (fun z => z < M ∧ rt' z ∈ Cl) := by
      rintro z ⟨hz, hc⟩
      refine ⟨hz, fun y hy => ?_, fun hn p hp => ?_⟩
      · obtain ⟨c1, c2, -⟩ := (r1 z hz).2.1 y (kept z y hz hy)
        exact ⟨c1, by rw [← c2]; exact hc⟩
      · refine ⟨(k.kc z hz).2.2 hn p hp, (child z p hz hc (by rw [eN]; exact hn) (by rw [eP]; exact hp)).1⟩
    obtain ⟨-, -, t3⟩ := tk _ kc ⟨ha, hin⟩ ⟨hb, by rw [← eq rt' r1.rsp]; exact hin⟩
    refine ⟨fun z => if rt' z ∈ Cl then rkk Cl (rt' z) else Cl.length + 1 + km z, fun z hz => ⟨fun y hy => ?_, fun hn p hp => ?_⟩⟩
    · dsimp only
      obtain ⟨c1, c2, -⟩ := (r1 z hz).2.1 y hy
      rw [← c2]
      by_cases c : rt' z ∈ Cl
      · rw [if_pos c, if_pos c]
      · rw [if_neg c, if_neg c]
        have : uS τ z = some y := by
          rw [← hy]
          exact Classical.byContradiction fun hne => c (t3 z hz fun q => hne q.symm).1.2
        rw [(hkm z hz).1 y this]
    · dsimp only
      by_cases c : rt' z ∈ Cl
      · obtain ⟨c1, c2⟩ := child z p hz c hn hp
        rw [if_pos c, if_pos c1]
        exact c2
      · rw [if_neg c]
        by_cases c' : rt' p ∈ Cl
        · rw [if_pos c']
          have := rkk_le Cl (rt' p)
          omega
        · rw [if_neg c']
          have := (hkm z hz).2 (by rw [← eN]; exact hn) p (by rw [← eP]; exact hp)
          omega
  · rw [a32, h32 x hx hn, hE.cl ca cb kept]
    refine fl.1 x hx ?_
    cases e : uS τ x with
    | none => rfl
    | some y => rw [kept x y hx e] at hn; cases hn
  · rw [eN] at hn
    refine Classical.byContradiction fun hne => ?_
    obtain ⟨A, a1, a2, a3⟩ := ca
    obtain ⟨B, b1, b2, b3⟩ := cb
    have h0 := fl.2 x hx hn
    rcases (hE.2.2 _ (a1.or b1) (Or.inl a2) (Or.inr b2)).2 x hx (by rw [h0]; exact hne) with q | q
    · exact a3 x q hn
    · exact b3 x q hn
end
