/-! THE COMPONENT'S TYPER: the form of its contracts -/
/-- nodes ts whose types, whatever the solution was, are those of S -/
def RsV (G : Gh) (h : AH) (M Pn : Nat) (τ : Tb) (m : Nat) (h' : AH) (M' Pn' : Nat) (τ' : Tb) (m' : Nat) (ts : List Nat) (b : Nat) (S : (Nat → Tr) → List Tr → Prop) : Prop := Ev G h M τ h' M' τ' ∧ TT G h' M' Pn' τ' m' ∧ (∀ t, t ∈ ts → cln M' τ' t) ∧ (M' ≤ M + 8 * b ∧ Pn' ≤ Pn + 8 * b ∧ m' ≤ m + 10 * b) ∧ (∀ ρ, Sl M' τ' ρ → S ρ (ts.map ρ)) ∧ ∀ ρ, Sl M τ ρ → ∀ u, S ρ u → ∃ ρ', Sl M' τ' ρ' ∧ (∀ x, x < M → ρ' x = ρ x) ∧ ts.map ρ' = u
section
variable {G : Gh} {M Pn m M1 Pn1 m1 M2 Pn2 m2 b b' b1 b2 a c : Nat} {h h1 h2 : AH} {τ τ1 τ2 : Tb} {ts ts' ts1 ts2 ps : List Nat} {S S' S1 S2 : (Nat → Tr) → List Tr → Prop} {n : Int}
theorem TT.kc (k : TT G h M Pn τ m) : KC M τ (· < M) := by
  obtain ⟨fs, rt, dp, k1, -⟩ := k
  exact k1.kc
theorem TT.sol (k : TT G h M Pn τ m) : ∃ ρ, Sl M τ ρ := by
  obtain ⟨fs, rt, dp, k1, -, sf, -⟩ := k
  obtain ⟨ρ, hρ, -⟩ := sf.sol k1.kc (fun _ => gt 9 [])
  exact ⟨ρ, hρ⟩
theorem RsV.rf (k : TT G h M Pn τ m) : RsV G h M Pn τ m h M Pn τ m [] 0 (fun _ u => u = []) := ⟨Ev.rf, k, fun t ht => (by cases ht), ⟨Nat.le_refl _, Nat.le_refl _, Nat.le_refl _⟩, fun _ _ => rfl, fun ρ hρ u hu => ⟨ρ, hρ, fun _ _ => rfl, hu.symm⟩⟩
theorem RsV.wk (k : RsV G h M Pn τ m h1 M1 Pn1 τ1 m1 ts b S) (hb : b ≤ b') : RsV G h M Pn τ m h1 M1 Pn1 τ1 m1 ts b' S := by
  obtain ⟨k1, k2, k3, ⟨k4, k5, k6⟩, k7⟩ := k
  exact ⟨k1, k2, k3, ⟨by omega, by omega, by omega⟩, k7⟩
/-- the same relation in other words -/
theorem RsV.imp (k : RsV G h M Pn τ m h1 M1 Pn1 τ1 m1 ts b S) (e : ∀ ρ, Sl M τ ρ → ∀ u, S ρ u ↔ S' ρ u) : RsV G h M Pn τ m h1 M1 Pn1 τ1 m1 ts b S' := by
  obtain ⟨k1, k2, k3, k4, k5, k6⟩ := k
  exact ⟨k1, k2, k3, k4, fun ρ hρ => (e ρ (k1.2.1 ρ hρ) _).mp (k5 ρ hρ), fun ρ hρ u hu => k6 ρ hρ u ((e ρ hρ u).mpr hu)⟩
/-- one behind another -/
theorem RsV.seq (k : RsV G h M Pn τ m h1 M1 Pn1 τ1 m1 ts1 b1 S1) (l : RsV G h1 M1 Pn1 τ1 m1 h2 M2 Pn2 τ2 m2 ts2 b2 S2) : RsV G h M Pn τ m h2 M2 Pn2 τ2 m2 (ts1 ++ ts2) (b1 + b2) (fun ρ u => ∃ u2 ρ1, Sl M1 τ1 ρ1 ∧ (∀ x, x < M → ρ1 x = ρ x) ∧ u = ts1.map ρ1 ++ u2 ∧ S2 ρ1 u2) := by
  obtain ⟨k1, k2, k3, ⟨k4, k5, k6⟩, k7, k8⟩ := k
  obtain ⟨l1, l2, l3, ⟨l4, l5, l6⟩, l7, l8⟩ := l
  refine ⟨k1.tr l1, l2, fun t ht => ?_, ⟨by omega, by omega, by omega⟩, fun ρ hρ => ?_, fun ρ hρ u hu => ?_⟩
  · rcases List.mem_append.mp ht with q | q
    · exact l1.2.2.1 t (k3 t q)
    · exact l3 t q
  · exact ⟨ts2.map ρ, ρ, l1.2.1 ρ hρ, fun _ _ => rfl, by rw [List.map_append], l7 ρ hρ⟩
  · obtain ⟨u2, ρ1, e1, e2, rfl, e4⟩ := hu
    obtain ⟨ρ2, f1, f2, f3⟩ := l8 ρ1 e1 u2 e4
    refine ⟨ρ2, f1, fun x hx => by rw [f2 x (Nat.lt_of_lt_of_le hx k1.1), e2 x hx], ?_⟩
    rw [List.map_append, f3]
    congr 1
    exact List.map_congr_left fun t ht => f2 t (k3 t ht).lt
/-- an equation -/
theorem RsV.eqn (k : RsV G h M Pn τ m h1 M1 Pn1 τ1 m1 ts b S) (k2 : TT G h2 M1 Pn1 τ2 (m1 + 2)) (ev : Ev G h1 M1 τ1 h2 M1 τ2) (hs : ∀ ρ, Sl M1 τ2 ρ ↔ Sl M1 τ1 ρ ∧ ρ a = ρ c) {E : List Tr → Prop} (hE : ∀ ρ, Sl M1 τ1 ρ → (ρ a = ρ c ↔ E (ts.map ρ))) : RsV G h M Pn τ m h2 M1 Pn1 τ2 (m1 + 2) ts (b + 1) (fun ρ u => S ρ u ∧ E u) := by
  obtain ⟨q1, q2, q3, ⟨q4, q5, q6⟩, q7, q8⟩ := k
  refine ⟨q1.tr ev, k2, fun t ht => ev.2.2.1 t (q3 t ht), ⟨by omega, by omega, by omega⟩, fun ρ hρ => ?_, fun ρ hρ u hu => ?_⟩
  · obtain ⟨e1, e2⟩ := (hs ρ).mp hρ
    exact ⟨q7 ρ e1, (hE ρ e1).mp e2⟩
  · obtain ⟨ρ', e1, e2, e3⟩ := q8 ρ hρ u hu.1
    exact ⟨ρ', (hs ρ').mpr ⟨e1, (hE ρ' e1).mpr (by rw [e3]; exact hu.2)⟩, e2, e3⟩
/-- whether an equation can hold -/
theorem RsV.can (k : RsV G h M Pn τ m h1 M1 Pn1 τ1 m1 ts b S) {E : List Tr → Prop} (hE : ∀ ρ, Sl M1 τ1 ρ → (ρ a = ρ c ↔ E (ts.map ρ))) : (∃ ρ, Sl M1 τ1 ρ ∧ ρ a = ρ c) ↔ ∃ ρ u, Sl M τ ρ ∧ S ρ u ∧ E u := by
  obtain ⟨q1, q2, q3, -, q7, q8⟩ := k
  constructor
  · rintro ⟨ρ, e1, e2⟩
    exact ⟨ρ, _, q1.2.1 ρ e1, q7 ρ e1, (hE ρ e1).mp e2⟩
  · rintro ⟨ρ, u, e1, e2, e3⟩
    obtain ⟨ρ', f1, f2, f3⟩ := q8 ρ e1 u e2
    exact ⟨ρ', f1, (hE ρ' f1).mpr (by rw [f3]; exact e3)⟩
/-- other nodes -/
theorem RsV.prj (k : RsV G h M Pn τ m h1 M1 Pn1 τ1 m1 ts b S) (pr : List Tr → List Tr) (hc : ∀ t, t ∈ ts' → cln M1 τ1 t) (hp : ∀ ρ, Sl M1 τ1 ρ → ts'.map ρ = pr (ts.map ρ)) : RsV G h M Pn τ m h1 M1 Pn1 τ1 m1 ts' b (fun ρ u => ∃ v, S ρ v ∧ pr v = u) := by
  obtain ⟨q1, q2, q3, q4, q7, q8⟩ := k
  refine ⟨q1, q2, hc, q4, fun ρ hρ => ⟨_, q7 ρ hρ, (hp ρ hρ).symm⟩, fun ρ hρ u hu => ?_⟩
  obtain ⟨v, e1, e2⟩ := hu
  obtain ⟨ρ', f1, f2, f3⟩ := q8 ρ hρ v e1
  exact ⟨ρ', f1, f2, by rw [hp ρ' f1, f3]; exact e2⟩
/-- a new node with a name -/
theorem RsV.nd (k0 : TT G h M Pn τ m) (g : TGr G h h1 M τ (M + 1) (Pn + ps.length) τ1 m) (hN : uN τ1 M = n) (hP : uP τ1 M = ps) (hn : 0 ≤ n) (hl : ps.length ≤ 6) : RsV G h M Pn τ m h1 (M + 1) (Pn + ps.length) τ1 m [M] 1 (fun ρ u => u = [gt n (ps.map ρ)]) := by
  have ev := TGr.ev k0 g
  have kc := k0.kc
  obtain ⟨-, k1, gw, -⟩ := g
  have hpM : ∀ p, p ∈ ps → p < M := fun p hp => by
    refine Classical.byContradiction fun c => ?_
    obtain ⟨q1, q2, q3, gg, q4⟩ := gw
    have hp' := (q3 M (Nat.le_refl _) (by omega)).2.2 p (by rw [hP]; exact hp)
    have e : p = M := by omega
    have := q4 M (Nat.le_refl _) (by omega) (by rw [hN]; exact hn) p (by rw [hP]; exact hp) (by omega)
    rw [e] at this
    omega
  have val : ∀ ρ, Sl (M + 1) τ1 ρ → ρ M = gt n (ps.map ρ) := fun ρ hρ => by
    have := (hρ M (by omega)).2 (by rw [hN]; exact hn)
    rw [hN, hP] at this
    exact this
  refine ⟨ev, k1, fun t ht => ?_, ⟨by omega, by omega, by omega⟩, fun ρ hρ => ?_, fun ρ hρ u hu => ?_⟩
  · rw [(List.mem_cons.mp ht).resolve_right fun w => by cases w]
    exact gw.new (Nat.le_refl _) (by omega)
  · show [ρ M] = _
    rw [val ρ hρ]
  · obtain ⟨fs, rt, dp, kk, -, sf, -⟩ := k0
    obtain ⟨ρ', f1, f2, -⟩ := gw.ext sf kc hρ (fun _ => gt 9 [])
    refine ⟨ρ', f1, f2, ?_⟩
    rw [hu]
    show [ρ' M] = _
    rw [val ρ' f1]
    congr 2
    exact List.map_congr_left fun p hp => f2 p (hpM p hp)
/-- a new variable -/
theorem RsV.var (k0 : TT G h M Pn τ m) (g : TGr G h h1 M τ (M + 1) (Pn + ps.length) τ1 m) (hN : uN τ1 M = -1) (hl : ps.length ≤ 6) : RsV G h M Pn τ m h1 (M + 1) (Pn + ps.length) τ1 m [M] 1 (fun _ u => ∃ v, u = [v]) := by
  have ev := TGr.ev k0 g
  have kc := k0.kc
  obtain ⟨-, k1, gw, -⟩ := g
  refine ⟨ev, k1, fun t ht => ?_, ⟨by omega, by omega, by omega⟩, fun ρ hρ => ⟨_, rfl⟩, fun ρ hρ u hu => ?_⟩
  · rw [(List.mem_cons.mp ht).resolve_right fun w => by cases w]
    exact gw.new (Nat.le_refl _) (by omega)
  · obtain ⟨v, rfl⟩ := hu
    obtain ⟨fs, rt, dp, kk, -, sf, -⟩ := k0
    obtain ⟨ρ', f1, f2, f3⟩ := gw.ext sf kc hρ (fun _ => v)
    exact ⟨ρ', f1, f2, by show [ρ' M] = _; rw [f3 M (Nat.le_refl _) (by omega) (by rw [hN]; decide)]⟩
/-- a heap that has the same table -/
theorem RsV.mv (k : RsV G h M Pn τ m h1 M1 Pn1 τ1 m1 ts b S) (k2 : TT G h2 M1 Pn1 τ1 m1) (ev : Ev G h1 M1 τ1 h2 M1 τ1) : RsV G h M Pn τ m h2 M1 Pn1 τ1 m1 ts b S := by
  obtain ⟨q1, q2, q3, q4, q7, q8⟩ := k
  exact ⟨q1.tr ev, k2, q3, q4, q7, q8⟩
/-- relations that don't look at the solution -/
theorem RsV.seq0 {P1 P2 : List Tr → Prop} (k : RsV G h M Pn τ m h1 M1 Pn1 τ1 m1 ts1 b1 (fun _ => P1)) (l : RsV G h1 M1 Pn1 τ1 m1 h2 M2 Pn2 τ2 m2 ts2 b2 (fun _ => P2)) : RsV G h M Pn τ m h2 M2 Pn2 τ2 m2 (ts1 ++ ts2) (b1 + b2) (fun _ u => ∃ u1 u2, u = u1 ++ u2 ∧ P1 u1 ∧ P2 u2) := by
  refine (k.seq l).imp fun ρ hρ u => ⟨?_, ?_⟩
  · rintro ⟨u2, ρ1, e1, e2, e3, e4⟩
    exact ⟨_, u2, e3, k.2.2.2.2.1 ρ1 e1, e4⟩
  · rintro ⟨u1, u2, e1, e2, e3⟩
    obtain ⟨ρ1, f1, f2, f3⟩ := k.2.2.2.2.2 ρ hρ u1 e2
    exact ⟨u2, ρ1, f1, f2, by rw [f3]; exact e1, e3⟩
end
