/-! THE COMPONENT'S TYPER: expressions without parts -/
section
variable {G : Gh} {c : Cx} {P P0 : Nat → Prop} {s s1 s2 : Sx} {B B' : Nat → Prop} {us us' L : List Nat} {b b' b2 d n q lo hi rc' D t : Nat} {S S' : En → List Tr → Prop} {h h' : AH} {V : List Nat} {e x y : Tr} {A1 : En → Prop}
/-- less room than was counted -/
theorem Rn.mb (r : Rn G c P s B s1 us b S) (h1 : s1.M ≤ s.M + 8 * b') (h2 : s1.Pn ≤ s.Pn + 8 * b') (h3 : s1.m ≤ s.m + 10 * b') (h4 : pot s1.h s1.cap ≤ pot s.h s.cap + 8 * b') (h5 : s1.ws.length ≤ s.ws.length + b') : Rn G c P s B s1 us b' S := by
  obtain ⟨r1, r2, r3, r4, r5, r6, r7⟩ := r
  exact ⟨r1, r2.mb h1 h2 h3, r3, r4, r5, ⟨h4, h5⟩, r7⟩
/-- what was counted -/
theorem Rn.cnt (r : Rn G c P s B s1 us b S) : (s1.M ≤ s.M + 8 * b ∧ s1.Pn ≤ s.Pn + 8 * b ∧ s1.m ≤ s.m + 10 * b) ∧ pot s1.h s1.cap ≤ pot s.h s.cap + 8 * b ∧ s1.ws.length ≤ s.ws.length + b := ⟨r.2.1.2.2.2.1, r.2.2.2.2.2.1⟩
theorem Rn.xs (r : Rn G c P s B s1 us b S) : XS G c P s1 := r.2.2.1
/-- a type that is there already comes in -/
theorem Rn.add3 {i : Nat} {u : Tr} (r : Rn G c P s B s1 us b S) (hi : i < 3) (hu : ∀ ρ, Sl s1.M s1.t ρ → ρ i = u) : Rn G c P s B s1 (us ++ [i]) b (fun γ w => ∃ v, S γ v ∧ v ++ [u] = w) := r.prj (fun v => v ++ [u]) (fun t ht => by
  rcases List.mem_append.mp ht with e | e
  · exact Or.inl e
  · rw [(List.mem_cons.mp e).resolve_right fun z => by cases z]; exact Or.inr hi) (fun ρ hρ => by rw [List.map_append]; show us.map ρ ++ [ρ i] = _; rw [hu ρ hρ])
theorem ex_there {i : Nat} {u : Tr} (k : XS G c P s) (hi : i < 3) (hu : ∀ ρ, Sl s.M s.t ρ → ρ i = u) : ExQ G c P s B b (.ok fun γ τ => eA s.M s.t s.E γ ∧ γ = γ ∧ τ = u) [] s.rc (.returned (some (.int (nI i)))) s.h := by
  refine Rn.fin (i := 0) ((Rn.rf k).add3 hi hu) rfl (Nat.zero_le _) (fun γ v => ⟨?_, ?_⟩) rfl rfl
  · rintro ⟨h1, -, rfl⟩
    exact ⟨_, ⟨[], ⟨h1, rfl⟩, rfl⟩, rfl⟩
  · rintro ⟨w, ⟨w', ⟨h1, rfl⟩, rfl⟩, h2⟩
    cases h2
    exact ⟨h1, rfl, rfl⟩
/-- constants -/
theorem ex_const (k : XS G c P s) (hx : (∃ v : Int, x = n1 3 t (.num v)) ∨ (∃ v : Int, x = n1 4 t (.num v)) ∨ x = n0 5 t) (ot : OTG (XA c.ts c.W c.O c.Z c.D s.h) c.W s.h x 0 0 q) : C G mX37_infer D [.ref q, .ref (gW G 6)] s.h (ExQ G c P s B b (eX (tW c.N c.Ct c.Dt (Vl c.ts) c.kn (n + 1)) x (eA s.M s.t s.E)) (wW c.Ct c.Dt (Pl c.ts) (n + 1) 0 x) s.rc) ∧ hK s.h q = 35 := by
  have w := k.1.1
  rcases hx with ⟨v, rfl⟩ | ⟨v, rfl⟩ | rfl
  · obtain ⟨hWq, hkq, ⟨ex, -⟩, -⟩ := (OTG_nd (k := 3) (by decide)).mp ot
    have hk : hK s.h q = 35 := by simpa [kc] using hkq
    obtain ⟨v', -, -, e7⟩ := (ex.2.2.2.2.2.2.2.2 _ _ rfl).1 (Or.inl rfl)
    refine ⟨bX37_infer G D s.h _ _ (k.sA.at (by decide)) (k.sA.at (by decide)) ⟨hk, fun _ => ?_, fun z => absurd e7 z⟩, hk⟩
    rw [w.2.2.1.1]
    exact ex_there k (by decide) fun ρ hρ => (Sl0 k.tt hρ).1
  · obtain ⟨hWq, hkq, ⟨ex, -⟩, -⟩ := (OTG_nd (k := 4) (by decide)).mp ot
    have hk : hK s.h q = 35 := by simpa [kc] using hkq
    obtain ⟨v', -, -, e7⟩ := (ex.2.2.2.2.2.2.2.2 _ _ rfl).1 (Or.inr rfl)
    refine ⟨bX37_infer G D s.h _ _ (k.sA.at (by decide)) (k.sA.at (by decide)) ⟨hk, fun z => absurd (e7.symm.trans z) (by decide), fun _ => ⟨fun _ => ?_, fun z => absurd e7 z⟩⟩, hk⟩
    rw [w.2.2.1.2.1]
    exact ex_there k (by decide) fun ρ hρ => (Sl0 k.tt hρ).2.1
  · obtain ⟨hWq, hkq, ex, -⟩ := (OTG_n0 (k := 5) (by decide)).mp ot
    have hk : hK s.h q = 35 := by simpa [kc] using hkq
    have e7 : fI s.h q 329 = 2 := (ex.2.2.2.1 rfl).1
    refine ⟨bX37_infer G D s.h _ _ (k.sA.at (by decide)) (k.sA.at (by decide)) ⟨hk, fun z => absurd (e7.symm.trans z) (by decide), fun _ => ⟨fun z => absurd (e7.symm.trans z) (by decide), fun _ => ?_⟩⟩, hk⟩
    rw [w.2.2.1.2.2]
    exact ex_there k (by decide) fun ρ hρ => (Sl0 k.tt hρ).2.2
/-- a type was found in the table -/
theorem ex_tpq {R : (Nat → Tr) → Tr → Prop} {o : Outcome} {Q : En → Tr → Prop} (k : XS G c P s) (z : TpQ G s.h s.M s.Pn s.t s.m R o h') (l : Lm (gW G) MI s.h h' none) (hR : ∀ ρ, Sl s.M s.t ρ → ∀ v, R ρ v ↔ Q (gE s.E ρ) v) : ExQ G c P s B 19 (.ok fun γ τ => eA s.M s.t s.E γ ∧ γ = γ ∧ Q γ τ) [] s.rc o h' := by
  obtain ⟨t', M', Pn', τ', m', rfl, T, r⟩ := z
  refine ⟨t', (h', M', Pn', τ', m', s.E, s.cap, s.rc, s.ws), rfl, rfl, rfl, rfl, T.fin k.sA l, ?_, k.mt T l r.2.1 r.1, rfl, Nat.le_refl _, ⟨?_, Nat.le_add_right ..⟩, fun γ u ⟨v, _, h1, _⟩ => h1⟩
  · refine (r.wk (by decide)).imp fun ρ hρ u => ⟨?_, ?_⟩
    · rintro ⟨v, rfl, h1⟩
      exact ⟨v, rfl, ⟨ρ, hρ, rfl⟩, rfl, (hR ρ hρ v).mp h1⟩
    · rintro ⟨v, rfl, -, -, h1⟩
      exact ⟨v, rfl, (hR ρ hρ v).mpr h1⟩
  · show pot h' s.cap ≤ _
    have : pot h' s.cap = pot s.h s.cap := by unfold pot; rw [T.2.1]
    omega
theorem BdX.bud (hb : BdX c s b) : Bud s.M s.Pn s.m s.h s.cap s.E.length b := by
  obtain ⟨u1, u2, u3, u4, u5⟩ := hb
  exact ⟨by omega, by omega, by omega, by omega, by omega⟩
/-- names -/
theorem ex_use {rf up : Int} (k : XS G c P s) (hb : BdX c s 20) (hV : 0 ≤ rf → ∃ σ, (rf.toNat, σ) ∈ s.E) (hB : rf < 0 → ∃ B, (lk c.O.1 (Vl c.ts t)).or (lk c.O.2 (Vl c.ts t)) = some B) (ot : OTG (XA c.ts c.W c.O c.Z c.D s.h) c.W s.h (n2 1 t (.num rf) (.num up)) 0 0 q) : C G mX35_infer (d + 71) [.ref q, .ref (gW G 6)] s.h (ExQ G c P s B 19 (eX (tW c.N c.Ct c.Dt (Vl c.ts) c.kn (n + 1)) (n2 1 t (.num rf) (.num up)) (eA s.M s.t s.E)) (wW c.Ct c.Dt (Pl c.ts) (n + 1) 0 (n2 1 t (.num rf) (.num up))) s.rc) ∧ hK s.h q = 33 := by
  obtain ⟨hWq, hkq, ⟨-, an⟩, -⟩ := (OTG_nd (k := 1) (y := .add (.num rf) (.num up)) (by decide)).mp ot
  have hk : hK s.h q = 33 := by simpa [kc] using hkq
  obtain ⟨rf', up', ez, h1, h2⟩ := (an _ _ rfl).1 rfl
  cases ez
  have hbu := (hb.le (show 8 ≤ 20 by decide)).bud
  refine ⟨?_, hk⟩
  have law : eX (tW c.N c.Ct c.Dt (Vl c.ts) c.kn (n + 1)) (n2 1 t (.num rf) (.num up)) (eA s.M s.t s.E) = .ok fun γ τ => eA s.M s.t s.E γ ∧ γ = γ ∧ (if rf < 0 then c.kn (Vl c.ts (t : Int).toNat) τ else γ rf.toNat τ) := rfl
  have ew : wW c.Ct c.Dt (Pl c.ts) (n + 1) 0 (n2 1 t (.num rf) (.num up)) = [] := rfl
  rw [law, ew, Int.toNat_natCast]
  by_cases cs : rf < 0
  · obtain ⟨B', hB'⟩ := hB cs
    have hr := h2 cs B' (by rw [Int.toNat_natCast]; exact hB')
    refine bX35_infer G (d + 70) s.h _ _ (k.sA.at (by decide)) ⟨hk, fun z => (by rw [hr] at z; cases z), fun b2 z => ?_⟩
    cases hr.symm.trans z
    refine C.use (c_tyo2 (d := d) k.1 hB' hbu) (by decide) ?_
    intro o h' z l _
    have hx := ex_tpq (B := B) (Q := fun _ => c.kn (Vl c.ts t)) k z (l.weak (by decide +kernel)) fun ρ _ v => Iff.rfl
    obtain ⟨t', M', Pn', τ', m', rfl, T, r⟩ := z
    rw [show (fun (γ : En) (τ : Tr) => eA s.M s.t s.E γ ∧ γ = γ ∧ if rf < 0 then c.kn (Vl c.ts t) τ else γ rf.toNat τ) = fun γ τ => eA s.M s.t s.E γ ∧ γ = γ ∧ c.kn (Vl c.ts t) τ by funext γ τ; rw [if_pos cs]]
    exact KI.i hx
  · obtain ⟨σ, hσ⟩ := hV (by omega)
    have hr := (h1 (by omega)).2.1
    refine bX35_infer G (d + 70) s.h _ _ (k.sA.at (by decide)) ⟨hk, fun z => (by rw [hr] at z; cases z), fun b2 z => ?_⟩
    cases hr.symm.trans z
    refine C.use (c_tyo (d := d) k.1 hσ hbu) (by decide) ?_
    intro o h' z l _
    have hx := ex_tpq (B := B) (Q := fun γ => γ rf.toNat) k z (l.weak (by decide +kernel)) fun ρ _ v => Iff.rfl
    obtain ⟨t', M', Pn', τ', m', rfl, T, r⟩ := z
    rw [show (fun (γ : En) (τ : Tr) => eA s.M s.t s.E γ ∧ γ = γ ∧ if rf < 0 then c.kn (Vl c.ts t) τ else γ rf.toNat τ) = fun γ τ => eA s.M s.t s.E γ ∧ γ = γ ∧ γ rf.toNat τ by funext γ τ; rw [if_neg cs]]
    exact KI.i hx
/-- built-in signs as functions -/
theorem ex_built {k0 : Nat} (k : XS G c P s) (hb : BdX c s 2) (hx : (k0 = 6 ∨ k0 = 7) ∧ x = n0 k0 t) (ot : OTG (XA c.ts c.W c.O c.Z c.D s.h) c.W s.h x 0 0 q) : C G mX38_infer (d + 3) [.ref q, .ref (gW G 6)] s.h (ExQ G c P s B 1 (eX (tW c.N c.Ct c.Dt (Vl c.ts) c.kn (n + 1)) x (eA s.M s.t s.E)) (wW c.Ct c.Dt (Pl c.ts) (n + 1) 0 x) s.rc) ∧ hK s.h q = 36 := by
  have w := k.1.1
  obtain ⟨u1, u2, u3, u4, u5⟩ := hb
  obtain ⟨h67, rfl⟩ := hx
  have o0 : c.W q ∧ hK s.h q ∈ kc k0 ∧ XA c.ts c.W c.O c.Z c.D s.h k0 q (.num t) := (OTG_n0 (k := k0) (by omega) (by omega)).mp ot
  obtain ⟨hWq, hkq, ex, -⟩ := o0
  have hk : hK s.h q = 36 := by rcases h67 with rfl | rfl <;> simpa [kc] using hkq
  refine ⟨?_, hk⟩
  rcases h67 with rfl | rfl
  · have e1 : fI s.h q 331 = 2 := ex.2.2.2.2.1 rfl
    refine bX38_infer G (d + 2) s.h _ _ (k.sA.at (by decide)) (k.sA.at (by decide)) ⟨hk, fun z => absurd (e1.symm.trans z) (by decide), fun _ => ?_⟩
    refine C.use (o_var (d := d + 1) k.hD k.tt (by omega)) (by decide) ?_
    rintro _ h3 ⟨rfl, τ1, g1, hN1, hP1⟩ l1 -
    have lm1 : Lm (gW G) MI s.h h3 none := l1.weak (by decide +kernel)
    have r1 := (Rn.rf (B := B) k).var k lm1 g1 hN1
    have k1 := r1.xs
    have c1 : cln (s.M + 1) τ1 s.M := r1.2.1.2.2.1 s.M (List.mem_append_right _ (List.mem_cons_self ..))
    refine KI.i (C.use (o_b1 (d := d + 1) (v := 11) k.hD k1.tt (by show s.M + 1 < _; omega) (by show s.Pn + 0 < _; omega) c1 k1.1.1.2.1.2.2.2.1) (by decide) ?_)
    rintro _ h6 ⟨rfl, τ2, g2, hN2, hP2⟩ l2 -
    have r2 := r1.nd k (l2.weak (by decide +kernel)) g2 hN2 hP2 (by decide) (show 1 ≤ 6 by decide) (fun w => w.drop 0) (fun ρ _ => by rw [List.drop_zero]; rfl)
    have k2 := r2.xs
    refine KI.i (C.use (o_fun (d := d) k.hD k2.tt (by show s.M + 1 + 1 < _; omega) (by show s.Pn + 0 + 1 + 1 < _; omega) (r2.2.1.2.2.1 (s.M + 1) (List.mem_append_right _ (List.mem_cons_self ..))) (r2.2.1.2.2.1 s.M (List.mem_append_left _ (List.mem_append_right _ (List.mem_cons_self ..)))) k2.1.1.2.1.1) (by decide) ?_)
    rintro _ h9 ⟨rfl, τ3, g3, hN3, hP3⟩ l3 -
    have r3 := r2.nd k (l3.weak (by decide +kernel)) g3 hN3 hP3 (by decide) (show 2 ≤ 6 by decide) (fun w => w.reverse) (fun ρ _ => rfl)
    have p9 : pot h9 s.cap = pot s.h s.cap := by unfold pot; rw [g3.1.2.1, g2.1.2.1, g1.1.2.1]
    have r4 := r3.mb (b' := 1) (by show s.M + 1 + 1 + 1 ≤ _; omega) (by show s.Pn + 0 + 1 + 2 ≤ _; omega) (by show s.m ≤ _; omega) (by show pot h9 s.cap ≤ _; omega) (by show s.ws.length ≤ _; omega)
    refine KI.i (Rn.fin (i := 2) r4 rfl (Nat.le_refl _) (fun γ v => ⟨?_, ?_⟩) rfl rfl)
    · rintro ⟨h1, -, α, rfl⟩
      exact ⟨_, ⟨_, rfl, _, rfl, _, α, rfl, h1, rfl⟩, rfl⟩
    · rintro ⟨u, ⟨w, rfl, w2, rfl, w3, α, rfl, h1, rfl⟩, h2⟩
      cases h2
      exact ⟨h1, rfl, α, rfl⟩
  · have e1 : fI s.h q 331 = 3 := ex.2.2.2.2.2.1 rfl
    refine bX38_infer G (d + 2) s.h _ _ (k.sA.at (by decide)) (k.sA.at (by decide)) ⟨hk, fun _ => ?_, fun z => absurd e1 z⟩
    rw [w.2.2.1.1]
    refine C.use (o_fun (d := d) k.hD k.tt (by omega) (by omega) (k.tt.b3 0 (by decide)) (k.tt.b3 0 (by decide)) w.2.1.1) (by decide) ?_
    rintro _ h9 ⟨rfl, τ3, g3, hN3, hP3⟩ l3 -
    have r2 := (Rn.rf (B := B) k).add3 (i := 0) (u := tInt) (by decide) fun ρ hρ => (Sl0 k.tt hρ).1
    have r3 := r2.nd k (l3.weak (by decide +kernel)) g3 hN3 hP3 (by decide) (by decide) (fun _ => [tInt, tInt]) (fun ρ hρ => by show [ρ 0, ρ 0] = _; rw [(Sl0 k.tt hρ).1])
    refine KI.i (Rn.fin (i := 1) r3 rfl (by decide) (fun γ v => ⟨?_, ?_⟩) rfl rfl)
    · rintro ⟨h1, -, rfl⟩
      exact ⟨_, ⟨_, rfl, _, ⟨h1, rfl⟩, rfl⟩, rfl⟩
    · rintro ⟨u, ⟨w, rfl, w2, ⟨h1, rfl⟩, rfl⟩, h2⟩
      cases h2
      exact ⟨h1, rfl, rfl⟩
/-- constructors -/
theorem ex_con {j : Nat} (k : XS G c P s) (hb : BdX c s 20) (hj : j < s.rc) (ot : OTG (XA c.ts c.W c.O c.Z c.D s.h) c.W s.h (n1 2 t (.num j)) 0 0 q) : C G mX36_infer (d + 71) [.ref q, .ref (gW G 6)] s.h (ExQ G c P s B 19 (eX (tW c.N c.Ct c.Dt (Vl c.ts) c.kn (n + 1)) (n1 2 t (.num j)) (eA s.M s.t s.E)) (wW c.Ct c.Dt (Pl c.ts) (n + 1) 0 (n1 2 t (.num j))) s.rc) ∧ hK s.h q = 34 := by
  obtain ⟨hWq, hkq, ⟨-, an⟩, -⟩ := (OTG_nd (k := 2) (by decide)).mp ot
  have hk : hK s.h q = 34 := by simpa [kc] using hkq
  obtain ⟨id', ez, hid⟩ := (an _ _ rfl).2.1 rfl
  cases ez
  obtain ⟨hcD, hr⟩ := hid (by omega)
  rw [Int.toNat_natCast] at hcD hr
  have w := k.1.1
  obtain ⟨hcl, ⟨arG, rG, wG⟩, hH⟩ := w.2.2.2.2.2.1 j hj
  obtain ⟨cx, hcx⟩ : ∃ x, c.Ct[j]? = some x := ⟨_, List.getElem?_eq_getElem hcl⟩
  obtain ⟨hk54, hw54⟩ := w.2.2.2.2.1 j cx hcx
  obtain ⟨u1, u2, u3, u4, u5⟩ := hb
  have lG := wG.2.2.2.1
  refine ⟨?_, hk⟩
  have law : eX (tW c.N c.Ct c.Dt (Vl c.ts) c.kn (n + 1)) (n1 2 t (.num j)) (eA s.M s.t s.E) = .ok fun γ τ => eA s.M s.t s.E γ ∧ γ = γ ∧ cT c.N c.Ct c.Dt (j : Int).toNat τ := rfl
  have ew : wW c.Ct c.Dt (Pl c.ts) (n + 1) 0 (n1 2 t (.num j)) = [] := rfl
  rw [law, ew, Int.toNat_natCast]
  refine bX36_infer G (d + 70) s.h _ _ (k.sA.at (by decide)) (k.sA.at (by decide)) ⟨hk, _, hr, hk54, arG, rG, C.use (o_read (n := 64) k.hD (wG.har k.sA) k.tt wG.2.2.2.2.2 (by omega) w.2.2.1 wG.1.1 (by rw [wG.2.2.1]; exact Nat.le_refl _) (by rw [wG.2.2.1]; omega) wG.2.2.2.2.1 (by omega) (by omega)) (by decide) ?_⟩
  rintro _ h7 ⟨t1, M1, Pn1, τ1, mv1, rfl, g1, ct1, ⟨bd1, bd2⟩, ⟨md1, cm1, -, gv1⟩, val1, ext1⟩ l7 -
  have lm7 : Lm (gW G) MI s.h h7 none := l7.weak (by decide +kernel)
  have F7 : FIn G c.Z B s.rc c.Ct.length s.h h7 := g1.1.fin k.sA lm7
  have k7 := k.mt g1.1 lm7 g1.2.1 (TGr.ev k.tt g1)
  have uq7 := F7.2.1 q (k.fix q hWq)
  have gvG := sOK_gv (G := G) (h := s.h) 64 _ wG.2.2.2.2.2
  have u54 := (lm7.1.2 _ (by rw [hk54]; decide)).1.trans hk54
  have w54 : fI h7 (c.Z.2.1 j) 371 = if isN cx.2.2.2 = true then 0 else 1 := (lm7.fi hk54 (by decide) (by decide +kernel)).trans hw54
  have hH0 : cH c.N c.Ct j = if isN cx.2.2.2 = true then none else some (tyS c.N cx.2.2.2) := by
    unfold cH
    rw [hcx]
  refine KI.i ⟨_, (uq7.2.2.2.2.2 328).2.2.trans hr, u54, fun z => ?_, fun z => ⟨_, (uq7.2.2.2.2.2 328).2.2.trans hr, u54, ?_⟩⟩
  · have hn : isN cx.2.2.2 = true := by
      cases e : isN cx.2.2.2 with
      | true => rfl
      | false => rw [w54, e] at z; exact absurd z (by decide)
    rw [hn, if_pos rfl] at hH0
    have rr := RsV.rd1 (b := 8) k.tt g1 ct1 (by omega) ⟨bd1, bd2⟩ gvG gv1 val1 ext1
    have z1 : TpQ G s.h s.M s.Pn s.t s.m (fun _ => cT c.N c.Ct c.Dt j) (.returned (some (.int (nI t1)))) h7 := by
      refine ⟨t1, M1, Pn1, τ1, s.m, rfl, g1.1, rr.imp fun ρ hρ u => ⟨?_, ?_⟩⟩
      · rintro ⟨θ, rfl⟩
        exact ⟨_, rfl, θ, by rw [hH0]⟩
      · rintro ⟨v, rfl, θ, hv⟩
        rw [hH0] at hv
        exact ⟨θ, by rw [hv]⟩
    exact ex_tpq k z1 lm7 fun ρ _ v => Iff.rfl
  · have hn : isN cx.2.2.2 = false := by
      cases e : isN cx.2.2.2 with
      | false => rfl
      | true => rw [w54, e] at z; exact absurd rfl z
    rw [hn, if_neg (by decide)] at hH0
    have w7 := k7.1.1
    obtain ⟨-, -, hH7⟩ := w7.2.2.2.2.2.1 j hj
    obtain ⟨arH7, rH7, wH7⟩ := hH7 _ hH0
    have lH := wH7.2.2.2.1
    refine ⟨arH7, rH7, C.use (o_readOn (n := 64) k.hD (wH7.har w7.1.1) k7.tt wH7.2.2.2.2.2 (by omega) w7.2.2.1 wH7.1.1 (by rw [wH7.2.2.1]; exact Nat.le_refl _) (by rw [wH7.2.2.1]; omega) wH7.2.2.2.2.1 md1 cm1 (by show M1 + _ ≤ _; omega) (by show Pn1 + _ ≤ _; omega)) (by decide) ?_⟩
    rintro _ h17 ⟨t2, M2, Pn2, τ2, mv2, rfl, g2, ct2, ⟨bd3, bd4⟩, ⟨md2, cm2, hx2, gv2⟩, val2, ext2⟩ l17 -
    have bd3' : M2 ≤ M1 + (enc (tyS c.N cx.2.2.2)).length := bd3
    have bd4' : Pn2 ≤ Pn1 + (enc (tyS c.N cx.2.2.2)).length := bd4
    have lm17 : Lm (gW G) MI h7 h17 none := l17.weak (by decide +kernel)
    have gvH := sOK_gv (G := G) (h := h7) 64 _ wH7.2.2.2.2.2
    have r2 := RsV.rd2 (b := 16) k.tt g1 ct1 ⟨bd1, bd2⟩ gvG gv1 val1 ext1 g2 ct2 (by omega) ⟨bd3', bd4'⟩ gvH gv2 hx2 val2 ext2
    have k17 := k7.mt g2.1 lm17 g2.2.1 (TGr.ev k7.tt g2)
    have F17 : FIn G c.Z B s.rc c.Ct.length s.h h17 := F7.tr k.sA (g2.1.fin k7.sA lm17)
    have un17 : un h17 = un s.h := by rw [g2.1.2.1, g1.1.2.1]
    have rn : Rn G c P s B (h17, M2, Pn2, τ2, s.m, s.E, s.cap, s.rc, s.ws) [t1, t2] 16 (fun γ u => eA s.M s.t s.E γ ∧ ∃ θ, u = [gi θ (cG c.Ct c.Dt j), gi θ (tyS c.N cx.2.2.2)]) := by
      refine ⟨F17, r2.imp fun ρ hρ u => ⟨fun h => ⟨⟨ρ, hρ, rfl⟩, h⟩, fun h => h.2⟩, k17, rfl, Nat.le_refl _, ⟨?_, Nat.le_add_right ..⟩, fun γ u h => h.1⟩
      show pot h17 s.cap ≤ _
      unfold pot
      rw [un17]
      omega
    refine KI.i (C.use (o_fun (d := d + 68) k.hD k17.tt (by show M2 < _; omega) (by show Pn2 + 1 < _; omega) (r2.2.2.1 t2 (List.mem_cons_of_mem _ (List.mem_cons_self ..))) (r2.2.2.1 t1 (List.mem_cons_self ..)) k17.1.1.2.1.1) (by decide) ?_)
    rintro _ h22 ⟨rfl, τ3, g3, hN3, hP3⟩ l22 -
    have r3 := rn.nd k (l22.weak (by decide +kernel)) g3 hN3 hP3 (by decide) (show 2 ≤ 6 by decide) (fun w => w.reverse) (fun ρ _ => rfl)
    refine KI.i (Rn.fin (i := 2) r3 rfl (by decide) (fun γ v => ⟨?_, ?_⟩) rfl rfl)
    · rintro ⟨h1, -, θ, hv⟩
      rw [hH0] at hv
      exact ⟨_, ⟨_, rfl, h1, θ, rfl⟩, by rw [hv]; rfl⟩
    · rintro ⟨u, ⟨w, rfl, h1, θ, rfl⟩, h2⟩
      cases h2
      refine ⟨h1, rfl, θ, ?_⟩
      rw [hH0]
      rfl
end
