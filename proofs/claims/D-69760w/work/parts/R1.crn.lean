/-! THE COMPONENT'S TYPER: expressions; what is carried -/
abbrev Cx : Type := (Nat → Prop) × List (Nat × Nat × Nat) × (List (Nat × Nat) × List (Nat × Nat)) × Zt × Dm × Nat × Ctb × Dtb × (Nat → TS)
abbrev Cx.W (c : Cx) : Nat → Prop := c.1
abbrev Cx.ts (c : Cx) : List (Nat × Nat × Nat) := c.2.1
abbrev Cx.O (c : Cx) : List (Nat × Nat) × List (Nat × Nat) := c.2.2.1
abbrev Cx.Z (c : Cx) : Zt := c.2.2.2.1
abbrev Cx.D (c : Cx) : Dm := c.2.2.2.2.1
abbrev Cx.N (c : Cx) : Nat := c.2.2.2.2.2.1
abbrev Cx.Ct (c : Cx) : Ctb := c.2.2.2.2.2.2.1
abbrev Cx.Dt (c : Cx) : Dtb := c.2.2.2.2.2.2.2.1
abbrev Cx.kn (c : Cx) : Nat → TS := c.2.2.2.2.2.2.2.2
/-- a state: the heap, the table (nodes, parts, itself, marks), names in sight, their places, known constructors, warnings -/
abbrev Sx : Type := AH × Nat × Nat × Tb × Nat × List (Nat × Tr) × Nat × Nat × List (Nat × Nat)
abbrev Sx.h (s : Sx) : AH := s.1
abbrev Sx.M (s : Sx) : Nat := s.2.1
abbrev Sx.Pn (s : Sx) : Nat := s.2.2.1
abbrev Sx.t (s : Sx) : Tb := s.2.2.2.1
abbrev Sx.m (s : Sx) : Nat := s.2.2.2.2.1
abbrev Sx.E (s : Sx) : List (Nat × Tr) := s.2.2.2.2.2.1
abbrev Sx.cap (s : Sx) : Nat := s.2.2.2.2.2.2.1
abbrev Sx.rc (s : Sx) : Nat := s.2.2.2.2.2.2.2.1
abbrev Sx.ws (s : Sx) : List (Nat × Nat) := s.2.2.2.2.2.2.2.2
/-- arrays of ints that a method holds: they are no written types -/
def Pv (G : Gh) (c : Cx) (P : Nat → Prop) (s : Sx) : Prop := (∀ a, P a → FIx G s.h a ∧ hK s.h a = 1000 ∧ Ns (gW G) a) ∧ (∀ j ar, j < s.rc → (fR s.h (c.Z.2.1 j) 373 = some ar ∨ ((cH c.N c.Ct j).isSome = true ∧ fR s.h (c.Z.2.1 j) 372 = some ar)) → ¬ P ar) ∧ ∀ v B ar, (lk c.O.1 v).or (lk c.O.2 v) = some B → fR s.h B 130 = some ar → ¬ P ar
def XS (G : Gh) (c : Cx) (P : Nat → Prop) (s : Sx) : Prop := ISt G c.W c.ts c.O c.Z c.D c.N c.Ct c.Dt c.kn s.rc s.h s.M s.Pn s.t s.m s.E s.cap ∧ CkW c.Z c.Ct c.Dt s.h ∧ (∃ pa, PiW G s.h pa) ∧ MsW G s.h s.ws ∧ s.rc ≤ c.Ct.length ∧ (∀ t, t < c.ts.length → Pl c.ts t < 5000) ∧ Pv G c P s
/-- from s on: nodes us whose types, by the environment, are those of S -/
def Rn (G : Gh) (c : Cx) (P : Nat → Prop) (s : Sx) (B : Nat → Prop) (s1 : Sx) (us : List Nat) (b : Nat) (S : En → List Tr → Prop) : Prop := FIn G c.Z B s.rc c.Ct.length s.h s1.h ∧ RsV G s.h s.M s.Pn s.t s.m s1.h s1.M s1.Pn s1.t s1.m us b (fun ρ u => S (gE s.E ρ) u) ∧ XS G c P s1 ∧ s1.E = s.E ∧ s.rc ≤ s1.rc ∧ (pot s1.h s1.cap ≤ pot s.h s.cap + 8 * b ∧ s1.ws.length ≤ s.ws.length + b) ∧ ∀ γ u, S γ u → eA s.M s.t s.E γ
/-- a fault was thrown -/
def Ft (G : Gh) (c : Cx) (s : Sx) (B : Nat → Prop) (b : Nat) (f : Fa) : Outcome → AH → Prop := fun o h' => FIn G c.Z B s.rc c.Ct.length s.h h' ∧ ∃ x, o = .threw x ∧ FtA h' c.ts x f.1 f.2 ∧ un h' ≤ pot s.h s.cap + 8 * b + 24
/-- room from a state on -/
def BdX (c : Cx) (s : Sx) (b : Nat) : Prop := s.M + 8 * b ≤ 140000 ∧ s.Pn + 8 * b ≤ 140000 ∧ s.m + 10 * b ≤ 2000000000 ∧ pot s.h s.cap + 8 * b + 200 ≤ UB ∧ s.ws.length + b ≤ 1800
section
variable {G : Gh} {c : Cx} {P P0 : Nat → Prop} {s s1 s2 : Sx} {B B' : Nat → Prop} {us us' : List Nat} {b b' b2 d : Nat} {S S' : En → List Tr → Prop} {h h' : AH} {ws : List (Nat × Nat)} {m pa : Nat}
theorem CkW.ml {Z : Zt} {Ct : Ctb} {Dt : Dtb} (k : CkW Z Ct Dt h) (l : Lm (gW G) MI h h' none) : CkW Z Ct Dt h' := by
  intro c x hx
  obtain ⟨k1, k2, k3, y, k4, k5, k6, k7⟩ := k c x hx
  have e1 := l.ff k1 (by decide) (g := 369) (by decide)
  have e2 := l.ff k1 (by decide) (g := 368) (by decide)
  exact ⟨((l.1.2 _ (by rw [k1]; decide)).1).trans k1, e1.1.trans k2, e2.2.2.trans k3, y, k4, ((l.1.2 _ (by rw [k5]; decide)).1).trans k5, (l.fi k5 (by decide) (by decide +kernel)).trans k6, k7⟩
theorem PiW.ml (k : PiW G h pa) (l : Lm (gW G) MI h h' none) : PiW G h' pa := by
  obtain ⟨w1, w2, w3, w4, w5⟩ := k
  obtain ⟨l1, l2, -⟩ := l.1.2 pa (by rw [w3]; decide)
  exact ⟨w1.le l.1, by rw [l.fr (w1.at (i := 5) (by decide)).1 (by decide) (by decide +kernel)]; exact w2, l1.trans w3, w4, l2.trans w5⟩
/-- warnings stay under what doesn't write them -/
theorem MsW.ml (k : MsW G h ws) (l : Lm (gW G) m h h' none) (sA : SoA G h) (hD : DW (gW G)) (b1 : m.testBit 106 = false) (b2 : m.testBit 604 = false) (b3 : m.testBit 605 = false) : MsW G h' ws := by
  obtain ⟨k1, k2, k3, k4⟩ := k
  have s5 := sA.at (i := 5) (by decide)
  have e4 := (l.a hD (kw1104 s5) (by decide) (by decide +kernel) (by decide) (by decide +kernel) b2).1
  have e5 := (l.a hD (kw1105 s5) (by decide) (by decide +kernel) (by decide) (by decide +kernel) b3).1
  exact ⟨by rw [l.fi s5.1 (by decide) b1]; exact k1, k2, k3, fun i x hx => by rw [e4, e5]; exact k4 i x hx⟩
/-- the table alone was changed -/
theorem MsW.ft (k : MsW G h ws) (T : FTy G h h') (sA : SoA G h) (hD : DW (gW G)) : MsW G h' ws := by
  obtain ⟨k1, k2, k3, k4⟩ := k
  have s5 := sA.at (i := 5) (by decide)
  have w : ∀ i, i ∈ TyC → IW.testBit i = true ∧ i ≠ 5 ∧ i ≠ 1104 ∧ i ≠ 1105 := by decide +kernel
  have u5 := T.1 (gW G 5) fun i hi e => (w i hi).2.1 (hD 5 i (by decide +kernel) (w i hi).1 e).symm
  have u6 := T.1 (gW G 1104) fun i hi e => (w i hi).2.2.1 (hD 1104 i (by decide +kernel) (w i hi).1 e).symm
  have u7 := T.1 (gW G 1105) fun i hi e => (w i hi).2.2.2 (hD 1105 i (by decide +kernel) (w i hi).1 e).symm
  exact ⟨by rw [(u5.2.2.2.2.2 106).1]; exact k1, k2, k3, fun i x hx => by rw [u6.2.2.1, u7.2.2.1]; exact k4 i x hx⟩
theorem XS.sA (k : XS G c P0 s) : SoA G s.h := k.1.1.1.1
theorem XS.hD (k : XS G c P0 s) : DW (gW G) := k.1.1.1.2
theorem XS.fix (k : XS G c P0 s) : ∀ a, c.W a → FIx G s.h a := k.1.2.2.2.1
theorem XS.tt (k : XS G c P0 s) : TT G s.h s.M s.Pn s.t s.m := k.1.2.1
theorem XS.bd (k : XS G c P0 s) : BdI s.h c.Z c.D := k.1.2.2.2.2.1
theorem Pv.mv (k : Pv G c P s) (w : IWd G c.ts c.O c.Z c.N c.Ct c.Dt c.kn s.rc s.h) (F : FIn G c.Z B s.rc c.Ct.length s.h s1.h) (hr : s1.rc = s.rc) : Pv G c P s1 := by
  obtain ⟨k1, k2, k3⟩ := k
  have sA := w.1.1
  refine ⟨fun a ha => ?_, fun j ar hj h1 => ?_, fun v B ar hB h1 => ?_⟩
  · obtain ⟨q1, q2⟩ := k1 a ha
    exact ⟨q1.mv sA F.1, ((F.1.1.2 a q1.1).1).trans q2.1, q2.2⟩
  · rw [hr] at hj
    obtain ⟨hcl, -⟩ := w.2.2.2.2.2.1 j hj
    obtain ⟨cx, hcx⟩ : ∃ x, c.Ct[j]? = some x := ⟨_, List.getElem?_eq_getElem hcl⟩
    obtain ⟨e1, e2⟩ := F.2.2.2.2.1 (c.Z.2.1 j) (w.2.2.2.2.1 j cx hcx).1 (fun i h1 h2 e => by have := w.2.2.2.2.2.2.1 j i hcl h2 e; omega)
    rw [e1, e2] at h1
    exact k2 j ar hj h1
  · have h13 := (w.2.2.2.2.2.2.2 v B hB).1
    rw [F.1.fr h13 (by decide) (by decide +kernel)] at h1
    exact k3 v B ar hB h1
/-- the table alone was changed -/
theorem XS.mt {M' Pn' m' : Nat} {τ' : Tb} (k : XS G c P s) (T : FTy G s.h h') (l : Lm (gW G) MI s.h h' none) (k1 : TT G h' M' Pn' τ' m') (ev : Ev G s.h s.M s.t h' M' τ') : XS G c P (h', M', Pn', τ', m', s.E, s.cap, s.rc, s.ws) := by
  obtain ⟨a1, a2, ⟨pa, a3⟩, a4, a5, a6, a7⟩ := id k
  exact ⟨a1.mt T l k1 ev, a2.ml l, ⟨pa, a3.ml l⟩, a4.ft T k.sA k.hD, a5, a6, a7.mv (s1 := (h', M', Pn', τ', m', s.E, s.cap, s.rc, s.ws)) a1.1 (T.fin (B := fun _ => False) k.sA l) rfl⟩
theorem XS.ge (k : XS G c P0 s) {ρ ρ' : Nat → Tr} (hρ : ∀ x, x < s.M → ρ' x = ρ x) : gE s.E ρ' = gE s.E ρ := k.1.ge hρ
theorem Rn.rf (k : XS G c P s) : Rn G c P s B s [] 0 (fun γ u => eA s.M s.t s.E γ ∧ u = []) := by
  refine ⟨FIn.rf, (RsV.rf k.tt).imp fun ρ hρ u => ⟨fun e => ⟨⟨ρ, hρ, rfl⟩, e⟩, fun e => e.2⟩, k, rfl, Nat.le_refl _, ⟨by omega, by omega⟩, fun γ u h => h.1⟩
/-- in other words -/
theorem Rn.imp (r : Rn G c P s B s1 us b S) (e : ∀ γ u, S γ u ↔ S' γ u) : Rn G c P s B s1 us b S' := by
  have : S = S' := by
    funext γ u
    exact propext (e γ u)
  rw [← this]
  exact r
theorem Rn.wk (r : Rn G c P s B s1 us b S) (hb : b ≤ b') (hB : ∀ t, B t → B' t) : Rn G c P s B' s1 us b' S := by
  obtain ⟨r1, r2, r3, r4, r5, r6, r7⟩ := r
  exact ⟨r1.wk hB, r2.wk hb, r3, r4, r5, ⟨by omega, by omega⟩, r7⟩
/-- the environments that are left -/
theorem Rn.ea (k : XS G c P0 s) (r : Rn G c P s B s1 us b S) : eA s1.M s1.t s1.E = fun γ => ∃ u, S γ u := by
  obtain ⟨r1, ⟨q1, q2, q3, -, q7, q8⟩, r3, r4, r5, r6, r7⟩ := r
  rw [r4]
  funext γ
  refine propext ⟨?_, ?_⟩
  · rintro ⟨ρ, h1, rfl⟩
    exact ⟨_, q7 ρ h1⟩
  · rintro ⟨u, hu⟩
    obtain ⟨ρ, h1, rfl⟩ := r7 γ u hu
    obtain ⟨ρ', h2, h3, h4⟩ := q8 ρ h1 u hu
    exact ⟨ρ', h2, (k.ge h3).symm⟩
theorem RsV.sqE {M Pn M1 Pn1 m1 M2 Pn2 m2 b1 b2 : Nat} {h h1 h2 : AH} {τ τ1 τ2 : Tb} {us us2 : List Nat} {Γ : List (Nat × Tr)} {S S2 : En → List Tr → Prop} (hg : ∀ ρ ρ' : Nat → Tr, (∀ x, x < M → ρ' x = ρ x) → gE Γ ρ' = gE Γ ρ) (r : RsV G h M Pn τ m h1 M1 Pn1 τ1 m1 us b1 (fun ρ u => S (gE Γ ρ) u)) (r2 : RsV G h1 M1 Pn1 τ1 m1 h2 M2 Pn2 τ2 m2 us2 b2 (fun ρ u => S2 (gE Γ ρ) u)) : RsV G h M Pn τ m h2 M2 Pn2 τ2 m2 (us ++ us2) (b1 + b2) (fun ρ u => ∃ u1 u2, u = u1 ++ u2 ∧ S (gE Γ ρ) u1 ∧ S2 (gE Γ ρ) u2) := by
  refine (r.seq r2).imp fun ρ hρ u => ⟨?_, ?_⟩
  · rintro ⟨u2, ρ1, e1, e2, rfl, h2⟩
    have h1 : S (gE Γ ρ1) (us.map ρ1) := r.2.2.2.2.1 ρ1 e1
    rw [hg ρ ρ1 e2] at h1 h2
    exact ⟨_, u2, rfl, h1, h2⟩
  · rintro ⟨u1, u2, rfl, h1, h2⟩
    obtain ⟨ρ1, e1, e2, e3⟩ := r.2.2.2.2.2 ρ hρ u1 h1
    refine ⟨u2, ρ1, e1, e2, by rw [e3], ?_⟩
    rw [hg ρ ρ1 e2]
    exact h2
/-- one behind another -/
theorem Rn.sq {S2 : En → List Tr → Prop} {us2 : List Nat} (k : XS G c P0 s) (r : Rn G c P s B s1 us b S) (r2 : Rn G c P s1 B s2 us2 b2 S2) : Rn G c P s B s2 (us ++ us2) (b + b2) (fun γ u => ∃ u1 u2, u = u1 ++ u2 ∧ S γ u1 ∧ S2 γ u2) := by
  obtain ⟨r1, r2', r3, r4, r5, r6, r7⟩ := r
  obtain ⟨q1, q2, q3, q4, q5, q6, q7⟩ := r2
  rw [r4] at q2
  exact ⟨r1.tr k.sA (q1.rc_le r5), RsV.sqE (fun ρ ρ' h => k.ge h) r2' q2, q3, q4.trans r4, Nat.le_trans r5 q5, ⟨by omega, by omega⟩, fun γ u ⟨u1, u2, _, h1, _⟩ => r7 γ u1 h1⟩
/-- other nodes -/
theorem Rn.prj (r : Rn G c P s B s1 us b S) (pr : List Tr → List Tr) (hc : ∀ t, t ∈ us' → t ∈ us ∨ t < 3) (hp : ∀ ρ, Sl s1.M s1.t ρ → us'.map ρ = pr (us.map ρ)) : Rn G c P s B s1 us' b (fun γ u => ∃ v, S γ v ∧ pr v = u) := by
  obtain ⟨r1, r2, r3, r4⟩ := r
  exact ⟨r1, r2.prj pr (fun t ht => (hc t ht).elim (r2.2.2.1 t) fun h3 => r3.tt.b3 t h3) hp, r3, r4.1, r4.2.1, r4.2.2.1, fun γ u ⟨v, h1, _⟩ => r4.2.2.2 γ v h1⟩
/-- a new node over the nodes that are there -/
theorem Rn.nd {n : Int} {ps : List Nat} {τ2 : Tb} (k : XS G c P0 s) (r : Rn G c P s B s1 us b S) (l : Lm (gW G) MI s1.h h' none) (g : TGr G s1.h h' s1.M s1.t (s1.M + 1) (s1.Pn + ps.length) τ2 s1.m) (hN : uN τ2 s1.M = n) (hP : uP τ2 s1.M = ps) (hn : 0 ≤ n) (hl : ps.length ≤ 6) (f : List Tr → List Tr) (hf : ∀ ρ, Sl s1.M s1.t ρ → ps.map ρ = f (us.map ρ)) : Rn G c P s B (h', s1.M + 1, s1.Pn + ps.length, τ2, s1.m, s1.E, s1.cap, s1.rc, s1.ws) (us ++ [s1.M]) (b + 1) (fun γ u => ∃ w, u = w ++ [gt n (f w)] ∧ S γ w) := by
  obtain ⟨r1, r2, r3, r4, r5, r6, r7⟩ := r
  have ev := TGr.ev r3.tt g
  refine ⟨r1.tr k.sA ((g.1.fin r3.sA l).rc_le r5), ?_, r3.mt g.1 l g.2.1 ev, r4, r5, ?_, fun γ u ⟨w, _, h1⟩ => r7 γ w h1⟩
  · refine (r2.seq (RsV.nd r3.tt g hN hP hn hl)).imp fun ρ hρ u => ⟨?_, ?_⟩
    · rintro ⟨u2, ρ1, e1, e2, rfl, rfl⟩
      have h1 : S (gE s.E ρ1) (us.map ρ1) := r2.2.2.2.2.1 ρ1 e1
      rw [k.ge e2] at h1
      exact ⟨us.map ρ1, by rw [hf ρ1 e1], h1⟩
    · rintro ⟨w, rfl, h1⟩
      obtain ⟨ρ1, e1, e2, e3⟩ := r2.2.2.2.2.2 ρ hρ w h1
      exact ⟨_, ρ1, e1, e2, by rw [e3, ← e3, ← hf ρ1 e1], rfl⟩
  · have : pot h' s1.cap = pot s1.h s1.cap := by unfold pot; rw [g.1.2.1]
    exact ⟨by show pot h' s1.cap ≤ _; omega, by show s1.ws.length ≤ _; omega⟩
/-- a new variable -/
theorem Rn.var {τ2 : Tb} (k : XS G c P0 s) (r : Rn G c P s B s1 us b S) (l : Lm (gW G) MI s1.h h' none) (g : TGr G s1.h h' s1.M s1.t (s1.M + 1) (s1.Pn + ([] : List Nat).length) τ2 s1.m) (hN : uN τ2 s1.M = -1) : Rn G c P s B (h', s1.M + 1, s1.Pn + 0, τ2, s1.m, s1.E, s1.cap, s1.rc, s1.ws) (us ++ [s1.M]) (b + 1) (fun γ u => ∃ w v, u = w ++ [v] ∧ S γ w) := by
  obtain ⟨r1, r2, r3, r4, r5, r6, r7⟩ := r
  have ev := TGr.ev r3.tt g
  refine ⟨r1.tr k.sA ((g.1.fin r3.sA l).rc_le r5), ?_, r3.mt g.1 l g.2.1 ev, r4, r5, ?_, fun γ u ⟨w, _, _, h1⟩ => r7 γ w h1⟩
  · refine (r2.seq (RsV.var (ps := []) r3.tt g hN (by decide))).imp fun ρ hρ u => ⟨?_, ?_⟩
    · rintro ⟨u2, ρ1, e1, e2, rfl, v, rfl⟩
      have h1 : S (gE s.E ρ1) (us.map ρ1) := r2.2.2.2.2.1 ρ1 e1
      rw [k.ge e2] at h1
      exact ⟨us.map ρ1, v, rfl, h1⟩
    · rintro ⟨w, v, rfl, h1⟩
      obtain ⟨ρ1, e1, e2, e3⟩ := r2.2.2.2.2.2 ρ hρ w h1
      exact ⟨[v], ρ1, e1, e2, by rw [e3], v, rfl⟩
  · have : pot h' s1.cap = pot s1.h s1.cap := by unfold pot; rw [g.1.2.1]
    exact ⟨by show pot h' s1.cap ≤ _; omega, by show s1.ws.length ≤ _; omega⟩
/-- room behind what was done -/
theorem BdX.nx (hb : BdX c s (b + b2)) (r : Rn G c P s B s1 us b S) : BdX c s1 b2 := by
  obtain ⟨u1, u2, u3, u4, u5⟩ := hb
  obtain ⟨-, ⟨-, -, -, ⟨q1, q2, q3⟩, -⟩, -, -, -, r6, -⟩ := r
  exact ⟨by omega, by omega, by omega, by omega, by omega⟩
theorem BdX.le (hb : BdX c s b) (h : b' ≤ b) : BdX c s b' := by
  obtain ⟨u1, u2, u3, u4, u5⟩ := hb
  exact ⟨by omega, by omega, by omega, by omega, by omega⟩
/-- an equation -/
theorem Rn.same {a e t i j : Nat} (k : XS G c P0 s) (r : Rn G c P s B s1 us b S) (hi : us[i]? = some a) (hj : us[j]? = some e) (ht : t < c.ts.length) (hb : BdX c s (b + 1)) : C G mX11_same (d + 6) [.ref (gW G 6), .int (nI a), .int (nI e), .int (nI t)] s1.h (fun o h' => ((∃ γ u, S γ u ∧ u[i]? = u[j]?) ∧ o = .returned none ∧ ∃ τ', un h' = un s1.h ∧ Rn G c P s B (h', s1.M, s1.Pn, τ', s1.m + 2, s1.E, s1.cap, s1.rc, s1.ws) us (b + 1) (fun γ u => S γ u ∧ u[i]? = u[j]?)) ∨ ((¬ ∃ γ u, S γ u ∧ u[i]? = u[j]?) ∧ Ft G c s B b (5, t) o h')) := by
  obtain ⟨r1, r2, r3, r4, r5, r6, r7⟩ := id r
  obtain ⟨-, -, -, ⟨q1, q2, q3⟩, -⟩ := id r2
  obtain ⟨u1, u2, u3, u4, u5⟩ := hb
  have ca : cln s1.M s1.t a := r2.2.2.1 a (List.mem_of_getElem? hi)
  have ce : cln s1.M s1.t e := r2.2.2.1 e (List.mem_of_getElem? hj)
  have hun : un s1.h ≤ pot s1.h s1.cap := by unfold pot; omega
  refine C.mono (c_ysm (d := d) (nC := c.Ct.length) (Z := c.Z) r3.1.1 r3.tt (by omega) (by omega) ca ce ht (by omega)) ?_
  have hE : ∀ ρ : Nat → Tr, Sl s1.M s1.t ρ → (ρ a = ρ e ↔ (fun u : List Tr => u[i]? = u[j]?) (us.map ρ)) := fun ρ _ => by
    show _ ↔ (us.map ρ)[i]? = (us.map ρ)[j]?
    rw [List.getElem?_map, List.getElem?_map, hi, hj]
    exact ⟨fun e => by rw [Option.map_some, Option.map_some, e], fun e => Option.some.inj e⟩
  have can := r2.can (a := a) (c := e) (E := fun u => u[i]? = u[j]?) hE
  have law : (∃ ρ, Sl s1.M s1.t ρ ∧ ρ a = ρ e) ↔ ∃ γ u, S γ u ∧ u[i]? = u[j]? := by
    rw [can]
    constructor
    · rintro ⟨ρ, u, h1, h2, h3⟩
      exact ⟨_, u, h2, h3⟩
    · rintro ⟨γ, u, h2, h3⟩
      obtain ⟨ρ, h1, rfl⟩ := r7 γ u h2
      exact ⟨ρ, u, h1, h2, h3⟩
  rintro o h' ⟨F, q⟩
  rcases q with ⟨ex, rfl, T, τ', k4, ev4, hs4⟩ | ⟨no, x, rfl, ft, hu⟩
  · refine Or.inl ⟨law.mp ex, rfl, τ', T.2.1, r1.tr k.sA ((F.wk fun _ w => w.elim).rc_le r5), ?_, r3.mt T F.1 k4 ev4, r4, r5, ?_, fun γ u h => r7 γ u h.1⟩
    · exact r2.eqn k4 ev4 hs4 (E := fun u => u[i]? = u[j]?) hE
    · have : pot h' s1.cap = pot s1.h s1.cap := by unfold pot; rw [T.2.1]
      exact ⟨by show pot h' s1.cap ≤ _; omega, by show s1.ws.length ≤ _; omega⟩
  · exact Or.inr ⟨fun w => (law.mpr w).elim fun ρ hρ => no ρ hρ.1 hρ.2, r1.tr k.sA ((F.wk fun _ w => w.elim).rc_le r5), x, rfl, ft, by omega⟩
end
