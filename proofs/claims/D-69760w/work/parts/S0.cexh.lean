/-! THE COMPONENT'S TYPER: chains of signs, tuples -/
/-- one sign: its law -/
noncomputable def oneL (g : Int) (t te : Nat) (R Q : En → Tr → Prop) : Except Fa (En → Tr → Prop) :=
  if g = 287 then bE (eqE t (∃ γ v τ, R γ (tRef v) ∧ Q γ τ) ()) fun _ => eqE te (∃ γ v, R γ (tRef v) ∧ Q γ v) fun γ τ => τ = tUnit ∧ ∃ v, R γ (tRef v) ∧ Q γ v
  else bE (eqE t (∃ γ τ, R γ (sgM g) ∧ Q γ τ) ()) fun _ => eqE te (∃ γ, R γ (sgM g) ∧ Q γ (sgM g)) fun γ τ => τ = sgR g ∧ R γ (sgM g) ∧ Q γ (sgM g)
section
variable {G : Gh} {c : Cx} {P P0 : Nat → Prop} {s s1 s2 : Sx} {B B' : Nat → Prop} {us us' L : List Nat} {b b' b2 d n q lo hi rc' D t r1 r2 arr so : Nat} {S S' : En → List Tr → Prop} {h h' : AH} {V : List Nat} {e x y a a2 a3 : Tr} {A1 : En → Prop} {l : List Tr} {R Q : En → Tr → Prop}
theorem tCh_c {f : Nat → Tr → (En → Prop) → Except Fa Rl} {g : Int} {es : List Tr} : tCh f t (.add (.num g) e :: es) R = bE (eX f e fun γ => ∃ τ, R γ τ) fun Q => bE (oneL g t (tkN e) R Q) fun R' => tCh f t es R' := by
  show bE (eX f e fun γ => ∃ τ, R γ τ) (fun Q => if g = 287 then _ else _) = _
  congr 1
  funext Q
  unfold oneL
  by_cases c : g = 287
  · rw [if_pos c, if_pos c, bE_as]
  · rw [if_neg c, if_neg c, bE_as]
/-- the end of one sign -/
def onQ (G : Gh) (c : Cx) (P : Nat → Prop) (s : Sx) (B : Nat → Prop) (s1 : Sx) (b : Nat) (r : Except Fa (En → Tr → Prop)) : Outcome → AH → Prop := fun o h' => match r with
  | .error f => Ft G c s B b f o h'
  | .ok R' => ∃ t3 s2, o = .returned (some (.int (nI t3))) ∧ Sx.h s2 = h' ∧ Sx.ws s2 = s1.ws ∧ Sx.rc s2 = s1.rc ∧ Rn G c P s B s2 [t3] b (fun γ u => ∃ v, u = [v] ∧ R' γ v)
/-- a known type is the answer -/
theorem on_fin {i : Nat} {u : Tr} {R' : En → Tr → Prop} {s2 : Sx} (r : Rn G c P s B s2 us b S) (hi : i < 3) (hu : ∀ ρ, Sl s2.M s2.t ρ → ρ i = u) (hw : s2.ws = s1.ws) (hrc : s2.rc = s1.rc) (hR : ∀ γ v, R' γ v ↔ v = u ∧ ∃ w, S γ w) : onQ G c P s B s1 b (.ok R') (.returned (some (.int (nI i)))) s2.h := by
  refine ⟨i, s2, rfl, rfl, hw, hrc, (r.prj (us' := [i]) (fun _ => [u]) (fun t ht => by rw [(List.mem_cons.mp ht).resolve_right fun z => by cases z]; exact Or.inr hi) (fun ρ hρ => by show [ρ i] = _; rw [hu ρ hρ])).imp fun γ w => ⟨?_, ?_⟩⟩
  · rintro ⟨v, h1, rfl⟩
    exact ⟨u, rfl, (hR γ u).mpr ⟨rfl, v, h1⟩⟩
  · rintro ⟨v, rfl, h1⟩
    obtain ⟨rfl, w, h2⟩ := (hR γ v).mp h1
    exact ⟨w, h2, rfl⟩
theorem ch_75 {t1 t2 g te i : Nat} {u : Tr} (hu : ∀ (s1 : Sx) ρ, XS G c P s1 → Sl s1.M s1.t ρ → ρ i = u) (hi : i < 3) (k : XS G c P s) (r : Rn G c P s B s1 [t1, t2] b (fun γ u => ∃ w v, u = [w, v] ∧ R γ w ∧ Q γ v)) (hb : BdX c s (b + 1)) (hm : s1.m + 4 ≤ s.m + 10 * b) (hWq : c.W q) (hk : hK s.h q = 44) (htok : fI s.h q 296 = nI t) (hg : g < 100000) (ht : t < c.ts.length) (hte : te < c.ts.length) (eM : sgM g = u) : X G mX47_one (d + 8) none [] 75 [(0, .ref q), (1, .ref (gW G 6)), (2, .int (nI t1)), (3, .int (nI t2)), (4, .int (nI g)), (5, .int (nI te)), (6, .ref (gW G 2))] [.int (nI i)] s1.h (onQ G c P s B s1 b (bE (eqE t (∃ γ τ, R γ (sgM g) ∧ Q γ τ) ()) fun _ => eqE te (∃ γ, R γ (sgM g) ∧ Q γ (sgM g)) fun γ τ => τ = sgR g ∧ R γ (sgM g) ∧ Q γ (sgM g))) := by
  rw [eM]
  have ux := r.uf k hWq
  have r3 := r.add3 hi fun ρ hρ => hu s1 ρ r.xs hρ
  refine bX47_one_75 G (d + 7) s1.h _ _ _ _ _ _ _ (r.xs.sA.at (by decide)) (r.xs.sA.at (by decide)) ⟨ux.1.trans hk, ?_⟩
  rw [(ux.2.2.2.2.2 296).1, htok]
  refine C.mono ((Rn.sameK (d := d + 1) (i := 0) (j := 2) k r3 rfl rfl ht hb (by omega))) ?_
  rintro o h2 (⟨⟨γ0, u0, hu0⟩, rfl, τ5, -, q5⟩ | ⟨hno, z1, y, rfl, z3, z4⟩)
  · have hc : ∃ γ τ, R γ u ∧ Q γ τ := by
      obtain ⟨⟨w', ⟨w, v, rfl, hr, hq⟩, rfl⟩, hx⟩ := hu0
      have hx' : some w = some u := hx
      rw [Option.some.inj hx'] at hr
      exact ⟨γ0, v, hr, hq⟩
    rw [eqE_y hc, bE_ok]
    refine KV.i (C.mono ((Rn.sameK (d := d + 1) (i := 1) (j := 2) k q5 rfl rfl hte hb (by show s1.m + 2 + 2 ≤ _; omega))) ?_)
    rintro o h4 (⟨⟨γ1, u1, hu1⟩, rfl, τ6, -, q6⟩ | ⟨hno, z1, y, rfl, z3, z4⟩)
    · have hc2 : ∃ γ, R γ u ∧ Q γ u := by
        obtain ⟨⟨⟨w', ⟨w, v, rfl, hr, hq⟩, rfl⟩, hx⟩, hy⟩ := hu1
        have hx' : some w = some u := hx
        have hy' : some v = some u := hy
        rw [Option.some.inj hx'] at hr
        rw [Option.some.inj hy'] at hq
        exact ⟨γ1, hr, hq⟩
      rw [eqE_y hc2]
      have hiff : ∀ γ, (∃ w, ((∃ v, (∃ w v_1, v = [w, v_1] ∧ R γ w ∧ Q γ v_1) ∧ v ++ [u] = w) ∧ w[0]? = w[2]?) ∧ w[1]? = w[2]?) ↔ R γ u ∧ Q γ u := fun γ => ⟨fun ⟨w0, ⟨⟨w', ⟨w, v, e1, hr, hq⟩, e2⟩, hx⟩, hy⟩ => by
          subst e1 e2
          have hx' : some w = some u := hx
          have hy' : some v = some u := hy
          rw [Option.some.inj hx'] at hr
          rw [Option.some.inj hy'] at hq
          exact ⟨hr, hq⟩, fun ⟨hr, hq⟩ => ⟨_, ⟨⟨_, ⟨_, _, rfl, hr, hq⟩, rfl⟩, rfl⟩, rfl⟩⟩
      have x6 := q6.xs
      have fin0 : sgR g = tInt → onQ G c P s B s1 b (.ok fun γ τ => τ = sgR g ∧ R γ u ∧ Q γ u) (.returned (some (.int (fI h4 (gW G 2) 42)))) h4 := fun e => by
        have e42 : fI h4 (gW G 2) 42 = nI 0 := x6.1.1.2.2.1.1
        rw [e42]
        exact on_fin (i := 0) q6 (by decide) (fun ρ hρ => (Sl0 x6.tt hρ).1) rfl rfl fun γ v => by rw [e, ← hiff γ]
      have fin1 : sgR g = tBool → onQ G c P s B s1 b (.ok fun γ τ => τ = sgR g ∧ R γ u ∧ Q γ u) (.returned (some (.int (fI h4 (gW G 2) 43)))) h4 := fun e => by
        have e43 : fI h4 (gW G 2) 43 = nI 1 := x6.1.1.2.2.1.2.1
        rw [e43]
        exact on_fin (i := 1) q6 (by decide) (fun ρ hρ => (Sl0 x6.tt hρ).2.1) rfl rfl fun γ v => by rw [e, ← hiff γ]
      have gi : ∀ m : Nat, m < 100000 → (nI g = nI m ↔ (g : Int) = m) := fun m hm => by rw [nI_eq (by omega) (by omega)]; omega
      refine KV.i ⟨fun z => fin0 ?_, fun n1 => ⟨fun z => fin0 ?_, fun n2 => ⟨fun z => fin0 ?_, fun n3 => ⟨fun z => fin0 ?_, fun n4 => ⟨fun z => fin0 ?_, fun n5 => fin1 ?_⟩⟩⟩⟩⟩
      · unfold sgR; rw [if_pos (by have := (gi 43 (by decide)).mp z; omega)]
      · unfold sgR; rw [if_pos (by have := (gi 45 (by decide)).mp z; omega)]
      · unfold sgR; rw [if_pos (by have := (gi 42 (by decide)).mp z; omega)]
      · unfold sgR; rw [if_pos (by have := (gi 259 (by decide)).mp z; omega)]
      · unfold sgR; rw [if_pos (by have := (gi 267 (by decide)).mp z; omega)]
      · unfold sgR
        rw [if_neg]
        rintro (z | z | z | z | z)
        · exact n1 ((gi 43 (by decide)).mpr (by omega))
        · exact n2 ((gi 45 (by decide)).mpr (by omega))
        · exact n3 ((gi 42 (by decide)).mpr (by omega))
        · exact n4 ((gi 259 (by decide)).mpr (by omega))
        · exact n5 ((gi 267 (by decide)).mpr (by omega))
    · have hc2 : ¬ ∃ γ, R γ u ∧ Q γ u := fun ⟨γ, hr, hq⟩ => hno ⟨γ, _, ⟨⟨_, ⟨_, _, rfl, hr, hq⟩, rfl⟩, rfl⟩, rfl⟩
      rw [eqE_n hc2]
      exact KV.t ⟨z1, y, rfl, z3, z4⟩
  · have hc : ¬ ∃ γ τ, R γ u ∧ Q γ τ := fun ⟨γ, τ, hr, hq⟩ => hno ⟨γ, _, ⟨_, ⟨_, τ, rfl, hr, hq⟩, rfl⟩, rfl⟩
    rw [eqE_n hc, bE_er]
    exact KV.t ⟨z1, y, rfl, z3, z4⟩
/-- one sign -/
theorem ch_one {t1 t2 g te : Nat} (k : XS G c P s) (r : Rn G c P s B s1 [t1, t2] b (fun γ u => ∃ w v, u = [w, v] ∧ R γ w ∧ Q γ v)) (hb : BdX c s (b + 1)) (hm : s1.m + 4 ≤ s.m + 10 * b) (hM : s1.M + 2 ≤ s.M + 8 * b) (hP : s1.Pn + 1 ≤ s.Pn + 8 * b) (hWq : c.W q) (hk : hK s.h q = 44) (htok : fI s.h q 296 = nI t) (hg : g < 100000) (ht : t < c.ts.length) (hte : te < c.ts.length) : C G mX47_one (d + 8) [.ref q, .ref (gW G 6), .int (nI t1), .int (nI t2), .int (nI g), .int (nI te)] s1.h (onQ G c P s B s1 b (oneL g t te R Q)) := by
  have gi : ∀ m : Nat, m < 100000 → (nI g = nI m ↔ (g : Int) = m) := fun m hm => by rw [nI_eq (by omega) (by omega)]; omega
  unfold oneL
  refine bX47_one G (d + 7) s1.h _ _ _ _ _ _ (r.xs.sA.at (by decide)) (r.xs.sA.at (by decide)) ⟨fun z => ?_, fun z => ?_⟩
  · rw [if_pos (by have := (gi 287 (by decide)).mp z; omega)]
    refine C.mono (Rn.cvK (d := d + 6) k r (hb.le (by omega)) (by omega)) ?_
    rintro _ h6 ⟨τ3, rfl, hu3, q3⟩
    refine KI.i (C.mono (Rn.cbK (d := d + 6) (v := 11) (F := tRef) (i := 2) (a := s1.M) (fun _ => rfl) (by decide) k q3 rfl (hb.le (by omega)) (by show s1.M + 1 + 1 ≤ _; omega) (by show s1.Pn + 0 + 1 ≤ _; omega) q3.xs.1.1.2.1.2.2.2.1) ?_)
    rintro _ h9 ⟨τ4, rfl, hu4, q4⟩
    have ux := q4.uf k hWq
    refine KI.i ⟨ux.1.trans hk, ?_⟩
    rw [(ux.2.2.2.2.2 296).1, htok]
    refine C.mono (Rn.sameK (d := d + 1) (i := 0) (j := 3) k q4 rfl rfl ht hb (by show s1.m + 2 ≤ _; omega)) ?_
    rintro o h13 (⟨⟨γ0, u0, hu0⟩, rfl, τ5, -, q5⟩ | ⟨hno, z1, y, rfl, z3, z4⟩)
    · have hc : ∃ γ v τ, R γ (tRef v) ∧ Q γ τ := by
        obtain ⟨⟨w', rfl, w1, α, rfl, w, v, rfl, hr, hq⟩, hx⟩ := hu0
        have hx' : some w = some (tRef α) := hx
        rw [Option.some.inj hx'] at hr
        exact ⟨γ0, α, v, hr, hq⟩
      rw [eqE_y hc, bE_ok]
      refine KV.i (C.mono (Rn.sameK (d := d + 1) (i := 1) (j := 2) k q5 rfl rfl hte hb (by show s1.m + 2 + 2 ≤ _; omega)) ?_)
      rintro o h15 (⟨⟨γ1, u1, hu1⟩, rfl, τ6, -, q6⟩ | ⟨hno, z1, y, rfl, z3, z4⟩)
      · have hc2 : ∃ γ v, R γ (tRef v) ∧ Q γ v := by
          obtain ⟨⟨⟨w', rfl, w1, α, rfl, w, v, rfl, hr, hq⟩, hx⟩, hy⟩ := hu1
          have hx' : some w = some (tRef α) := hx
          have hy' : some v = some α := hy
          rw [Option.some.inj hx'] at hr
          rw [Option.some.inj hy'] at hq
          exact ⟨γ1, α, hr, hq⟩
        rw [eqE_y hc2]
        have x6 := q6.xs
        have e44 : fI h15 (gW G 2) 44 = nI 2 := x6.1.1.2.2.1.2.2
        refine KV.i ?_
        rw [e44]
        refine (on_fin (i := 2) q6 (by decide) (fun ρ hρ => (Sl0 x6.tt hρ).2.2) rfl rfl fun γ v => ⟨fun ⟨e, α, hr, hq⟩ => ⟨e, _, ⟨⟨_, rfl, _, α, rfl, _, _, rfl, hr, hq⟩, rfl⟩, rfl⟩, fun ⟨e, w0, ⟨⟨w', e1, w1, α, e2, w, v, e3, hr, hq⟩, hx⟩, hy⟩ => ?_⟩)
        subst e3 e2 e1
        have hx' : some w = some (tRef α) := hx
        have hy' : some v = some α := hy
        rw [Option.some.inj hx'] at hr
        rw [Option.some.inj hy'] at hq
        exact ⟨e, α, hr, hq⟩
      · have hc2 : ¬ ∃ γ v, R γ (tRef v) ∧ Q γ v := fun ⟨γ, α, hr, hq⟩ => hno ⟨γ, _, ⟨⟨_, rfl, _, α, rfl, _, _, rfl, hr, hq⟩, rfl⟩, rfl⟩
        rw [eqE_n hc2]
        exact KV.t ⟨z1, y, rfl, z3, z4⟩
    · have hc : ¬ ∃ γ v τ, R γ (tRef v) ∧ Q γ τ := fun ⟨γ, α, τ, hr, hq⟩ => hno ⟨γ, _, ⟨_, rfl, _, α, rfl, _, τ, rfl, hr, hq⟩, rfl⟩
      rw [eqE_n hc, bE_er]
      exact KV.t ⟨z1, y, rfl, z3, z4⟩
  · rw [if_neg (fun w => z ((gi 287 (by decide)).mpr (by omega)))]
    have x1 := r.xs
    have e42 : fI s1.h (gW G 2) 42 = nI 0 := x1.1.1.2.2.1.1
    have e43 : fI s1.h (gW G 2) 43 = nI 1 := x1.1.1.2.2.1.2.1
    have go1 : (g : Int) = 269 ∨ (g : Int) = 270 → KI (onQ G c P s B s1 b (bE (eqE t (∃ γ τ, R γ (sgM g) ∧ Q γ τ) ()) fun _ => eqE te (∃ γ, R γ (sgM g) ∧ Q γ (sgM g)) fun γ τ => τ = sgR g ∧ R γ (sgM g) ∧ Q γ (sgM g))) (fun x4 h2 => (x4 = 0 → (X G mX47_one (d + 7 + 1) none [] 75 [(0, .ref q), (1, .ref (gW G 6)), (2, .int (nI t1)), (3, .int (nI t2)), (4, .int (nI g)), (5, .int (nI te)), (6, .ref (gW G 2))] [.int (fI h2 (gW G 2) 42)] h2 (onQ G c P s B s1 b (bE (eqE t (∃ γ τ, R γ (sgM g) ∧ Q γ τ) ()) fun _ => eqE te (∃ γ, R γ (sgM g) ∧ Q γ (sgM g)) fun γ τ => τ = sgR g ∧ R γ (sgM g) ∧ Q γ (sgM g))))) ∧ (¬ x4 = 0 → (X G mX47_one (d + 7 + 1) none [] 75 [(0, .ref q), (1, .ref (gW G 6)), (2, .int (nI t1)), (3, .int (nI t2)), (4, .int (nI g)), (5, .int (nI te)), (6, .ref (gW G 2))] [.int (fI h2 (gW G 2) 43)] h2 (onQ G c P s B s1 b (bE (eqE t (∃ γ τ, R γ (sgM g) ∧ Q γ τ) ()) fun _ => eqE te (∃ γ, R γ (sgM g) ∧ Q γ (sgM g)) fun γ τ => τ = sgR g ∧ R γ (sgM g) ∧ Q γ (sgM g)))))) (.returned (some (.int 1))) s1.h := fun hz => by
      refine KI.i ⟨fun w => absurd w (by decide), fun _ => ?_⟩
      rw [e43]
      exact ch_75 (d := d) (i := 1) (u := tBool) (fun s1 ρ x hρ => (Sl0 x.tt hρ).2.1) (by decide) k r hb hm hWq hk htok hg ht hte (by unfold sgM; rw [if_pos hz])
    refine bX47_isLogic G (d + 7) s1.h _ _ ⟨fun w => go1 (by have := (gi 269 (by decide)).mp w; omega), fun w1 => ⟨fun w => go1 (by have := (gi 270 (by decide)).mp w; omega), fun w2 => KI.i ⟨fun _ => ?_, fun w => absurd rfl w⟩⟩⟩
    rw [e42]
    exact ch_75 (d := d) (i := 0) (u := tInt) (fun s1 ρ x hρ => (Sl0 x.tt hρ).1) (by decide) k r hb hm hWq hk htok hg ht hte (by
      unfold sgM
      rw [if_neg]
      rintro (w | w)
      · exact w1 ((gi 269 (by decide)).mpr (by omega))
      · exact w2 ((gi 270 (by decide)).mpr (by omega)))
theorem bT_opx : ∀ ps : List (Nat × Tr), bT (ls (ps.map opx)) = bT (ls (ps.map (·.2))) ∧ nw (ls (ps.map opx)) = nw (ls (ps.map (·.2))) ∧ fw (ls (ps.map opx)) = fw (ls (ps.map (·.2))) := by
  intro ps
  induction ps with
  | nil => exact ⟨rfl, rfl, rfl⟩
  | cons p ps ih =>
    refine ⟨?_, ?_, ?_⟩
    · show bT (.add (.num p.1) p.2) ++ bT (ls (ps.map opx)) = bT p.2 ++ _
      rw [ih.1]
      rfl
    · show 0 + nw p.2 + nw (ls (ps.map opx)) = nw p.2 + _
      rw [ih.2.1]
      omega
    · show max (max 0 (fw p.2)) (fw (ls (ps.map opx))) = max (fw p.2) _
      rw [ih.2.2]
      omega
theorem sgs_opy : ∀ ps : List (Nat × Tr), sgs (ls (ps.map opx)) = ps.map fun p => nI p.1 := by
  intro ps
  induction ps with
  | nil => rfl
  | cons p ps ih =>
    show nI (p.1 : Int).toNat :: sgs (ls (ps.map opx)) = nI p.1 :: _
    rw [ih, Int.toNat_natCast]
theorem chn_11 {ps : List (Nat × Tr)} (hE : ExI G c n) (k : XS G c P s) (hhi : hi ≤ c.ts.length) (hWq : c.W q) (hk : hK s.h q = 44) (htok : fI s.h q 296 = nI t) (ht : t < c.ts.length) (eA' : ArF c.W s.h q 343 arr) (hla : hL s.h arr = ps.length) (hll : ps.length < 100000) (tg : TG (XA c.ts c.W c.O c.Z c.D s.h) c.W s.h (aR s.h arr) (ps.map (·.2))) (f342 : fR s.h q 342 = some so) (sgc : SgC c.W s.h so (ps.map fun p => nI p.1)) (hg : ∀ p, p ∈ ps → p.1 < 100000) (hTl : ∀ y, y ∈ ps.map (·.2) → TR lo hi y) (hV : ∀ t, t ∈ V → ∃ σ, (t, σ) ∈ s.E) (hD : ∀ y, y ∈ ps.map (·.2) → fw y + 600 ≤ D) (hD2 : 600 ≤ D) : ∀ (l2 l1 : List (Nat × Tr)) (t1 b : Nat) (s1 : Sx) (L : List Nat) (R : En → Tr → Prop) (w : List (Nat × Nat)), ps = l1 ++ l2 → Rn G c P s (fun t => t ∈ L) s1 [t1] b (fun γ u => ∃ v, u = [v] ∧ R γ v) → sLn (fun rc e rc' => sEx c.ts c.O c.N c.Ct c.Dt n 0 V rc e rc') (l2.map (·.2)) s1.rc rc' → BdX c s (b + 2 * nw (ls (l2.map (·.2))) + 1) → Frs s.h c.Z c.D s.E (L ++ bT (ls (l2.map (·.2)))) → s1.ws = wAll s.ws w →
    X G mX47_infer (D + 1) none [] 11 [(0, .ref q), (1, .ref (gW G 6)), (2, .int (nI t1)), (3, .int (nI l1.length))] [] s1.h (ExQ G c P s (fun x => x ∈ L ++ bT (ls (l2.map (·.2)))) (b + 2 * nw (ls (l2.map (·.2)))) (bE (tCh (tW c.N c.Ct c.Dt (Vl c.ts) c.kn n) t (l2.map opx) R) fun R => .ok fun γ τ => γ = γ ∧ R γ τ) (w ++ ((l2.map (·.2)).map (wW c.Ct c.Dt (Pl c.ts) n 0)).flatten) rc') := by
  intro l2
  induction l2 with
  | nil =>
    intro l1 t1 b s1 L R w he r hs hb hf hw
    rw [List.append_nil] at he
    have ux := r.uf k hWq
    have ua := r.uf k eA'.2.2
    refine bX47_infer_11 G D s1.h _ _ _ _ ⟨ux.1.trans hk, arr, (ux.2.2.2.2.2 343).2.2.trans eA'.1, ua.1.trans eA'.2.1, ?_⟩
    rw [ua.2.1, hla, show Int32.ofNat ps.length = nI ps.length from rfl, nI_leI (by omega) (by rw [← he]; omega)]
    refine ⟨fun _ => ?_, fun z => absurd (by rw [← he]; exact Nat.le_refl _) z⟩
    show ExQ G c P s _ _ (.ok fun γ τ => γ = γ ∧ R γ τ) _ _ _ _
    refine Rn.fin (i := 0) (r.wk (Nat.le_refl _) fun t ht => List.mem_append_left _ ht) rfl (Nat.le_add_right ..) (fun γ v => ⟨?_, ?_⟩) (by rw [hw]; show _ = wAll s.ws (w ++ []); rw [List.append_nil]) hs.symm
    · rintro ⟨-, h1⟩
      exact ⟨[v], ⟨v, rfl, h1⟩, rfl⟩
    · rintro ⟨u, ⟨v', rfl, h3⟩, h2⟩
      cases h2
      exact ⟨rfl, h3⟩
  | cons gx l2 IH =>
    obtain ⟨g, x⟩ := gx
    intro l1 t1 b s1 L R w he r hs hb hf hw
    have hj0 : ps[l1.length]? = some (g, x) := by rw [he, List.getElem?_append_right (Nat.le_refl _), Nat.sub_self]; rfl
    have hj : (ps.map (·.2))[l1.length]? = some x := by rw [List.getElem?_map, hj0]; rfl
    have hjl := (List.getElem?_eq_some_iff.mp hj0).1
    have hgb := hg (g, x) (List.mem_of_getElem? hj0)
    have hx := List.mem_of_getElem? hj
    obtain ⟨p, fp, op⟩ := tg _ x hj
    obtain ⟨r1, hs1, hs2⟩ := hs
    change sEx c.ts c.O c.N c.Ct c.Dt n 0 V s1.rc x r1 at hs1
    have ux := r.uf k hWq
    have ua := r.uf k eA'.2.2
    have ew : nw (ls (((g, x) :: l2).map (·.2))) = nw x + nw (ls (l2.map (·.2))) := rfl
    have hn := sEx_nw hs1 op
    rw [ew] at hb ⊢
    have ebt : bT (ls (((g, x) :: l2).map (·.2))) = bT x ++ bT (ls (l2.map (·.2))) := rfl
    rw [ebt, ← List.append_assoc] at hf ⊢
    refine bX47_infer_11 G D s1.h _ _ _ _ ⟨ux.1.trans hk, arr, (ux.2.2.2.2.2 343).2.2.trans eA'.1, ua.1.trans eA'.2.1, ?_⟩
    rw [ua.2.1, hla, show Int32.ofNat ps.length = nI ps.length from rfl, nI_leI (by omega) (by omega)]
    obtain ⟨k2, ν2, v1, v2, v3⟩ := r.exp (D := D) (A1 := fun γ => ∃ τ, R γ τ) hE k hs1 (hTl x hx) hhi op (hb.le (by omega)) hf.l hV (hD x hx) fun γ => ⟨fun ⟨τ, h⟩ => ⟨_, τ, rfl, h⟩, fun ⟨_, τ, _, h⟩ => ⟨τ, h⟩⟩
    refine ⟨fun z => by omega, fun _ => ⟨arr, (ux.2.2.2.2.2 343).2.2.trans eA'.1, ua.1.trans eA'.2.1, by rw [ua.2.1, hla]; exact vp_i hjl (by omega), p, by rw [nI_cn (by omega), ua.2.2.2.2.1]; exact fp, k2, ν2, v1, v2, C.mono v3 ?_⟩⟩
    intro o h12 z
    have law : bE (tCh (tW c.N c.Ct c.Dt (Vl c.ts) c.kn n) t (((g, x) :: l2).map opx) R) (fun R => .ok fun γ τ => γ = γ ∧ R γ τ) = bE (eX (tW c.N c.Ct c.Dt (Vl c.ts) c.kn n) x fun γ => ∃ τ, R γ τ) fun Q => bE (oneL g t (tkN x) R Q) fun R' => bE (tCh (tW c.N c.Ct c.Dt (Vl c.ts) c.kn n) t (l2.map opx) R') fun R => .ok fun γ τ => γ = γ ∧ R γ τ := by
      rw [List.map_cons, show opx (g, x) = .add (.num g) x from rfl, tCh_c]
      refine bE_as.trans ?_
      congr 1
      funext Q
      exact bE_as
    rw [law]
    cases hr : eX (tW c.N c.Ct c.Dt (Vl c.ts) c.kn n) x (fun γ => ∃ τ, R γ τ) with
    | error f =>
      rw [hr] at z
      obtain ⟨z1, y, rfl, z3, z4⟩ := z
      rw [bE_er]
      exact KI.t ⟨z1.wk fun t ht => List.mem_append_left _ ht, y, rfl, z3, by omega⟩
    | ok Q =>
      rw [hr] at z
      obtain ⟨t2, s2, rfl, rfl, w2, e2, q2, hQA⟩ := z
      rw [bE_ok]
      have ux2 := q2.uf k hWq
      have ua2 := q2.uf k eA'.2.2
      obtain ⟨sg1, sg2, sg3, ar, sg4, sg5, sg6, sg7, sg8⟩ := sgc
      have us2 := q2.uf k sg2
      have ur2 := q2.uf k sg6
      rw [List.length_map] at sg7
      refine KI.i ⟨so, (ux2.2.2.2.2.2 342).2.2.trans f342, us2.1.trans sg1, bX46_get G D s2.h _ _ _ ⟨us2.1.trans sg1, ar, (us2.2.2.2.2.2 339).2.2.trans sg4, ur2.1.trans sg5, by rw [ur2.2.1]; exact vp_i (by omega) (by omega), ?_⟩⟩
      rw [nI_cn (by omega), ur2.2.2.1, sg8 l1.length (nI g) (by rw [List.getElem?_map, hj0]; rfl)]
      obtain ⟨⟨c1, c2, c3⟩, c4, c5⟩ := q2.cnt
      obtain ⟨tk1, tk2⟩ := ex_tok hs1 (q2.ot k (hTl x hx) op)
      have htk : tkN x < c.ts.length := Nat.lt_of_lt_of_le (TR.tk (hTl x hx) (OTG_0 op)) hhi
      refine KI.i ⟨arr, (ux2.2.2.2.2.2 343).2.2.trans eA'.1, ua2.1.trans eA'.2.1, by rw [ua2.2.1, hla]; exact vp_i hjl (by omega), p, by rw [ua2.2.2.2.2.1]; exact fp, tk1, ?_⟩
      rw [tk2]
      have q2b := (q2.wk (b' := b + (2 * nw x - 1) + 1) (Nat.le_succ _) fun _ h => h).imp (S' := fun γ u => ∃ w v, u = [w, v] ∧ R γ w ∧ Q γ v) fun γ u => ⟨fun ⟨u1, v, e, ⟨w, e', hr⟩, hq⟩ => ⟨w, v, by rw [e, e']; rfl, hr, hq⟩, fun ⟨w, v, e, hr, hq⟩ => ⟨[w], v, e, ⟨w, rfl, hr⟩, hq⟩⟩
      refine C.mono ((ch_one (d := 0) k q2b (hb.le (by omega)) (by omega) (by omega) (by omega) hWq hk htok hgb ht htk).up (by omega)) ?_
      intro o h28 z
      unfold onQ at z
      cases hr2 : oneL g t (tkN x) R Q with
      | error f =>
        rw [hr2] at z
        obtain ⟨z1, y, rfl, z3, z4⟩ := z
        rw [bE_er]
        exact KI.t ⟨z1.wk fun t ht => List.mem_append_left _ ht, y, rfl, z3, by omega⟩
      | ok R' =>
        rw [hr2] at z
        obtain ⟨t3, s3, rfl, rfl, w3, e3, q3⟩ := z
        rw [bE_ok]
        refine KI.i ?_
        rintro _ rfl
        rw [nI_1]
        have ih := IH (l1 ++ [(g, x)]) t3 _ s3 (L ++ bT x) R' (w ++ wW c.Ct c.Dt (Pl c.ts) n 0 x) (by rw [he, List.append_assoc]; rfl) q3 (by rw [e3, e2]; exact hs2) (hb.le (by omega)) hf (by rw [w3, w2, hw, ← wAll_ap])
        rw [List.length_append, List.append_assoc w] at ih
        exact X.mono ih fun o h' z => z.wk (by omega) fun _ h => h
/-- a chain -/
theorem ex_chn {ps : List (Nat × Tr)} (hE : ExI G c n) (h1 : sEx c.ts c.O c.N c.Ct c.Dt n 0 V s.rc a r1) (hs : sLn (fun rc e rc' => sEx c.ts c.O c.N c.Ct c.Dt n 0 V rc e rc') (ps.map (·.2)) r1 rc') (hg : ∀ p, p ∈ ps → p.1 < 100000) (hT : TR lo hi (n2 16 t a (ls (ps.map opx)))) (hhi : hi ≤ c.ts.length) (ot : OTG (XA c.ts c.W c.O c.Z c.D s.h) c.W s.h (n2 16 t a (ls (ps.map opx))) 0 0 q) (k : XS G c P s) (hb : BdX c s (2 * nw (n2 16 t a (ls (ps.map opx))))) (hf : Frs s.h c.Z c.D s.E (bT (n2 16 t a (ls (ps.map opx))))) (hV : ∀ t, t ∈ V → ∃ σ, (t, σ) ∈ s.E) (hD : fw (n2 16 t a (ls (ps.map opx))) + 600 ≤ D + 1) : C G mX47_infer (D + 1) [.ref q, .ref (gW G 6)] s.h (ExQ G c P s (fun x => x ∈ bT (n2 16 t a (ls (ps.map opx)))) (2 * nw (n2 16 t a (ls (ps.map opx))) - 1) (eX (tW c.N c.Ct c.Dt (Vl c.ts) c.kn (n + 1)) (n2 16 t a (ls (ps.map opx))) (eA s.M s.t s.E)) (wW c.Ct c.Dt (Pl c.ts) (n + 1) 0 (n2 16 t a (ls (ps.map opx)))) rc') ∧ hK s.h q = 44 := by
  obtain ⟨hWq, hkq, ⟨ex, -⟩, oy⟩ := (OTG_nd (k := 16) (y := .add a (ls (ps.map opx))) (by decide)).mp ot
  have hk : hK s.h q = 44 := by simpa [kc] using hkq
  obtain ⟨e', r', so, ey, f342, sgc⟩ := (ex.2.2.2.2.2.2.2.2 _ _ rfl).2.2.1 rfl
  cases ey
  rw [sgs_opy] at sgc
  have htok : fI s.h q 296 = nI t := by
    have := ex.2.2.1
    rw [show tf (hK s.h q) = 296 by rw [hk]; rfl] at this
    have h2 : (tkn (.add (.num (t : Int)) (.add a (ls (ps.map opx)))) : Int) < 5000 := ex.2.1
    have e' : tkn (.add (.num (t : Int)) (.add a (ls (ps.map opx)))) = t := rfl
    rw [i_eq, this, nI_toInt (by omega)]
    rfl
  have ht : t < c.ts.length := by
    have h2 : (tkn (.add (.num (t : Int)) (.add a (ls (ps.map opx)))) : Int) < hi := hT.2.1
    have e' : tkn (.add (.num (t : Int)) (.add a (ls (ps.map opx)))) = t := rfl
    omega
  rw [OTG_c2 (by decide) (by decide)] at oy
  obtain ⟨p1, f1, o1⟩ := OTG_f.mp oy.1
  obtain ⟨arr, eA', hla, tg⟩ := OTG_chn.mp ((OTG_ef (m' := 23) (i' := 343) (by decide) (by decide)).mp oy.2)
  refine ⟨?_, hk⟩
  obtain ⟨b1, b2, b3⟩ := bT_opx ps
  have hll := nw_len (ps.map (·.2)) _ tg
  rw [List.length_map] at hll
  have ew : nw (n2 16 t a (ls (ps.map opx))) = nw a + nw (ls (ps.map (·.2))) + 1 := by
    show 0 + (nw a + nw (ls (ps.map opx))) + 1 = _
    rw [b2]
    omega
  have efw : fw (n2 16 t a (ls (ps.map opx))) = max 0 (max (fw a) (fw (ls (ps.map (·.2))))) + 1 := by rw [← b3]; rfl
  have ebt : bT (n2 16 t a (ls (ps.map opx))) = bT a ++ bT (ls (ps.map (·.2))) := by rw [← b1]; rfl
  have eww : wW c.Ct c.Dt (Pl c.ts) (n + 1) 0 (n2 16 t a (ls (ps.map opx))) = wW c.Ct c.Dt (Pl c.ts) n 0 a ++ ((ps.map (·.2)).map (wW c.Ct c.Dt (Pl c.ts) n 0)).flatten := by
    have : wW c.Ct c.Dt (Pl c.ts) (n + 1) 0 (n2 16 t a (ls (ps.map opx))) = wW c.Ct c.Dt (Pl c.ts) n 0 a ++ ((unl (ls (ps.map opx))).map fun z => match z with
      | .add _ e => wW c.Ct c.Dt (Pl c.ts) n 0 e
      | _ => []).flatten := rfl
    rw [this, unl_ls, List.map_map, List.map_map]
    rfl
  have law : eX (tW c.N c.Ct c.Dt (Vl c.ts) c.kn (n + 1)) (n2 16 t a (ls (ps.map opx))) (eA s.M s.t s.E) = bE (eX (tW c.N c.Ct c.Dt (Vl c.ts) c.kn n) a (eA s.M s.t s.E)) fun R => bE (tCh (tW c.N c.Ct c.Dt (Vl c.ts) c.kn n) t (ps.map opx) R) fun R => .ok fun γ τ => γ = γ ∧ R γ τ := by
    have : eX (tW c.N c.Ct c.Dt (Vl c.ts) c.kn (n + 1)) (n2 16 t a (ls (ps.map opx))) (eA s.M s.t s.E) = bE (bE (eX (tW c.N c.Ct c.Dt (Vl c.ts) c.kn n) a (eA s.M s.t s.E)) fun R => bE (tCh (tW c.N c.Ct c.Dt (Vl c.ts) c.kn n) (t : Int).toNat (unl (ls (ps.map opx))) R) fun R => .ok fun γ γ' τ => γ' = γ ∧ R γ τ) fun R => .ok fun γ τ => R γ γ τ := rfl
    rw [this, unl_ls, bE_as, Int.toNat_natCast]
    congr 1
    funext R
    exact bE_as
  rw [law, eww, ebt, ew]
  rw [ew] at hb
  rw [efw] at hD
  rw [ebt] at hf
  obtain ⟨u1, u2, u3, u4, u5⟩ := id hb
  have hn1 := sEx_nw h1 o1
  have hT1 : TR lo hi a := hT.2.2.2.1
  have hTl : ∀ y, y ∈ ps.map (·.2) → TR lo hi y := fun y hy => by
    obtain ⟨p, hp, rfl⟩ := List.mem_map.mp hy
    have := TR.ls_at (l := ps.map opx) hT.2.2.2.2 (opx p) (List.mem_map.mpr ⟨p, hp, rfl⟩)
    exact this.2
  obtain ⟨k1, ν1, v1, v2, v3⟩ := hE P a p1 lo hi r1 D V s h1 hT1 hhi o1 k (hb.le (by omega)) hf.l hV (by omega)
  refine bX47_infer G D s.h _ _ ⟨hk, p1, f1, k1, ν1, v1, v2, C.mono v3 ?_⟩
  intro o h4 z
  unfold ExQ at z
  cases hr1 : eX (tW c.N c.Ct c.Dt (Vl c.ts) c.kn n) a (eA s.M s.t s.E) with
  | error f =>
    rw [hr1] at z
    obtain ⟨z1, x, rfl, z3, z4⟩ := z
    rw [bE_er]
    exact KI.t ⟨z1.wk fun t ht => List.mem_append_left _ ht, x, rfl, z3, by omega⟩
  | ok P =>
    rw [hr1] at z
    obtain ⟨t1, s1, rfl, rfl, w1, e1, q1⟩ := z
    rw [bE_ok]
    refine KI.i ?_
    have := chn_11 (D := D) (rc' := rc') hE k hhi hWq hk htok ht eA' hla (by omega) tg f342 sgc hg hTl hV (fun y hy => by have := fw_mem _ y hy; omega) (by omega) ps [] t1 _ s1 (bT a) P (wW c.Ct c.Dt (Pl c.ts) n 0 a) rfl q1 (by rw [e1]; exact hs) (hb.le (by omega)) hf w1
    exact X.mono this fun o h' z => z.wk (by omega) fun _ h => h
end
