/-! THE COMPONENT'S TYPER: new nodes; signs -/
section
variable {G : Gh} {c : Cx} {P P0 : Nat → Prop} {s s1 s2 : Sx} {B B' : Nat → Prop} {us us' L : List Nat} {b b' b2 d n q lo hi rc' D t r1 r2 arr : Nat} {S S' : En → List Tr → Prop} {h h' : AH} {V : List Nat} {e x y a a2 a3 : Tr} {A1 : En → Prop} {l : List Tr} {R : En → Tr → Prop}
/-- a new variable -/
theorem Rn.cv (k : XS G c P0 s) (r : Rn G c P s B s1 us b S) (hb : BdX c s (b + 1)) : C G mX3_variable (d + 1) [.ref (gW G 2)] s1.h (fun o h' => ∃ τ2, o = .returned (some (.int (nI s1.M))) ∧ un h' = un s1.h ∧ Rn G c P s B (h', s1.M + 1, s1.Pn + 0, τ2, s1.m, s1.E, s1.cap, s1.rc, s1.ws) (us ++ [s1.M]) (b + 1) (fun γ u => ∃ w v, u = w ++ [v] ∧ S γ w)) := by
  obtain ⟨u1, u2, u3, u4, u5⟩ := hb
  obtain ⟨⟨c1, c2, c3⟩, c4, c5⟩ := r.cnt
  refine C.use (o_var (d := d) k.hD r.xs.tt (by omega)) (by decide) ?_
  rintro _ h6 ⟨rfl, τ2, g2, hN2, hP2⟩ l2 -
  exact ⟨τ2, rfl, g2.1.2.1, r.var k (l2.weak (by decide +kernel)) g2 hN2⟩
/-- a node that has one part -/
theorem Rn.cb {v : Int32} {a i : Nat} {F : Tr → Tr} (hF : ∀ x, F x = gt v.toInt [x]) (hv : 0 ≤ v.toInt) (k : XS G c P0 s) (r : Rn G c P s B s1 us b S) (hi : us[i]? = some a) (hb : BdX c s (b + 1)) (hn : NmT G s1.h v.toInt 1) : C G mX3_built_3 (d + 1) [.ref (gW G 2), .int v, .int (nI a)] s1.h (fun o h' => ∃ τ2, o = .returned (some (.int (nI s1.M))) ∧ un h' = un s1.h ∧ Rn G c P s B (h', s1.M + 1, s1.Pn + 1, τ2, s1.m, s1.E, s1.cap, s1.rc, s1.ws) (us ++ [s1.M]) (b + 1) (fun γ u => ∃ w, u = w ++ [F (w.getD i (.num 0))] ∧ S γ w)) := by
  obtain ⟨u1, u2, u3, u4, u5⟩ := hb
  obtain ⟨⟨c1, c2, c3⟩, c4, c5⟩ := r.cnt
  refine C.use (o_b1 (d := d) (v := v) k.hD r.xs.tt (by omega) (by omega) (r.2.1.2.2.1 a (List.mem_of_getElem? hi)) hn) (by decide) ?_
  rintro _ h6 ⟨rfl, τ2, g2, hN2, hP2⟩ l2 -
  have r2 := r.nd k (l2.weak (by decide +kernel)) g2 hN2 hP2 hv (show 1 ≤ 6 by decide) (fun w => [w.getD i (.num 0)]) (fun ρ _ => by
    show [ρ a] = [(us.map ρ).getD i _]
    rw [List.getD, List.getElem?_map, hi]
    rfl)
  refine ⟨τ2, rfl, g2.1.2.1, r2.imp fun γ u => ⟨?_, ?_⟩⟩
  · rintro ⟨w, rfl, h1⟩
    exact ⟨w, by rw [hF], h1⟩
  · rintro ⟨w, rfl, h1⟩
    exact ⟨w, by rw [hF], h1⟩
/-- a function's type -/
theorem Rn.cf {a e i j : Nat} (k : XS G c P0 s) (r : Rn G c P s B s1 us b S) (hi : us[i]? = some a) (hj : us[j]? = some e) (hb : BdX c s (b + 1)) : C G mX3_fun (d + 2) [.ref (gW G 2), .int (nI a), .int (nI e)] s1.h (fun o h' => ∃ τ2, o = .returned (some (.int (nI s1.M))) ∧ un h' = un s1.h ∧ Rn G c P s B (h', s1.M + 1, s1.Pn + 2, τ2, s1.m, s1.E, s1.cap, s1.rc, s1.ws) (us ++ [s1.M]) (b + 1) (fun γ u => ∃ w, u = w ++ [tFun (w.getD i (.num 0)) (w.getD j (.num 0))] ∧ S γ w)) := by
  obtain ⟨u1, u2, u3, u4, u5⟩ := hb
  obtain ⟨⟨c1, c2, c3⟩, c4, c5⟩ := r.cnt
  refine C.use (o_fun (d := d) k.hD r.xs.tt (by omega) (by omega) (r.2.1.2.2.1 a (List.mem_of_getElem? hi)) (r.2.1.2.2.1 e (List.mem_of_getElem? hj)) r.xs.1.1.2.1.1) (by decide) ?_
  rintro _ h6 ⟨rfl, τ2, g2, hN2, hP2⟩ l2 -
  have r2 := r.nd k (l2.weak (by decide +kernel)) g2 hN2 hP2 (by decide) (show 2 ≤ 6 by decide) (fun w => [w.getD i (.num 0), w.getD j (.num 0)]) (fun ρ _ => by
    show [ρ a, ρ e] = [(us.map ρ).getD i _, (us.map ρ).getD j _]
    rw [List.getD, List.getElem?_map, hi, List.getD, List.getElem?_map, hj]
    rfl)
  exact ⟨τ2, rfl, g2.1.2.1, r2⟩
/-- an element before a list -/
theorem ex_cons (hE : ExI G c n) (h1 : sEx c.ts c.O c.N c.Ct c.Dt n 0 V s.rc a r1) (h2 : sEx c.ts c.O c.N c.Ct c.Dt n 0 V r1 a2 rc') (hT : TR lo hi (n2 17 t a a2)) (hhi : hi ≤ c.ts.length) (ot : OTG (XA c.ts c.W c.O c.Z c.D s.h) c.W s.h (n2 17 t a a2) 0 0 q) (k : XS G c P s) (hb : BdX c s (2 * nw (n2 17 t a a2))) (hf : Frs s.h c.Z c.D s.E (bT (n2 17 t a a2))) (hV : ∀ t, t ∈ V → ∃ σ, (t, σ) ∈ s.E) (hD : fw (n2 17 t a a2) + 600 ≤ D + 1) : C G mX45_infer (D + 1) [.ref q, .ref (gW G 6)] s.h (ExQ G c P s (fun x => x ∈ bT (n2 17 t a a2)) (2 * nw (n2 17 t a a2) - 1) (eX (tW c.N c.Ct c.Dt (Vl c.ts) c.kn (n + 1)) (n2 17 t a a2) (eA s.M s.t s.E)) (wW c.Ct c.Dt (Pl c.ts) (n + 1) 0 (n2 17 t a a2)) rc') ∧ hK s.h q = 42 := by
  obtain ⟨hWq, hkq, ⟨ex, -⟩, oy⟩ := (OTG_nd (k := 17) (y := .add a a2) (by decide)).mp ot
  have hk : hK s.h q = 42 := by simpa [kc] using hkq
  have e36 : fI s.h q 336 = 286 := ex.2.2.2.2.2.2.1 rfl
  rw [OTG_c2 (by decide) (by decide)] at oy
  obtain ⟨p1, f1, o1⟩ := OTG_f.mp oy.1
  obtain ⟨p2, f2, o2⟩ := OTG_f.mp ((OTG_ef (m' := 1) (i' := 338) (by decide) (by decide)).mp oy.2)
  refine ⟨?_, hk⟩
  have ew : nw (n2 17 t a a2) = nw a + nw a2 + 1 := by show 0 + (nw a + nw a2) + 1 = _; omega
  have efw : fw (n2 17 t a a2) = max 0 (max (fw a) (fw a2)) + 1 := rfl
  have ebt : bT (n2 17 t a a2) = bT a ++ bT a2 := rfl
  have eww : wW c.Ct c.Dt (Pl c.ts) (n + 1) 0 (n2 17 t a a2) = wW c.Ct c.Dt (Pl c.ts) n 0 a ++ wW c.Ct c.Dt (Pl c.ts) n 0 a2 := rfl
  have law : eX (tW c.N c.Ct c.Dt (Vl c.ts) c.kn (n + 1)) (n2 17 t a a2) (eA s.M s.t s.E) = bE (bE (eX (tW c.N c.Ct c.Dt (Vl c.ts) c.kn n) a (eA s.M s.t s.E)) fun P => bE (eX (tW c.N c.Ct c.Dt (Vl c.ts) c.kn n) a2 fun γ => ∃ τ, P γ τ) fun Q => bE (eqE (tkN a2) (∃ γ τ, P γ τ ∧ Q γ (tList τ)) ()) fun _ => .ok fun γ γ' τ => γ' = γ ∧ ∃ α, τ = tList α ∧ P γ α ∧ Q γ τ) fun R => .ok fun γ τ => R γ γ τ := rfl
  rw [law, eww, ebt, ew]
  rw [ew] at hb
  rw [efw] at hD
  rw [ebt] at hf
  have hn1 := sEx_nw h1 o1
  have hn2 := sEx_nw h2 o2
  have hT1 : TR lo hi a := hT.2.2.2.1
  have hT2 : TR lo hi a2 := hT.2.2.2.2
  obtain ⟨k1, ν1, v1, v2, v3⟩ := hE P a p1 lo hi r1 D V s h1 hT1 hhi o1 k (hb.le (by omega)) hf.l hV (by omega)
  refine bX45_infer G D s.h _ _ (k.sA.at (by decide)) (k.sA.at (by decide)) ⟨hk, p1, f1, k1, ν1, v1, v2, C.mono v3 ?_⟩
  intro o h4 z
  unfold ExQ at z
  cases hr1 : eX (tW c.N c.Ct c.Dt (Vl c.ts) c.kn n) a (eA s.M s.t s.E) with
  | error f =>
    rw [hr1] at z
    obtain ⟨z1, x, rfl, z3, z4⟩ := z
    rw [bE_er, bE_er]
    exact KI.t ⟨z1.wk fun t ht => List.mem_append_left _ ht, x, rfl, z3, by omega⟩
  | ok P =>
    rw [hr1] at z
    obtain ⟨t1, s1, rfl, rfl, w1, e1, q1⟩ := z
    rw [bE_ok]
    have ux1 := q1.uf k hWq
    obtain ⟨k2, ν2, v1, v2, v3⟩ := q1.exp (D := D) (L := bT a) (A1 := fun γ => ∃ τ, P γ τ) hE k (by rw [e1]; exact h2) hT2 hhi o2 (hb.le (by omega)) hf hV (by omega) fun γ => ⟨fun ⟨τ, h⟩ => ⟨_, τ, rfl, h⟩, fun ⟨_, τ, _, h⟩ => ⟨τ, h⟩⟩
    refine KI.i ⟨p2, (ux1.2.2.2.2.2 338).2.2.trans f2, k2, ν2, v1, v2, C.mono v3 ?_⟩
    intro o h9 z
    cases hr2 : eX (tW c.N c.Ct c.Dt (Vl c.ts) c.kn n) a2 (fun γ => ∃ τ, P γ τ) with
    | error f =>
      rw [hr2] at z
      obtain ⟨z1, x, rfl, z3, z4⟩ := z
      rw [bE_er, bE_er]
      exact KI.t ⟨z1, x, rfl, z3, by omega⟩
    | ok Q =>
      rw [hr2] at z
      obtain ⟨t2, s2, rfl, rfl, w2, e2, q2, hQA⟩ := z
      rw [bE_ok]
      have ux2 := q2.uf k hWq
      have e36' : fI s2.h q 336 = 286 := (ux2.2.2.2.2.2 336).1.trans e36
      refine KI.i ⟨fun _ => ?_, fun z => absurd e36' z⟩
      refine C.mono ((Rn.cb (d := 0) (v := 10) (F := tList) (i := 0) (a := t1) (fun _ => rfl) (by decide) k q2 rfl (hb.le (by omega)) q2.xs.1.1.2.1.2.2.1).up (by omega)) ?_
      rintro _ h35 ⟨τ3, rfl, hu3, q3⟩
      have ux3 := q3.uf k hWq
      have e36'' : fI h35 q 336 = 286 := (ux3.2.2.2.2.2 336).1.trans e36
      obtain ⟨tk1, tk2⟩ := ex_tok h2 (q3.ot k hT2 o2)
      have htk : tkN a2 < c.ts.length := Nat.lt_of_lt_of_le (TR.tk hT2 (OTG_0 o2)) hhi
      refine KI.i ⟨fun z => absurd (e36''.symm.trans z) (by decide), fun _ => ⟨p2, (ux3.2.2.2.2.2 338).2.2.trans f2, tk1, ?_⟩⟩
      rw [tk2]
      refine C.mono ((Rn.same (d := 0) (i := 1) (j := 2) k q3 rfl rfl htk (hb.le (by omega))).up (by omega)) ?_
      rintro o h25 (⟨⟨γ0, u0, hu0⟩, rfl, τ5, -, q5⟩ | ⟨hno, z1, x, rfl, z3, z4⟩)
      · have hc : ∃ γ τ, P γ τ ∧ Q γ (tList τ) := by
          obtain ⟨⟨w, rfl, u1, v, rfl, ⟨v', rfl, hp⟩, hq⟩, hx⟩ := hu0
          have hx' : some v = some (tList v') := hx
          rw [Option.some.inj hx'] at hq
          exact ⟨γ0, v', hp, hq⟩
        rw [eqE_y hc, bE_ok, bE_ok]
        refine KV.i (Rn.fin (i := 2) (q5.wk (b' := 2 * (nw a + nw a2 + 1) - 1) (by omega) fun t ht => ht) rfl (Nat.le_refl _) (fun γ v => ⟨?_, ?_⟩) ?_ e2)
        · rintro ⟨-, α, rfl, hp, hq⟩
          exact ⟨_, ⟨⟨_, rfl, _, _, rfl, ⟨α, rfl, hp⟩, hq⟩, rfl⟩, rfl⟩
        · rintro ⟨u, ⟨⟨w, rfl, u1, v1, rfl, ⟨v', rfl, hp⟩, hq⟩, hx⟩, hv⟩
          have hx' : some v1 = some (tList v') := hx
          rw [Option.some.inj hx'] at hq
          have hv' : some (tList v') = some v := hv
          cases hv'
          exact ⟨rfl, v', rfl, hp, hq⟩
        · show s2.ws = _
          rw [w2, w1, ← wAll_ap]
      · have hc : ¬ ∃ γ τ, P γ τ ∧ Q γ (tList τ) := fun ⟨γ, τ, hp, hq⟩ => hno ⟨γ, _, ⟨_, rfl, _, _, rfl, ⟨τ, rfl, hp⟩, hq⟩, rfl⟩
        rw [eqE_n hc, bE_er, bE_er]
        exact KV.t ⟨z1, x, rfl, z3, by omega⟩
/-- a list before a list -/
theorem ex_apd (hE : ExI G c n) (h1 : sEx c.ts c.O c.N c.Ct c.Dt n 0 V s.rc a r1) (h2 : sEx c.ts c.O c.N c.Ct c.Dt n 0 V r1 a2 rc') (hT : TR lo hi (n2 18 t a a2)) (hhi : hi ≤ c.ts.length) (ot : OTG (XA c.ts c.W c.O c.Z c.D s.h) c.W s.h (n2 18 t a a2) 0 0 q) (k : XS G c P s) (hb : BdX c s (2 * nw (n2 18 t a a2))) (hf : Frs s.h c.Z c.D s.E (bT (n2 18 t a a2))) (hV : ∀ t, t ∈ V → ∃ σ, (t, σ) ∈ s.E) (hD : fw (n2 18 t a a2) + 600 ≤ D + 1) : C G mX45_infer (D + 1) [.ref q, .ref (gW G 6)] s.h (ExQ G c P s (fun x => x ∈ bT (n2 18 t a a2)) (2 * nw (n2 18 t a a2) - 1) (eX (tW c.N c.Ct c.Dt (Vl c.ts) c.kn (n + 1)) (n2 18 t a a2) (eA s.M s.t s.E)) (wW c.Ct c.Dt (Pl c.ts) (n + 1) 0 (n2 18 t a a2)) rc') ∧ hK s.h q = 42 := by
  obtain ⟨hWq, hkq, ⟨ex, -⟩, oy⟩ := (OTG_nd (k := 18) (y := .add a a2) (by decide)).mp ot
  have hk : hK s.h q = 42 := by simpa [kc] using hkq
  have e36 : fI s.h q 336 = 64 := ex.2.2.2.2.2.2.2.1 rfl
  rw [OTG_c2 (by decide) (by decide)] at oy
  obtain ⟨p1, f1, o1⟩ := OTG_f.mp oy.1
  obtain ⟨p2, f2, o2⟩ := OTG_f.mp ((OTG_ef (m' := 1) (i' := 338) (by decide) (by decide)).mp oy.2)
  refine ⟨?_, hk⟩
  have ew : nw (n2 18 t a a2) = nw a + nw a2 + 1 := by show 0 + (nw a + nw a2) + 1 = _; omega
  have efw : fw (n2 18 t a a2) = max 0 (max (fw a) (fw a2)) + 1 := rfl
  have ebt : bT (n2 18 t a a2) = bT a ++ bT a2 := rfl
  have eww : wW c.Ct c.Dt (Pl c.ts) (n + 1) 0 (n2 18 t a a2) = wW c.Ct c.Dt (Pl c.ts) n 0 a ++ wW c.Ct c.Dt (Pl c.ts) n 0 a2 := rfl
  have law : eX (tW c.N c.Ct c.Dt (Vl c.ts) c.kn (n + 1)) (n2 18 t a a2) (eA s.M s.t s.E) = bE (bE (eX (tW c.N c.Ct c.Dt (Vl c.ts) c.kn n) a (eA s.M s.t s.E)) fun P => bE (eX (tW c.N c.Ct c.Dt (Vl c.ts) c.kn n) a2 fun γ => ∃ τ, P γ τ) fun Q => bE (eqE (tkN a) (∃ γ α τ, P γ (tList α) ∧ Q γ τ) ()) fun _ => bE (eqE (tkN a2) (∃ γ α, P γ (tList α) ∧ Q γ (tList α)) ()) fun _ => .ok fun γ γ' τ => γ' = γ ∧ ∃ α, τ = tList α ∧ P γ τ ∧ Q γ τ) fun R => .ok fun γ τ => R γ γ τ := rfl
  rw [law, eww, ebt, ew]
  rw [ew] at hb
  rw [efw] at hD
  rw [ebt] at hf
  have hn1 := sEx_nw h1 o1
  have hn2 := sEx_nw h2 o2
  have hT1 : TR lo hi a := hT.2.2.2.1
  have hT2 : TR lo hi a2 := hT.2.2.2.2
  obtain ⟨k1, ν1, v1, v2, v3⟩ := hE P a p1 lo hi r1 D V s h1 hT1 hhi o1 k (hb.le (by omega)) hf.l hV (by omega)
  refine bX45_infer G D s.h _ _ (k.sA.at (by decide)) (k.sA.at (by decide)) ⟨hk, p1, f1, k1, ν1, v1, v2, C.mono v3 ?_⟩
  intro o h4 z
  unfold ExQ at z
  cases hr1 : eX (tW c.N c.Ct c.Dt (Vl c.ts) c.kn n) a (eA s.M s.t s.E) with
  | error f =>
    rw [hr1] at z
    obtain ⟨z1, x, rfl, z3, z4⟩ := z
    rw [bE_er, bE_er]
    exact KI.t ⟨z1.wk fun t ht => List.mem_append_left _ ht, x, rfl, z3, by omega⟩
  | ok P =>
    rw [hr1] at z
    obtain ⟨t1, s1, rfl, rfl, w1, e1, q1⟩ := z
    rw [bE_ok]
    have ux1 := q1.uf k hWq
    obtain ⟨k2, ν2, v1, v2, v3⟩ := q1.exp (D := D) (L := bT a) (A1 := fun γ => ∃ τ, P γ τ) hE k (by rw [e1]; exact h2) hT2 hhi o2 (hb.le (by omega)) hf hV (by omega) fun γ => ⟨fun ⟨τ, h⟩ => ⟨_, τ, rfl, h⟩, fun ⟨_, τ, _, h⟩ => ⟨τ, h⟩⟩
    refine KI.i ⟨p2, (ux1.2.2.2.2.2 338).2.2.trans f2, k2, ν2, v1, v2, C.mono v3 ?_⟩
    intro o h9 z
    cases hr2 : eX (tW c.N c.Ct c.Dt (Vl c.ts) c.kn n) a2 (fun γ => ∃ τ, P γ τ) with
    | error f =>
      rw [hr2] at z
      obtain ⟨z1, x, rfl, z3, z4⟩ := z
      rw [bE_er, bE_er]
      exact KI.t ⟨z1, x, rfl, z3, by omega⟩
    | ok Q =>
      rw [hr2] at z
      obtain ⟨t2, s2, rfl, rfl, w2, e2, q2, hQA⟩ := z
      rw [bE_ok]
      have ux2 := q2.uf k hWq
      have e36' : fI s2.h q 336 = 64 := (ux2.2.2.2.2.2 336).1.trans e36
      obtain ⟨⟨c1, c2, c3⟩, c4, c5⟩ := q2.cnt
      refine KI.i ⟨fun z => absurd (e36'.symm.trans z) (by decide), fun _ => ?_⟩
      refine C.mono ((Rn.cv (d := 0) k q2 (hb.le (by omega))).up (by omega)) ?_
      rintro _ h13 ⟨τ3, rfl, hu3, q3⟩
      have q3' := q3.mb (b' := 2 * nw a - 1 + (2 * nw a2 - 1) + 1) (by show s2.M + 1 ≤ _; omega) (by show s2.Pn + 0 ≤ _; omega) (by show s2.m ≤ _; omega) (by show pot h13 s2.cap ≤ _; unfold pot; rw [hu3]; unfold pot at c4; omega) (by show s2.ws.length ≤ _; omega)
      refine KI.i (C.mono ((Rn.cb (d := 0) (v := 10) (F := tList) (i := 2) (a := s2.M) (fun _ => rfl) (by decide) k q3' rfl (hb.le (by omega)) q3'.xs.1.1.2.1.2.2.1).up (by omega)) ?_)
      rintro _ h16 ⟨τ4, rfl, hu4, q4⟩
      have hu4' : un h16 = un s2.h := (show un h16 = un h13 from hu4).trans hu3
      have q4' := q4.mb (b' := 2 * nw a - 1 + (2 * nw a2 - 1) + 1) (by show s2.M + 1 + 1 ≤ _; omega) (by show s2.Pn + 0 + 1 ≤ _; omega) (by show s2.m ≤ _; omega) (by show pot h16 s2.cap ≤ _; unfold pot; rw [hu4']; unfold pot at c4; omega) (by show s2.ws.length ≤ _; omega)
      have ux4 := q4.uf k hWq
      have e36'' : fI h16 q 336 = 64 := (ux4.2.2.2.2.2 336).1.trans e36
      obtain ⟨tk1, tk2⟩ := ex_tok h1 (q4.ot k hT1 o1)
      have htk1 : tkN a < c.ts.length := Nat.lt_of_lt_of_le (TR.tk hT1 (OTG_0 o1)) hhi
      have htk2 : tkN a2 < c.ts.length := Nat.lt_of_lt_of_le (TR.tk hT2 (OTG_0 o2)) hhi
      refine KI.i ⟨fun _ => ⟨p1, (ux4.2.2.2.2.2 337).2.2.trans f1, tk1, ?_⟩, fun z => absurd e36'' z⟩
      rw [tk2]
      refine C.mono ((Rn.same (d := 0) (i := 0) (j := 3) k q4' rfl rfl htk1 (hb.le (by omega))).up (by omega)) ?_
      rintro o h28 (⟨⟨γ0, u0, hu0⟩, rfl, τ5, -, q5⟩ | ⟨hno, z1, x, rfl, z3, z4⟩)
      · have hc : ∃ γ α τ, P γ (tList α) ∧ Q γ τ := by
          obtain ⟨⟨w, rfl, w2, α, rfl, u1, v, rfl, ⟨v', rfl, hp⟩, hq⟩, hx⟩ := hu0
          have hx' : some v' = some (tList α) := hx
          rw [Option.some.inj hx'] at hp
          exact ⟨γ0, α, v, hp, hq⟩
        rw [eqE_y hc, bE_ok]
        have ux5 := q5.uf k hWq
        obtain ⟨tk3, tk4⟩ := ex_tok h2 (q5.ot k hT2 o2)
        refine KV.i ⟨p2, (ux5.2.2.2.2.2 338).2.2.trans f2, tk3, ?_⟩
        rw [tk4]
        refine C.mono ((Rn.same (d := 0) (i := 1) (j := 3) k q5 rfl rfl htk2 (hb.le (by omega))).up (by omega)) ?_
        rintro o h33 (⟨⟨γ1, u1, hu1⟩, rfl, τ6, -, q6⟩ | ⟨hno, z1, x, rfl, z3, z4⟩)
        · have hc : ∃ γ α, P γ (tList α) ∧ Q γ (tList α) := by
            obtain ⟨⟨⟨w, rfl, w2, α, rfl, u1, v, rfl, ⟨v', rfl, hp⟩, hq⟩, hx⟩, hy⟩ := hu1
            have hx' : some v' = some (tList α) := hx
            have hy' : some v = some (tList α) := hy
            rw [Option.some.inj hx'] at hp
            rw [Option.some.inj hy'] at hq
            exact ⟨γ1, α, hp, hq⟩
          rw [eqE_y hc, bE_ok, bE_ok]
          refine KV.i (Rn.fin (i := 3) (q6.wk (b' := 2 * (nw a + nw a2 + 1) - 1) (by omega) fun t ht => ht) rfl (Nat.le_refl _) (fun γ v => ⟨?_, ?_⟩) ?_ e2)
          · rintro ⟨-, α, rfl, hp, hq⟩
            exact ⟨_, ⟨⟨⟨_, rfl, _, α, rfl, _, _, rfl, ⟨_, rfl, hp⟩, hq⟩, rfl⟩, rfl⟩, rfl⟩
          · rintro ⟨u, ⟨⟨⟨w, rfl, w2, α, rfl, u1, v1, rfl, ⟨v', rfl, hp⟩, hq⟩, hx⟩, hy⟩, hv⟩
            have hx' : some v' = some (tList α) := hx
            have hy' : some v1 = some (tList α) := hy
            rw [Option.some.inj hx'] at hp
            rw [Option.some.inj hy'] at hq
            have hv' : some (tList α) = some v := hv
            cases hv'
            exact ⟨rfl, α, rfl, hp, hq⟩
          · show s2.ws = _
            rw [w2, w1, ← wAll_ap]
        · have hc : ¬ ∃ γ α, P γ (tList α) ∧ Q γ (tList α) := fun ⟨γ, α, hp, hq⟩ => hno ⟨γ, _, ⟨⟨_, rfl, _, α, rfl, _, _, rfl, ⟨_, rfl, hp⟩, hq⟩, rfl⟩, rfl⟩
          rw [eqE_n hc, bE_er, bE_er]
          exact KV.t ⟨z1, x, rfl, z3, by omega⟩
      · have hc : ¬ ∃ γ α τ, P γ (tList α) ∧ Q γ τ := fun ⟨γ, α, τ, hp, hq⟩ => hno ⟨γ, _, ⟨_, rfl, _, α, rfl, _, _, rfl, ⟨_, rfl, hp⟩, hq⟩, rfl⟩
        rw [eqE_n hc, bE_er, bE_er]
        exact KV.t ⟨z1, x, rfl, z3, by omega⟩
end
