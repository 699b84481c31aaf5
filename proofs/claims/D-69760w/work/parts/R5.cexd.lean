/-! THE COMPONENT'S TYPER: conditions, pairs, lists before others -/
section
variable {G : Gh} {c : Cx} {P P0 : Nat → Prop} {s s1 s2 : Sx} {B B' : Nat → Prop} {us us' L : List Nat} {b b' b2 d n q lo hi rc' D t r1 r2 : Nat} {S S' : En → List Tr → Prop} {h h' : AH} {V : List Nat} {e x y a a2 a3 : Tr} {A1 : En → Prop}
/-- if -/
theorem ex_if (hE : ExI G c n) (h1 : sEx c.ts c.O c.N c.Ct c.Dt n 0 V s.rc a r1) (h2 : sEx c.ts c.O c.N c.Ct c.Dt n 0 V r1 a2 r2) (h3 : sEx c.ts c.O c.N c.Ct c.Dt n 0 V r2 a3 rc') (hT : TR lo hi (n3 14 t a a2 a3)) (hhi : hi ≤ c.ts.length) (ot : OTG (XA c.ts c.W c.O c.Z c.D s.h) c.W s.h (n3 14 t a a2 a3) 0 0 q) (k : XS G c P s) (hb : BdX c s (2 * nw (n3 14 t a a2 a3))) (hf : Frs s.h c.Z c.D s.E (bT (n3 14 t a a2 a3))) (hV : ∀ t, t ∈ V → ∃ σ, (t, σ) ∈ s.E) (hD : fw (n3 14 t a a2 a3) + 600 ≤ D + 1) : C G mX34_infer (D + 1) [.ref q, .ref (gW G 6)] s.h (ExQ G c P s (fun x => x ∈ bT (n3 14 t a a2 a3)) (2 * nw (n3 14 t a a2 a3) - 1) (eX (tW c.N c.Ct c.Dt (Vl c.ts) c.kn (n + 1)) (n3 14 t a a2 a3) (eA s.M s.t s.E)) (wW c.Ct c.Dt (Pl c.ts) (n + 1) 0 (n3 14 t a a2 a3)) rc') ∧ hK s.h q = 32 := by
  obtain ⟨hWq, hkq, -, oy⟩ := (OTG_nd (k := 14) (y := .add a (.add a2 a3)) (by decide)).mp ot
  have hk : hK s.h q = 32 := by simpa [kc] using hkq
  rw [OTG_c2 (by decide) (by decide)] at oy
  have oy2 := (OTG_c2 (by decide) (by decide)).mp oy.2
  obtain ⟨p1, f1, o1⟩ := OTG_f.mp oy.1
  obtain ⟨p2, f2, o2⟩ := OTG_f.mp oy2.1
  obtain ⟨p3, f3, o3⟩ := OTG_f.mp ((OTG_ef (m' := 1) (i' := 325) (by decide) (by decide)).mp oy2.2)
  refine ⟨?_, hk⟩
  have ew : nw (n3 14 t a a2 a3) = nw a + (nw a2 + nw a3) + 1 := by show 0 + (nw a + (nw a2 + nw a3)) + 1 = _; omega
  have efw : fw (n3 14 t a a2 a3) = max 0 (max (fw a) (max (fw a2) (fw a3))) + 1 := rfl
  have ebt : bT (n3 14 t a a2 a3) = bT a ++ (bT a2 ++ bT a3) := rfl
  have eww : wW c.Ct c.Dt (Pl c.ts) (n + 1) 0 (n3 14 t a a2 a3) = wW c.Ct c.Dt (Pl c.ts) n 0 a ++ (wW c.Ct c.Dt (Pl c.ts) n 0 a2 ++ wW c.Ct c.Dt (Pl c.ts) n 0 a3) := rfl
  have law : eX (tW c.N c.Ct c.Dt (Vl c.ts) c.kn (n + 1)) (n3 14 t a a2 a3) (eA s.M s.t s.E) = bE (bE (eX (tW c.N c.Ct c.Dt (Vl c.ts) c.kn n) a (eA s.M s.t s.E)) fun R => bE (eqE (tkN a) (∃ γ, R γ tBool) fun γ => R γ tBool) fun A1 => bE (eX (tW c.N c.Ct c.Dt (Vl c.ts) c.kn n) a2 A1) fun P => bE (eX (tW c.N c.Ct c.Dt (Vl c.ts) c.kn n) a3 fun γ => ∃ τ, P γ τ) fun Q => bE (eqE (tkN a3) (∃ γ τ, P γ τ ∧ Q γ τ) ()) fun _ => .ok fun γ γ' τ => γ' = γ ∧ P γ τ ∧ Q γ τ) fun R => .ok fun γ τ => R γ γ τ := rfl
  rw [law, eww, ebt, ew]
  rw [ew] at hb
  rw [efw] at hD
  rw [ebt] at hf
  have hn1 := sEx_nw h1 o1
  have hn2 := sEx_nw h2 o2
  have hn3 := sEx_nw h3 o3
  have hT1 : TR lo hi a := hT.2.2.2.1
  have hT2 : TR lo hi a2 := hT.2.2.2.2.1
  have hT3 : TR lo hi a3 := hT.2.2.2.2.2
  obtain ⟨k1, ν1, v1, v2, v3⟩ := hE P a p1 lo hi r1 D V s h1 hT1 hhi o1 k (hb.le (by omega)) hf.l hV (by omega)
  refine bX34_infer G D s.h _ _ (k.sA.at (by decide)) (k.sA.at (by decide)) ⟨hk, p1, f1, k1, ν1, v1, v2, C.mono v3 ?_⟩
  intro o h4 z
  unfold ExQ at z
  cases hr1 : eX (tW c.N c.Ct c.Dt (Vl c.ts) c.kn n) a (eA s.M s.t s.E) with
  | error f =>
    rw [hr1] at z
    obtain ⟨z1, x, rfl, z3, z4⟩ := z
    simp only [bE_er]
    exact KI.t ⟨z1.wk fun t ht => List.mem_append_left _ ht, x, rfl, z3, by omega⟩
  | ok R =>
    rw [hr1] at z
    obtain ⟨t1, s1, rfl, rfl, w1, e1, q1⟩ := z
    simp only [bE_ok]
    have x1 := q1.xs
    have ux1 := q1.uf k hWq
    have q1b := q1.add3 (i := 1) (u := tBool) (by decide) fun ρ hρ => (Sl0 x1.tt hρ).2.1
    obtain ⟨tk1, tk2⟩ := ex_tok h1 (q1.ot k hT1 o1)
    have htk1 : tkN a < c.ts.length := Nat.lt_of_lt_of_le (TR.tk hT1 (OTG_0 o1)) hhi
    refine KI.i ⟨p1, (ux1.2.2.2.2.2 323).2.2.trans f1, tk1, ?_⟩
    rw [x1.1.1.2.2.1.2.1, tk2]
    refine C.mono ((Rn.same (d := 0) (i := 0) (j := 1) k q1b rfl rfl htk1 (hb.le (by omega))).up (by omega)) ?_
    rintro o h10 (⟨⟨γ0, u0, hu0⟩, rfl, τ2, -, q2⟩ | ⟨hno, z1, x, rfl, z3, z4⟩)
    · have hc : ∃ γ, R γ tBool := by
        obtain ⟨⟨w, ⟨v, rfl, hv⟩, rfl⟩, hx⟩ := hu0
        have hx' : some v = some tBool := hx
        rw [Option.some.inj hx'] at hv
        exact ⟨γ0, hv⟩
      rw [eqE_y hc, bE_ok]
      -- the environments that are left
      have q2' := (q2.prj (us' := []) (fun _ => []) (fun t ht => (by cases ht)) (fun ρ _ => rfl)).imp (S' := fun γ u => R γ tBool ∧ u = []) fun γ u => ⟨fun ⟨v, ⟨⟨w, ⟨v', e1, hv⟩, e2⟩, hx⟩, e3⟩ => by
          subst e1 e2 e3
          have hx' : some v' = some tBool := hx
          rw [Option.some.inj hx'] at hv
          exact ⟨hv, rfl⟩, fun ⟨hv, e⟩ => ⟨_, ⟨⟨_, ⟨_, rfl, hv⟩, rfl⟩, rfl⟩, e.symm⟩⟩
      obtain ⟨k2, ν2, v1, v2, v3⟩ := q2'.exp (D := D) (L := bT a) (A1 := fun γ => R γ tBool) hE k (by show sEx c.ts c.O c.N c.Ct c.Dt n 0 V s1.rc a2 r2; rw [e1]; exact h2) hT2 hhi o2 (hb.le (by omega)) (by rw [← List.append_assoc] at hf; exact hf.l) hV (by omega) fun γ => ⟨fun h => ⟨_, h, rfl⟩, fun ⟨_, h, _⟩ => h⟩
      have ux2 := q2.uf k hWq
      refine KV.i ⟨p2, (ux2.2.2.2.2.2 324).2.2.trans f2, k2, ν2, v1, v2, C.mono v3 ?_⟩
      intro o h14 z
      cases hr2 : eX (tW c.N c.Ct c.Dt (Vl c.ts) c.kn n) a2 (fun γ => R γ tBool) with
      | error f =>
        rw [hr2] at z
        obtain ⟨z1, x, rfl, z3, z4⟩ := z
        simp only [bE_er]
        exact KI.t ⟨z1.wk fun t ht => by rw [← List.append_assoc]; exact List.mem_append_left _ ht, x, rfl, z3, by omega⟩
      | ok P =>
        rw [hr2] at z
        obtain ⟨t2, s3, rfl, rfl, w3, e3, q3, hPA⟩ := z
        simp only [bE_ok]
        have ux3 := q3.uf k hWq
        obtain ⟨k3, ν3, v1, v2, v3⟩ := q3.exp (D := D) (L := bT a ++ bT a2) (A1 := fun γ => ∃ τ, P γ τ) hE k (by rw [e3]; exact h3) hT3 hhi o3 (hb.le (by omega)) (by rw [List.append_assoc]; exact hf) hV (by omega) fun γ => ⟨fun ⟨τ, h⟩ => ⟨_, [], τ, rfl, ⟨hPA γ τ h, rfl⟩, h⟩, fun ⟨_, _, τ, _, _, h⟩ => ⟨τ, h⟩⟩
        refine KI.i ⟨p3, (ux3.2.2.2.2.2 325).2.2.trans f3, k3, ν3, v1, v2, C.mono v3 ?_⟩
        intro o h19 z
        cases hr3 : eX (tW c.N c.Ct c.Dt (Vl c.ts) c.kn n) a3 (fun γ => ∃ τ, P γ τ) with
        | error f =>
          rw [hr3] at z
          obtain ⟨z1, x, rfl, z3, z4⟩ := z
          simp only [bE_er]
          exact KI.t ⟨z1.wk fun t ht => by rw [← List.append_assoc]; exact ht, x, rfl, z3, by omega⟩
        | ok Q =>
          rw [hr3] at z
          obtain ⟨t3, s4, rfl, rfl, w4, e4, q4, hQA⟩ := z
          simp only [bE_ok]
          have ux4 := q4.uf k hWq
          obtain ⟨tk3, tk4⟩ := ex_tok h3 (q4.ot k hT3 o3)
          have htk3 : tkN a3 < c.ts.length := Nat.lt_of_lt_of_le (TR.tk hT3 (OTG_0 o3)) hhi
          refine KI.i ⟨p3, (ux4.2.2.2.2.2 325).2.2.trans f3, tk3, ?_⟩
          rw [tk4]
          refine C.mono ((Rn.same (d := 0) (i := 1) (j := 0) k q4 rfl rfl htk3 (hb.le (by omega))).up (by omega)) ?_
          rintro o h25 (⟨⟨γ0, u0, hu0⟩, rfl, τ5, -, q5⟩ | ⟨hno, z1, x, rfl, z3, z4⟩)
          · have hc : ∃ γ τ, P γ τ ∧ Q γ τ := by
              obtain ⟨⟨u1, v, rfl, ⟨u2, v', rfl, ⟨-, rfl⟩, hp⟩, hq⟩, hx⟩ := hu0
              have hx' : some v = some v' := hx
              rw [Option.some.inj hx'] at hq
              exact ⟨γ0, v', hp, hq⟩
            rw [eqE_y hc, bE_ok]
            refine KV.i (Rn.fin (i := 0) (q5.wk (b' := 2 * (nw a + (nw a2 + nw a3) + 1) - 1) (by omega) fun t ht => by rw [← List.append_assoc]; exact ht) rfl (Nat.le_refl _) (fun γ v => ⟨?_, ?_⟩) ?_ e4)
            · rintro ⟨-, hp, hq⟩
              exact ⟨_, ⟨⟨_, v, rfl, ⟨_, v, rfl, ⟨hPA γ v hp, rfl⟩, hp⟩, hq⟩, rfl⟩, rfl⟩
            · rintro ⟨u, ⟨⟨u1, v1, rfl, ⟨u2, v', rfl, ⟨-, rfl⟩, hp⟩, hq⟩, hx⟩, hv⟩
              have hx' : some v1 = some v' := hx
              rw [Option.some.inj hx'] at hq
              have hv' : some v' = some v := hv
              cases hv'
              exact ⟨rfl, hp, hq⟩
            · show s4.ws = _
              rw [w4, w3]
              show wAll (wAll s1.ws _) _ = _
              rw [w1, ← wAll_ap, ← wAll_ap]
          · have hc : ¬ ∃ γ τ, P γ τ ∧ Q γ τ := fun ⟨γ, τ, hp, hq⟩ => hno ⟨γ, _, ⟨_, τ, rfl, ⟨_, τ, rfl, ⟨hPA γ τ hp, rfl⟩, hp⟩, hq⟩, rfl⟩
            rw [eqE_n hc, bE_er]
            exact KV.t ⟨z1.wk fun t ht => by rw [← List.append_assoc]; exact ht, x, rfl, z3, by omega⟩
    · have hc : ¬ ∃ γ, R γ tBool := fun ⟨γ, h⟩ => hno ⟨γ, _, ⟨_, ⟨_, rfl, h⟩, rfl⟩, rfl⟩
      rw [eqE_n hc, bE_er, bE_er]
      exact KV.t ⟨z1.wk fun t ht => List.mem_append_left _ ht, x, rfl, z3, by omega⟩
end
