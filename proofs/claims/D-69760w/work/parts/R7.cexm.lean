/-! THE COMPONENT'S TYPER: lists, lists before others -/
section
variable {G : Gh} {c : Cx} {P P0 : Nat → Prop} {s s1 s2 : Sx} {B B' : Nat → Prop} {us us' L : List Nat} {b b' b2 d n q lo hi rc' D t r1 r2 arr : Nat} {S S' : En → List Tr → Prop} {h h' : AH} {V : List Nat} {e x y a a2 a3 : Tr} {A1 : En → Prop} {l : List Tr} {R : En → Tr → Prop}
/-- a node that has one part: the node t1 -/
theorem Rn.n1 {t1 : Nat} {v : Int32} {F : Tr → Tr} (hF : ∀ x, F x = gt v.toInt [x]) (hv : 0 ≤ v.toInt) (k : XS G c P0 s) (r : Rn G c P s B s1 [t1] b (fun γ u => ∃ w, u = [w] ∧ R γ w)) (hb : BdX c s (b + 1)) (hn : NmT G s1.h v.toInt 1) : C G mX3_built_3 (d + 1) [.ref (gW G 2), .int v, .int (nI t1)] s1.h (fun o h' => ∃ t2 τ2, o = .returned (some (.int (nI t2))) ∧ un h' = un s1.h ∧ Rn G c P s B (h', s1.M + 1, s1.Pn + 1, τ2, s1.m, s1.E, s1.cap, s1.rc, s1.ws) [t1, t2] (b + 1) (fun γ u => ∃ w, u = [w, F w] ∧ R γ w)) := by
  obtain ⟨u1, u2, u3, u4, u5⟩ := hb
  obtain ⟨⟨c1, c2, c3⟩, c4, c5⟩ := r.cnt
  refine C.use (o_b1 (d := d) (v := v) k.hD r.xs.tt (by omega) (by omega) (r.2.1.2.2.1 t1 (List.mem_cons_self ..)) hn) (by decide) ?_
  rintro _ h6 ⟨rfl, τ2, g2, hN2, hP2⟩ l2 -
  have r2 := r.nd k (l2.weak (by decide +kernel)) g2 hN2 hP2 hv (show 1 ≤ 6 by decide) (fun w => w) (fun ρ _ => rfl)
  refine ⟨s1.M, τ2, rfl, g2.1.2.1, r2.imp fun γ u => ⟨?_, ?_⟩⟩
  · rintro ⟨w, rfl, w', rfl, h1⟩
    exact ⟨w', by rw [hF]; rfl, h1⟩
  · rintro ⟨w, rfl, h1⟩
    exact ⟨[w], by rw [hF]; rfl, w, rfl, h1⟩
theorem lst_38 (hE : ExI G c n) (k : XS G c P s) (hhi : hi ≤ c.ts.length) (hWq : c.W q) (hk : hK s.h q = 40) (eA' : ArF c.W s.h q 333 arr) (hla : hL s.h arr = l.length) (hll : l.length < 100000) (tg : TG (XA c.ts c.W c.O c.Z c.D s.h) c.W s.h (aR s.h arr) l) (hTl : ∀ y, y ∈ l → TR lo hi y) (hV : ∀ t, t ∈ V → ∃ σ, (t, σ) ∈ s.E) (hD : ∀ y, y ∈ l → fw y + 600 ≤ D) (hD2 : 600 ≤ D) : ∀ (l2 l1 : List Tr) (t1 b : Nat) (s1 : Sx) (L : List Nat) (R : En → Tr → Prop) (w : List (Nat × Nat)), l = l1 ++ l2 → Rn G c P s (fun t => t ∈ L) s1 [t1] b (fun γ u => ∃ v, u = [v] ∧ R γ v) → sLn (fun rc e rc' => sEx c.ts c.O c.N c.Ct c.Dt n 0 V rc e rc') l2 s1.rc rc' → BdX c s (b + 2 * nw (ls l2) + 1) → Frs s.h c.Z c.D s.E (L ++ bT (ls l2)) → s1.ws = wAll s.ws w →
    X G mX43_infer (D + 1) none [] 38 [(0, .ref q), (1, .ref (gW G 6)), (2, .int (nI t1)), (3, .int (nI l1.length))] [] s1.h (ExQ G c P s (fun x => x ∈ L ++ bT (ls l2)) (b + 2 * nw (ls l2) + 1) (bE (tSm (tW c.N c.Ct c.Dt (Vl c.ts) c.kn n) l2 R) fun R => .ok fun γ τ => γ = γ ∧ ∃ α, τ = tList α ∧ R γ α) (w ++ (l2.map (wW c.Ct c.Dt (Pl c.ts) n 0)).flatten) rc') := by
  intro l2
  induction l2 with
  | nil =>
    intro l1 t1 b s1 L R w he r hs hb hf hw
    rw [List.append_nil] at he
    have ux := r.uf k hWq
    have ua := r.uf k eA'.2.2
    refine bX43_infer_38 G D s1.h _ _ _ _ (r.xs.sA.at (by decide)) (r.xs.sA.at (by decide)) ⟨ux.1.trans hk, arr, (ux.2.2.2.2.2 333).2.2.trans eA'.1, ua.1.trans eA'.2.1, ?_⟩
    rw [ua.2.1, hla, show Int32.ofNat l.length = nI l.length from rfl, nI_leI (by omega) (by rw [← he]; omega)]
    refine ⟨fun _ => ?_, fun z => absurd (by rw [← he]; exact Nat.le_refl _) z⟩
    refine C.mono ((Rn.n1 (d := 0) (v := 10) (F := tList) (fun _ => rfl) (by decide) k r (hb.le (by omega)) r.xs.1.1.2.1.2.2.1).up (by omega)) ?_
    rintro _ h6 ⟨t2, τ2, rfl, hu, q2⟩
    show KI (ExQ G c P s _ _ (.ok fun γ τ => γ = γ ∧ ∃ α, τ = tList α ∧ R γ α) _ _) _ _ _
    refine KI.i (Rn.fin (i := 1) (q2.wk (Nat.le_refl _) fun t ht => List.mem_append_left _ ht) rfl (by omega) (fun γ v => ⟨?_, ?_⟩) (by show s1.ws = wAll s.ws (w ++ []); rw [hw, List.append_nil]) hs.symm)
    · rintro ⟨-, α, rfl, h1⟩
      exact ⟨_, ⟨α, rfl, h1⟩, rfl⟩
    · rintro ⟨u, ⟨α, rfl, h1⟩, h2⟩
      cases h2
      exact ⟨rfl, α, rfl, h1⟩
  | cons x l2 IH =>
    intro l1 t1 b s1 L R w he r hs hb hf hw
    have hj : l[l1.length]? = some x := by rw [he, List.getElem?_append_right (Nat.le_refl _), Nat.sub_self]; rfl
    have hjl := (List.getElem?_eq_some_iff.mp hj).1
    have hx := List.mem_of_getElem? hj
    obtain ⟨p, fp, op⟩ := tg _ x hj
    obtain ⟨r1, hs1, hs2⟩ := hs
    have ux := r.uf k hWq
    have ua := r.uf k eA'.2.2
    have ew : nw (ls (x :: l2)) = nw x + nw (ls l2) := rfl
    have hn := sEx_nw hs1 op
    rw [ew] at hb ⊢
    have ebt : bT (ls (x :: l2)) = bT x ++ bT (ls l2) := rfl
    rw [ebt, ← List.append_assoc] at hf ⊢
    refine bX43_infer_38 G D s1.h _ _ _ _ (r.xs.sA.at (by decide)) (r.xs.sA.at (by decide)) ⟨ux.1.trans hk, arr, (ux.2.2.2.2.2 333).2.2.trans eA'.1, ua.1.trans eA'.2.1, ?_⟩
    rw [ua.2.1, hla, show Int32.ofNat l.length = nI l.length from rfl, nI_leI (by omega) (by omega)]
    obtain ⟨k2, ν2, v1, v2, v3⟩ := r.exp (D := D) (A1 := fun γ => ∃ τ, R γ τ) hE k hs1 (hTl x hx) hhi op (hb.le (by omega)) hf.l hV (hD x hx) fun γ => ⟨fun ⟨τ, h⟩ => ⟨_, τ, rfl, h⟩, fun ⟨_, τ, _, h⟩ => ⟨τ, h⟩⟩
    refine ⟨fun z => by omega, fun _ => ⟨arr, (ux.2.2.2.2.2 333).2.2.trans eA'.1, ua.1.trans eA'.2.1, by rw [ua.2.1, hla]; exact vp_i hjl (by omega), p, by rw [nI_cn (by omega), ua.2.2.2.2.1]; exact fp, k2, ν2, v1, v2, C.mono v3 ?_⟩⟩
    intro o h12 z
    have law : bE (tSm (tW c.N c.Ct c.Dt (Vl c.ts) c.kn n) (x :: l2) R) (fun R => .ok fun γ τ => γ = γ ∧ ∃ α, τ = tList α ∧ R γ α) = bE (eX (tW c.N c.Ct c.Dt (Vl c.ts) c.kn n) x fun γ => ∃ τ, R γ τ) fun Q => bE (eqE (tkN x) (∃ γ τ, R γ τ ∧ Q γ τ) fun γ τ => R γ τ ∧ Q γ τ) fun R' => bE (tSm (tW c.N c.Ct c.Dt (Vl c.ts) c.kn n) l2 R') fun R => .ok fun γ τ => γ = γ ∧ ∃ α, τ = tList α ∧ R γ α := by
      refine bE_as.trans ?_
      congr 1
      funext Q
      exact bE_as
    rw [law]
    cases hr : eX (tW c.N c.Ct c.Dt (Vl c.ts) c.kn n) x (fun γ => ∃ τ, R γ τ) with
    | error f =>
      rw [hr] at z
      obtain ⟨z1, y, rfl, z3, z4⟩ := z
      rw [bE_er]
      exact KI.t ⟨z1.wk fun t ht => List.mem_append_left _ ht, y, rfl, z3, by omega⟩
    | ok Q =>
      rw [hr] at z
      obtain ⟨t2, s2, rfl, rfl, w2, e2, q2, hQA⟩ := z
      rw [bE_ok]
      have ux2 := q2.uf k hWq
      have ua2 := q2.uf k eA'.2.2
      obtain ⟨tk1, tk2⟩ := ex_tok hs1 (q2.ot k (hTl x hx) op)
      have htk : tkN x < c.ts.length := Nat.lt_of_lt_of_le (TR.tk (hTl x hx) (OTG_0 op)) hhi
      refine KI.i ⟨arr, (ux2.2.2.2.2.2 333).2.2.trans eA'.1, ua2.1.trans eA'.2.1, by rw [ua2.2.1, hla]; exact vp_i hjl (by omega), p, by rw [nI_cn (by omega), ua2.2.2.2.2.1]; exact fp, tk1, ?_⟩
      rw [tk2]
      refine C.mono ((Rn.same (d := 0) (i := 1) (j := 0) k q2 rfl rfl htk (hb.le (by omega))).up (by omega)) ?_
      rintro o h25 (⟨⟨γ0, u0, hu0⟩, rfl, τ5, -, q5⟩ | ⟨hno, z1, y, rfl, z3, z4⟩)
      · have hc : ∃ γ τ, R γ τ ∧ Q γ τ := by
          obtain ⟨⟨u1, v, rfl, ⟨v', rfl, hp⟩, hq⟩, hx'⟩ := hu0
          have hx' : some v = some v' := hx'
          rw [Option.some.inj hx'] at hq
          exact ⟨γ0, v', hp, hq⟩
        rw [eqE_y hc, bE_ok]
        refine KV.i ?_
        rintro _ rfl
        rw [nI_1]
        have q6 := (q5.prj (us' := [t1]) (fun u => u.take 1) (fun z hz => Or.inl (List.mem_append_left _ hz)) (fun ρ _ => rfl)).imp (S' := fun γ u => ∃ v, u = [v] ∧ (R γ v ∧ Q γ v)) fun γ u => ⟨fun ⟨v, ⟨⟨u1, v1, e1, ⟨v', e2, hp⟩, hq⟩, hx'⟩, e3⟩ => by
            subst e2 e1 e3
            have hx' : some v1 = some v' := hx'
            rw [Option.some.inj hx'] at hq
            exact ⟨v', rfl, hp, hq⟩, fun ⟨v, e, hp, hq⟩ => ⟨_, ⟨⟨_, v, rfl, ⟨v, rfl, hp⟩, hq⟩, rfl⟩, e.symm⟩⟩
        have ih := IH (l1 ++ [x]) t1 _ _ (L ++ bT x) (fun γ τ => R γ τ ∧ Q γ τ) (w ++ wW c.Ct c.Dt (Pl c.ts) n 0 x) (by rw [he, List.append_assoc]; rfl) q6 (by show sLn _ l2 s2.rc rc'; rw [e2]; exact hs2) (hb.le (by omega)) hf (by show s2.ws = _; rw [w2, hw, ← wAll_ap])
        rw [List.length_append, List.append_assoc w] at ih
        exact X.mono ih fun o h' z => z.wk (by omega) fun _ h => h
      · have hc : ¬ ∃ γ τ, R γ τ ∧ Q γ τ := fun ⟨γ, τ, hp, hq⟩ => hno ⟨γ, _, ⟨_, τ, rfl, ⟨τ, rfl, hp⟩, hq⟩, rfl⟩
        rw [eqE_n hc, bE_er]
        exact KV.t ⟨z1.wk fun t ht => List.mem_append_left _ ht, y, rfl, z3, by omega⟩
/-- a list -/
theorem ex_lst (hE : ExI G c n) (hs : sLn (fun rc e rc' => sEx c.ts c.O c.N c.Ct c.Dt n 0 V rc e rc') l s.rc rc') (hT : TR lo hi (n1 10 t (ls l))) (hhi : hi ≤ c.ts.length) (ot : OTG (XA c.ts c.W c.O c.Z c.D s.h) c.W s.h (n1 10 t (ls l)) 0 0 q) (k : XS G c P s) (hb : BdX c s (2 * nw (n1 10 t (ls l)))) (hf : Frs s.h c.Z c.D s.E (bT (n1 10 t (ls l)))) (hV : ∀ t, t ∈ V → ∃ σ, (t, σ) ∈ s.E) (hD : fw (n1 10 t (ls l)) + 600 ≤ D + 1) : C G mX43_infer (D + 1) [.ref q, .ref (gW G 6)] s.h (ExQ G c P s (fun x => x ∈ bT (n1 10 t (ls l))) (2 * nw (n1 10 t (ls l)) - 1) (eX (tW c.N c.Ct c.Dt (Vl c.ts) c.kn (n + 1)) (n1 10 t (ls l)) (eA s.M s.t s.E)) (wW c.Ct c.Dt (Pl c.ts) (n + 1) 0 (n1 10 t (ls l))) rc') ∧ hK s.h q = 40 := by
  obtain ⟨hWq, hkq, -, oy⟩ := (OTG_nd (k := 10) (by decide)).mp ot
  have hk : hK s.h q = 40 := by simpa [kc] using hkq
  obtain ⟨arr, eA', hla, tg⟩ := OTG_arr.mp ((OTG_ef (m' := 21) (i' := 333) (by decide) (by decide)).mp oy)
  refine ⟨?_, hk⟩
  have hll := nw_len l _ tg
  have ew : nw (n1 10 t (ls l)) = nw (ls l) + 1 := by show 0 + nw (ls l) + 1 = _; omega
  have efw : fw (n1 10 t (ls l)) = max 0 (fw (ls l)) + 1 := rfl
  have ebt : bT (n1 10 t (ls l)) = bT (ls l) := rfl
  have eww : wW c.Ct c.Dt (Pl c.ts) (n + 1) 0 (n1 10 t (ls l)) = (l.map (wW c.Ct c.Dt (Pl c.ts) n 0)).flatten := by
    have : wW c.Ct c.Dt (Pl c.ts) (n + 1) 0 (n1 10 t (ls l)) = ((unl (ls l)).map (wW c.Ct c.Dt (Pl c.ts) n 0)).flatten := rfl
    rw [this, unl_ls]
  rw [eww, ebt, ew]
  rw [ew] at hb
  rw [efw] at hD
  rw [ebt] at hf
  obtain ⟨u1, u2, u3, u4, u5⟩ := id hb
  cases l with
  | nil =>
    have hl0 : hL s.h arr = 0 := hla
    have law : eX (tW c.N c.Ct c.Dt (Vl c.ts) c.kn (n + 1)) (n1 10 t (ls [])) (eA s.M s.t s.E) = .ok fun γ τ => eA s.M s.t s.E γ ∧ γ = γ ∧ ∃ α, τ = tList α := rfl
    rw [law]
    refine bX43_infer G D s.h _ _ (k.sA.at (by decide)) (k.sA.at (by decide)) ⟨hk, arr, eA'.1, eA'.2.1, fun _ => ?_, fun z => absurd (by rw [hl0]; rfl) z⟩
    refine C.use ((o_var (d := 0) k.hD k.tt (by omega)).up (show 1 ≤ D by omega)) (by decide) ?_
    rintro _ h3 ⟨rfl, τ1, g1, hN1, hP1⟩ l1 -
    have lm1 : Lm (gW G) MI s.h h3 none := l1.weak (by decide +kernel)
    have q1 := (Rn.rf (B := fun x => x ∈ bT (ls [])) k).var k lm1 g1 hN1
    have q2 := q1.imp (S' := fun γ u => ∃ w, u = [w] ∧ eA s.M s.t s.E γ) fun γ u => ⟨fun ⟨w, v, e, h1, h2⟩ => ⟨v, by rw [e, h2]; rfl, h1⟩, fun ⟨w, e, h1⟩ => ⟨[], w, e, h1, rfl⟩⟩
    have hz : nw (ls []) = 0 := rfl
    refine KI.i (C.mono ((Rn.n1 (d := 0) (v := 10) (F := tList) (fun _ => rfl) (by decide) k q2 (hb.le (by omega)) q2.xs.1.1.2.1.2.2.1).up (by omega)) ?_)
    rintro _ h6 ⟨t2, τ2, rfl, hu, q3⟩
    have g1u : pot h6 s.cap = pot s.h s.cap := by
      have hu' : un h6 = un h3 := hu
      unfold pot
      rw [hu', g1.1.2.1]
    have q4 := q3.mb (b' := 1) (by show s.M + 1 + 1 ≤ _; omega) (by show s.Pn + 0 + 1 ≤ _; omega) (by show s.m ≤ _; omega) (by show pot h6 s.cap ≤ _; omega) (by show s.ws.length ≤ _; omega)
    refine KI.i (Rn.fin (i := 1) q4 rfl (by omega) (fun γ v => ⟨?_, ?_⟩) rfl hs.symm)
    · rintro ⟨h1, -, α, rfl⟩
      exact ⟨_, ⟨α, rfl, h1⟩, rfl⟩
    · rintro ⟨u, ⟨α, rfl, h1⟩, h2⟩
      cases h2
      exact ⟨h1, rfl, α, rfl⟩
  | cons x l =>
    obtain ⟨r1, hs1, hs2⟩ := hs
    obtain ⟨p, fp, op⟩ := tg 0 x rfl
    have hTx : TR lo hi x := TR.ls_at hT.2.2.2 x (List.mem_cons_self ..)
    have ewl : nw (ls (x :: l)) = nw x + nw (ls l) := rfl
    have hfx := fw_mem (x :: l) x (List.mem_cons_self ..)
    have hn := sEx_nw hs1 op
    have ebl : bT (ls (x :: l)) = bT x ++ bT (ls l) := rfl
    rw [ewl] at hb ⊢
    rw [ebl] at hf ⊢
    rw [ewl] at u1
    have hlx : (x :: l).length = l.length + 1 := rfl
    have law : eX (tW c.N c.Ct c.Dt (Vl c.ts) c.kn (n + 1)) (n1 10 t (ls (x :: l))) (eA s.M s.t s.E) = bE (eX (tW c.N c.Ct c.Dt (Vl c.ts) c.kn n) x (eA s.M s.t s.E)) fun R => bE (tSm (tW c.N c.Ct c.Dt (Vl c.ts) c.kn n) l R) fun R => .ok fun γ τ => γ = γ ∧ ∃ α, τ = tList α ∧ R γ α := by
      have : eX (tW c.N c.Ct c.Dt (Vl c.ts) c.kn (n + 1)) (n1 10 t (ls (x :: l))) (eA s.M s.t s.E) = bE (bE (eX (tW c.N c.Ct c.Dt (Vl c.ts) c.kn n) x (eA s.M s.t s.E)) fun R => bE (tSm (tW c.N c.Ct c.Dt (Vl c.ts) c.kn n) (unl (ls l)) R) fun R => .ok fun γ γ' τ => γ' = γ ∧ ∃ α, τ = tList α ∧ R γ α) fun R => .ok fun γ τ => R γ γ τ := rfl
      rw [this, unl_ls, bE_as]
      congr 1
      funext R
      exact bE_as
    rw [law]
    obtain ⟨k2, ν2, v1, v2, v3⟩ := hE P x p lo hi r1 D V s hs1 hTx hhi op k (hb.le (by omega)) hf.l hV (by omega)
    refine bX43_infer G D s.h _ _ (k.sA.at (by decide)) (k.sA.at (by decide)) ⟨hk, arr, eA'.1, eA'.2.1, fun z => ?_, fun _ => ⟨arr, eA'.1, eA'.2.1, by rw [hla]; exact vp_i (n := 0) (by omega) (by decide), p, fp, k2, ν2, v1, v2, C.mono v3 ?_⟩⟩
    · rw [hla] at z
      exact absurd z (nI_ne0 (by omega) (by omega))
    intro o h12 z
    unfold ExQ at z
    cases hr : eX (tW c.N c.Ct c.Dt (Vl c.ts) c.kn n) x (eA s.M s.t s.E) with
    | error f =>
      rw [hr] at z
      obtain ⟨z1, y, rfl, z3, z4⟩ := z
      show KI (ExQ G c P s _ _ (.error f) _ _) _ _ _
      exact KI.t ⟨z1.wk fun t ht => List.mem_append_left _ ht, y, rfl, z3, by omega⟩
    | ok Q =>
      rw [hr] at z
      obtain ⟨t2, s2, rfl, rfl, w2, e2, q2⟩ := z
      refine KI.i ?_
      have := lst_38 (D := D) (rc' := rc') hE k hhi hWq hk eA' hla (by omega) tg (fun y hy => TR.ls_at hT.2.2.2 y hy) hV (fun y hy => by have := fw_mem (x :: l) y hy; omega) (by omega) l [x] t2 _ s2 (bT x) Q (wW c.Ct c.Dt (Pl c.ts) n 0 x) rfl q2 (by rw [e2]; exact hs2) (hb.le (by omega)) hf w2
      exact X.mono this fun o h' z => z.wk (by omega) fun _ h => h
end
