/-! THE COMPONENT'S TYPER: arguments, chains of signs -/
section
variable {G : Gh} {c : Cx} {P P0 : Nat → Prop} {s s1 s2 : Sx} {B B' : Nat → Prop} {us us' L : List Nat} {b b' b2 d n q lo hi rc' D t r1 r2 arr : Nat} {S S' : En → List Tr → Prop} {h h' : AH} {V : List Nat} {e x y a a2 a3 : Tr} {A1 : En → Prop} {l : List Tr} {R Q : En → Tr → Prop}
theorem Rn.cvK (k : XS G c P0 s) (r : Rn G c P s B s1 us b S) (hb : BdX c s b) (hM : s1.M + 1 ≤ s.M + 8 * b) : C G mX3_variable (d + 1) [.ref (gW G 2)] s1.h (fun o h' => ∃ τ2, o = .returned (some (.int (nI s1.M))) ∧ un h' = un s1.h ∧ Rn G c P s B (h', s1.M + 1, s1.Pn + 0, τ2, s1.m, s1.E, s1.cap, s1.rc, s1.ws) (us ++ [s1.M]) b (fun γ u => ∃ w v, u = w ++ [v] ∧ S γ w)) := by
  obtain ⟨u1, u2, u3, u4, u5⟩ := hb
  obtain ⟨⟨c1, c2, c3⟩, c4, c5⟩ := r.cnt
  refine C.use (o_var (d := d) k.hD r.xs.tt (by omega)) (by decide) ?_
  rintro _ h6 ⟨rfl, τ2, g2, hN2, hP2⟩ l2 -
  refine ⟨τ2, rfl, g2.1.2.1, (r.var k (l2.weak (by decide +kernel)) g2 hN2).mb hM (by show s1.Pn + 0 ≤ _; omega) (by show s1.m ≤ _; omega) ?_ (by show s1.ws.length ≤ _; omega)⟩
  show pot h6 s1.cap ≤ _
  have : pot h6 s1.cap = pot s1.h s1.cap := by unfold pot; rw [g2.1.2.1]
  omega
theorem Rn.cbK {v : Int32} {a i : Nat} {F : Tr → Tr} (hF : ∀ x, F x = gt v.toInt [x]) (hv : 0 ≤ v.toInt) (k : XS G c P0 s) (r : Rn G c P s B s1 us b S) (hi : us[i]? = some a) (hb : BdX c s b) (hM : s1.M + 1 ≤ s.M + 8 * b) (hP : s1.Pn + 1 ≤ s.Pn + 8 * b) (hn : NmT G s1.h v.toInt 1) : C G mX3_built_3 (d + 1) [.ref (gW G 2), .int v, .int (nI a)] s1.h (fun o h' => ∃ τ2, o = .returned (some (.int (nI s1.M))) ∧ un h' = un s1.h ∧ Rn G c P s B (h', s1.M + 1, s1.Pn + 1, τ2, s1.m, s1.E, s1.cap, s1.rc, s1.ws) (us ++ [s1.M]) b (fun γ u => ∃ w, u = w ++ [F (w.getD i (.num 0))] ∧ S γ w)) := by
  obtain ⟨u1, u2, u3, u4, u5⟩ := hb
  obtain ⟨⟨c1, c2, c3⟩, c4, c5⟩ := r.cnt
  refine C.use (o_b1 (d := d) (v := v) k.hD r.xs.tt (by omega) (by omega) (r.2.1.2.2.1 a (List.mem_of_getElem? hi)) hn) (by decide) ?_
  rintro _ h6 ⟨rfl, τ2, g2, hN2, hP2⟩ l2 -
  have r2 := r.nd k (l2.weak (by decide +kernel)) g2 hN2 hP2 hv (show 1 ≤ 6 by decide) (fun w => [w.getD i (.num 0)]) (fun ρ _ => by
    show [ρ a] = [(us.map ρ).getD i _]
    rw [List.getD, List.getElem?_map, hi]
    rfl)
  have p6 : pot h6 s1.cap = pot s1.h s1.cap := by unfold pot; rw [g2.1.2.1]
  have r3 := r2.mb (b' := b) hM hP (by show s1.m ≤ _; omega) (by show pot h6 s1.cap ≤ _; omega) (by show s1.ws.length ≤ _; omega)
  refine ⟨τ2, rfl, g2.1.2.1, r3.imp fun γ u => ⟨?_, ?_⟩⟩
  · rintro ⟨w, rfl, h1⟩
    exact ⟨w, by rw [hF], h1⟩
  · rintro ⟨w, rfl, h1⟩
    exact ⟨w, by rw [hF], h1⟩
theorem Rn.cfK {a e i j : Nat} (k : XS G c P0 s) (r : Rn G c P s B s1 us b S) (hi : us[i]? = some a) (hj : us[j]? = some e) (hb : BdX c s b) (hM : s1.M + 1 ≤ s.M + 8 * b) (hP : s1.Pn + 2 ≤ s.Pn + 8 * b) : C G mX3_fun (d + 2) [.ref (gW G 2), .int (nI a), .int (nI e)] s1.h (fun o h' => ∃ τ2, o = .returned (some (.int (nI s1.M))) ∧ un h' = un s1.h ∧ Rn G c P s B (h', s1.M + 1, s1.Pn + 2, τ2, s1.m, s1.E, s1.cap, s1.rc, s1.ws) (us ++ [s1.M]) b (fun γ u => ∃ w, u = w ++ [tFun (w.getD i (.num 0)) (w.getD j (.num 0))] ∧ S γ w)) := by
  obtain ⟨u1, u2, u3, u4, u5⟩ := hb
  obtain ⟨⟨c1, c2, c3⟩, c4, c5⟩ := r.cnt
  refine C.use (o_fun (d := d) k.hD r.xs.tt (by omega) (by omega) (r.2.1.2.2.1 a (List.mem_of_getElem? hi)) (r.2.1.2.2.1 e (List.mem_of_getElem? hj)) r.xs.1.1.2.1.1) (by decide) ?_
  rintro _ h6 ⟨rfl, τ2, g2, hN2, hP2⟩ l2 -
  have r2 := r.nd k (l2.weak (by decide +kernel)) g2 hN2 hP2 (by decide) (show 2 ≤ 6 by decide) (fun w => [w.getD i (.num 0), w.getD j (.num 0)]) (fun ρ _ => by
    show [ρ a, ρ e] = [(us.map ρ).getD i _, (us.map ρ).getD j _]
    rw [List.getD, List.getElem?_map, hi, List.getD, List.getElem?_map, hj]
    rfl)
  have p6 : pot h6 s1.cap = pot s1.h s1.cap := by unfold pot; rw [g2.1.2.1]
  exact ⟨τ2, rfl, g2.1.2.1, r2.mb (b' := b) hM hP (by show s1.m ≤ _; omega) (by show pot h6 s1.cap ≤ _; omega) (by show s1.ws.length ≤ _; omega)⟩
theorem Rn.sameK {a e t i j : Nat} (k : XS G c P0 s) (r : Rn G c P s B s1 us b S) (hi : us[i]? = some a) (hj : us[j]? = some e) (ht : t < c.ts.length) (hb : BdX c s (b + 1)) (hm : s1.m + 2 ≤ s.m + 10 * b) : C G mX11_same (d + 6) [.ref (gW G 6), .int (nI a), .int (nI e), .int (nI t)] s1.h (fun o h' => ((∃ γ u, S γ u ∧ u[i]? = u[j]?) ∧ o = .returned none ∧ ∃ τ', un h' = un s1.h ∧ Rn G c P s B (h', s1.M, s1.Pn, τ', s1.m + 2, s1.E, s1.cap, s1.rc, s1.ws) us b (fun γ u => S γ u ∧ u[i]? = u[j]?)) ∨ ((¬ ∃ γ u, S γ u ∧ u[i]? = u[j]?) ∧ Ft G c s B b (5, t) o h')) := by
  obtain ⟨⟨c1, c2, c3⟩, c4, c5⟩ := r.cnt
  refine C.mono (Rn.same (d := d) k r hi hj ht hb) ?_
  rintro o h' (⟨h1, rfl, τ', hu, q⟩ | z)
  · refine Or.inl ⟨h1, rfl, τ', hu, q.mb c1 c2 hm ?_ c5⟩
    show pot h' s1.cap ≤ _
    have : pot h' s1.cap = pot s1.h s1.cap := by unfold pot; rw [hu]
    omega
  · exact Or.inr z
theorem ap_11 (hE : ExI G c n) (k : XS G c P s) (hhi : hi ≤ c.ts.length) (hWq : c.W q) (hk : hK s.h q = 41) (eA' : ArF c.W s.h q 335 arr) (hla : hL s.h arr = l.length) (hll : l.length < 100000) (tg : TG (XA c.ts c.W c.O c.Z c.D s.h) c.W s.h (aR s.h arr) l) (hTl : ∀ y, y ∈ l → TR lo hi y) (hV : ∀ t, t ∈ V → ∃ σ, (t, σ) ∈ s.E) (hD : ∀ y, y ∈ l → fw y + 600 ≤ D) (hD2 : 600 ≤ D) : ∀ (l2 l1 : List Tr) (t1 b : Nat) (s1 : Sx) (L : List Nat) (R : En → Tr → Prop) (w : List (Nat × Nat)), l = l1 ++ l2 → Rn G c P s (fun t => t ∈ L) s1 [t1] b (fun γ u => ∃ v, u = [v] ∧ R γ v) → sLn (fun rc e rc' => sEx c.ts c.O c.N c.Ct c.Dt n 0 V rc e rc') l2 s1.rc rc' → BdX c s (b + 2 * nw (ls l2) + 1) → Frs s.h c.Z c.D s.E (L ++ bT (ls l2)) → s1.ws = wAll s.ws w →
    X G mX44_infer (D + 1) none [] 11 [(0, .ref q), (1, .ref (gW G 6)), (2, .int (nI t1)), (3, .int (nI l1.length))] [] s1.h (ExQ G c P s (fun x => x ∈ L ++ bT (ls l2)) (b + 2 * nw (ls l2)) (bE (tAp (tW c.N c.Ct c.Dt (Vl c.ts) c.kn n) l2 R) fun R => .ok fun γ τ => γ = γ ∧ R γ τ) (w ++ (l2.map (wW c.Ct c.Dt (Pl c.ts) n 0)).flatten) rc') := by
  intro l2
  induction l2 with
  | nil =>
    intro l1 t1 b s1 L R w he r hs hb hf hw
    rw [List.append_nil] at he
    have ux := r.uf k hWq
    have ua := r.uf k eA'.2.2
    refine bX44_infer_11 G D s1.h _ _ _ _ (r.xs.sA.at (by decide)) (r.xs.sA.at (by decide)) ⟨ux.1.trans hk, arr, (ux.2.2.2.2.2 335).2.2.trans eA'.1, ua.1.trans eA'.2.1, ?_⟩
    rw [ua.2.1, hla, show Int32.ofNat l.length = nI l.length from rfl, nI_leI (by omega) (by rw [← he]; omega)]
    refine ⟨fun _ => ?_, fun z => absurd (by rw [← he]; exact Nat.le_refl _) z⟩
    show ExQ G c P s _ _ (.ok fun γ τ => γ = γ ∧ R γ τ) _ _ _ _
    refine Rn.fin (i := 0) (r.wk (Nat.le_refl _) fun t ht => List.mem_append_left _ ht) rfl (Nat.le_add_right ..) (fun γ v => ⟨?_, ?_⟩) (by rw [hw]; show _ = wAll s.ws (w ++ []); rw [List.append_nil]) hs.symm
    · rintro ⟨-, h1⟩
      exact ⟨[v], ⟨v, rfl, h1⟩, rfl⟩
    · rintro ⟨u, ⟨v', rfl, h3⟩, h2⟩
      cases h2
      exact ⟨rfl, h3⟩
  | cons x l2 IH =>
    intro l1 t1 b s1 L R w he r hs hb hf hw
    have hj : l[l1.length]? = some x := by rw [he, List.getElem?_append_right (Nat.le_refl _), Nat.sub_self]; rfl
    have hjl := (List.getElem?_eq_some_iff.mp hj).1
    have hx := List.mem_of_getElem? hj
    obtain ⟨p, fp, op⟩ := tg _ x hj
    obtain ⟨r1, hs1, hs2⟩ := hs
    have ux := r.uf k hWq
    have ua := r.uf k eA'.2.2
    have ew : nw (ls (x :: l2)) = nw x + nw (ls l2) := rfl
    have hn := sEx_nw hs1 op
    rw [ew] at hb ⊢
    have ebt : bT (ls (x :: l2)) = bT x ++ bT (ls l2) := rfl
    rw [ebt, ← List.append_assoc] at hf ⊢
    refine bX44_infer_11 G D s1.h _ _ _ _ (r.xs.sA.at (by decide)) (r.xs.sA.at (by decide)) ⟨ux.1.trans hk, arr, (ux.2.2.2.2.2 335).2.2.trans eA'.1, ua.1.trans eA'.2.1, ?_⟩
    rw [ua.2.1, hla, show Int32.ofNat l.length = nI l.length from rfl, nI_leI (by omega) (by omega)]
    obtain ⟨k2, ν2, v1, v2, v3⟩ := r.exp (D := D) (A1 := fun γ => ∃ τ, R γ τ) hE k hs1 (hTl x hx) hhi op (hb.le (by omega)) hf.l hV (hD x hx) fun γ => ⟨fun ⟨τ, h⟩ => ⟨_, τ, rfl, h⟩, fun ⟨_, τ, _, h⟩ => ⟨τ, h⟩⟩
    refine ⟨fun z => by omega, fun _ => ⟨arr, (ux.2.2.2.2.2 335).2.2.trans eA'.1, ua.1.trans eA'.2.1, by rw [ua.2.1, hla]; exact vp_i hjl (by omega), p, by rw [nI_cn (by omega), ua.2.2.2.2.1]; exact fp, k2, ν2, v1, v2, C.mono v3 ?_⟩⟩
    intro o h12 z
    have law : bE (tAp (tW c.N c.Ct c.Dt (Vl c.ts) c.kn n) (x :: l2) R) (fun R => .ok fun γ τ => γ = γ ∧ R γ τ) = bE (eX (tW c.N c.Ct c.Dt (Vl c.ts) c.kn n) x fun γ => ∃ τ, R γ τ) fun Q => bE (eqE (tkN x) (∃ γ τ u, R γ (tFun τ u) ∧ Q γ τ) fun γ u => ∃ τ, R γ (tFun τ u) ∧ Q γ τ) fun R' => bE (tAp (tW c.N c.Ct c.Dt (Vl c.ts) c.kn n) l2 R') fun R => .ok fun γ τ => γ = γ ∧ R γ τ := by
      refine bE_as.trans ?_
      congr 1
      funext Q
      exact bE_as
    rw [law]
    cases hr : eX (tW c.N c.Ct c.Dt (Vl c.ts) c.kn n) x (fun γ => ∃ τ, R γ τ) with
    | error f =>
      rw [hr] at z
      obtain ⟨z1, y, rfl, z3, z4⟩ := z
      rw [bE_er]
      exact KI.t ⟨z1.wk fun t ht => List.mem_append_left _ ht, y, rfl, z3, by omega⟩
    | ok Q =>
      rw [hr] at z
      obtain ⟨t2, s2, rfl, rfl, w2, e2, q2, hQA⟩ := z
      rw [bE_ok]
      obtain ⟨⟨c1, c2, c3⟩, c4, c5⟩ := q2.cnt
      have q2b := q2.wk (b' := b + (2 * nw x - 1) + 1) (Nat.le_succ _) fun _ h => h
      refine KI.i (C.mono ((Rn.cvK (d := 0) k q2b (hb.le (by omega)) (by omega)).up (by omega)) ?_)
      rintro _ h15 ⟨τ3, rfl, hu3, q3⟩
      refine KI.i (C.mono ((Rn.cfK (d := 0) (i := 1) (j := 2) k q3 rfl rfl (hb.le (by omega)) (by show s2.M + 1 + 1 ≤ _; omega) (by show s2.Pn + 0 + 2 ≤ _; omega)).up (by omega)) ?_)
      rintro _ h18 ⟨τ4, rfl, hu4, q4⟩
      have ux4 := q4.uf k hWq
      have ua4 := q4.uf k eA'.2.2
      obtain ⟨tk1, tk2⟩ := ex_tok hs1 (q4.ot k (hTl x hx) op)
      have htk : tkN x < c.ts.length := Nat.lt_of_lt_of_le (TR.tk (hTl x hx) (OTG_0 op)) hhi
      refine KI.i ⟨arr, (ux4.2.2.2.2.2 335).2.2.trans eA'.1, ua4.1.trans eA'.2.1, by rw [ua4.2.1, hla]; exact vp_i hjl (by omega), p, by rw [nI_cn (by omega), ua4.2.2.2.2.1]; exact fp, tk1, ?_⟩
      rw [tk2]
      refine C.mono ((Rn.sameK (d := 0) (i := 0) (j := 3) k q4 rfl rfl htk (hb.le (by omega)) (by show s2.m + 2 ≤ _; omega)).up (by omega)) ?_
      rintro o h28 (⟨⟨γ0, u0, hu0⟩, rfl, τ5, -, q5⟩ | ⟨hno, z1, y, rfl, z3, z4⟩)
      · have hc : ∃ γ τ u, R γ (tFun τ u) ∧ Q γ τ := by
          obtain ⟨⟨w, rfl, w1, α, rfl, u1, v, rfl, ⟨v', rfl, hp⟩, hq⟩, hx'⟩ := hu0
          have hx' : some v' = some (tFun v α) := hx'
          rw [Option.some.inj hx'] at hp
          exact ⟨γ0, v, α, hp, hq⟩
        rw [eqE_y hc, bE_ok]
        refine KV.i ?_
        rintro _ rfl
        rw [nI_1]
        have q6 := (q5.prj (us' := [s2.M]) (fun u => (u.drop 2).take 1) (fun z hz => Or.inl (by rw [(List.mem_cons.mp hz).resolve_right fun z => by cases z]; exact List.mem_append_left _ (List.mem_append_right _ (List.mem_cons_self ..)))) (fun ρ _ => rfl)).imp (S' := fun γ u => ∃ v, u = [v] ∧ ∃ τ, R γ (tFun τ v) ∧ Q γ τ) fun γ u => ⟨fun ⟨v, ⟨⟨w, e0, w1, α, e1, u1, v1, e2, ⟨v', e3, hp⟩, hq⟩, hx'⟩, e4⟩ => by
            subst e3 e2 e1 e0 e4
            have hx' : some v' = some (tFun v1 α) := hx'
            rw [Option.some.inj hx'] at hp
            exact ⟨α, rfl, v1, hp, hq⟩, fun ⟨v, e, τ, hp, hq⟩ => ⟨_, ⟨⟨_, rfl, _, v, rfl, _, τ, rfl, ⟨_, rfl, hp⟩, hq⟩, rfl⟩, e.symm⟩⟩
        have ih := IH (l1 ++ [x]) s2.M _ _ (L ++ bT x) (fun γ u => ∃ τ, R γ (tFun τ u) ∧ Q γ τ) (w ++ wW c.Ct c.Dt (Pl c.ts) n 0 x) (by rw [he, List.append_assoc]; rfl) q6 (by show sLn _ l2 s2.rc rc'; rw [e2]; exact hs2) (hb.le (by omega)) hf (by show s2.ws = _; rw [w2, hw, ← wAll_ap])
        rw [List.length_append, List.append_assoc w] at ih
        exact X.mono ih fun o h' z => z.wk (by omega) fun _ h => h
      · have hc : ¬ ∃ γ τ u, R γ (tFun τ u) ∧ Q γ τ := fun ⟨γ, τ, u, hp, hq⟩ => hno ⟨γ, _, ⟨_, rfl, _, u, rfl, _, τ, rfl, ⟨_, rfl, hp⟩, hq⟩, rfl⟩
        rw [eqE_n hc, bE_er]
        exact KV.t ⟨z1.wk fun t ht => List.mem_append_left _ ht, y, rfl, z3, by omega⟩
/-- an application -/
theorem ex_app (hE : ExI G c n) (h1 : sEx c.ts c.O c.N c.Ct c.Dt n 0 V s.rc a r1) (hs : sLn (fun rc e rc' => sEx c.ts c.O c.N c.Ct c.Dt n 0 V rc e rc') l r1 rc') (hT : TR lo hi (n2 15 t a (ls l))) (hhi : hi ≤ c.ts.length) (ot : OTG (XA c.ts c.W c.O c.Z c.D s.h) c.W s.h (n2 15 t a (ls l)) 0 0 q) (k : XS G c P s) (hb : BdX c s (2 * nw (n2 15 t a (ls l)))) (hf : Frs s.h c.Z c.D s.E (bT (n2 15 t a (ls l)))) (hV : ∀ t, t ∈ V → ∃ σ, (t, σ) ∈ s.E) (hD : fw (n2 15 t a (ls l)) + 600 ≤ D + 1) : C G mX44_infer (D + 1) [.ref q, .ref (gW G 6)] s.h (ExQ G c P s (fun x => x ∈ bT (n2 15 t a (ls l))) (2 * nw (n2 15 t a (ls l)) - 1) (eX (tW c.N c.Ct c.Dt (Vl c.ts) c.kn (n + 1)) (n2 15 t a (ls l)) (eA s.M s.t s.E)) (wW c.Ct c.Dt (Pl c.ts) (n + 1) 0 (n2 15 t a (ls l))) rc') ∧ hK s.h q = 41 := by
  obtain ⟨hWq, hkq, -, oy⟩ := (OTG_nd (k := 15) (y := .add a (ls l)) (by decide)).mp ot
  have hk : hK s.h q = 41 := by simpa [kc] using hkq
  rw [OTG_c2 (by decide) (by decide)] at oy
  obtain ⟨p1, f1, o1⟩ := OTG_f.mp oy.1
  obtain ⟨arr, eA', hla, tg⟩ := OTG_arr.mp ((OTG_ef (m' := 21) (i' := 335) (by decide) (by decide)).mp oy.2)
  refine ⟨?_, hk⟩
  have hll := nw_len l _ tg
  have ew : nw (n2 15 t a (ls l)) = nw a + nw (ls l) + 1 := by show 0 + (nw a + nw (ls l)) + 1 = _; omega
  have efw : fw (n2 15 t a (ls l)) = max 0 (max (fw a) (fw (ls l))) + 1 := rfl
  have ebt : bT (n2 15 t a (ls l)) = bT a ++ bT (ls l) := rfl
  have eww : wW c.Ct c.Dt (Pl c.ts) (n + 1) 0 (n2 15 t a (ls l)) = wW c.Ct c.Dt (Pl c.ts) n 0 a ++ (l.map (wW c.Ct c.Dt (Pl c.ts) n 0)).flatten := by
    have : wW c.Ct c.Dt (Pl c.ts) (n + 1) 0 (n2 15 t a (ls l)) = wW c.Ct c.Dt (Pl c.ts) n 0 a ++ ((unl (ls l)).map (wW c.Ct c.Dt (Pl c.ts) n 0)).flatten := rfl
    rw [this, unl_ls]
  have law : eX (tW c.N c.Ct c.Dt (Vl c.ts) c.kn (n + 1)) (n2 15 t a (ls l)) (eA s.M s.t s.E) = bE (eX (tW c.N c.Ct c.Dt (Vl c.ts) c.kn n) a (eA s.M s.t s.E)) fun R => bE (tAp (tW c.N c.Ct c.Dt (Vl c.ts) c.kn n) l R) fun R => .ok fun γ τ => γ = γ ∧ R γ τ := by
    have : eX (tW c.N c.Ct c.Dt (Vl c.ts) c.kn (n + 1)) (n2 15 t a (ls l)) (eA s.M s.t s.E) = bE (bE (eX (tW c.N c.Ct c.Dt (Vl c.ts) c.kn n) a (eA s.M s.t s.E)) fun R => bE (tAp (tW c.N c.Ct c.Dt (Vl c.ts) c.kn n) (unl (ls l)) R) fun R => .ok fun γ γ' τ => γ' = γ ∧ R γ τ) fun R => .ok fun γ τ => R γ γ τ := rfl
    rw [this, unl_ls, bE_as]
    congr 1
    funext R
    exact bE_as
  rw [law, eww, ebt, ew]
  rw [ew] at hb
  rw [efw] at hD
  rw [ebt] at hf
  obtain ⟨u1, u2, u3, u4, u5⟩ := id hb
  have hn1 := sEx_nw h1 o1
  have hT1 : TR lo hi a := hT.2.2.2.1
  have hTl : TR lo hi (ls l) := hT.2.2.2.2
  obtain ⟨k1, ν1, v1, v2, v3⟩ := hE P a p1 lo hi r1 D V s h1 hT1 hhi o1 k (hb.le (by omega)) hf.l hV (by omega)
  refine bX44_infer G D s.h _ _ ⟨hk, p1, f1, k1, ν1, v1, v2, C.mono v3 ?_⟩
  intro o h4 z
  unfold ExQ at z
  cases hr1 : eX (tW c.N c.Ct c.Dt (Vl c.ts) c.kn n) a (eA s.M s.t s.E) with
  | error f =>
    rw [hr1] at z
    obtain ⟨z1, x, rfl, z3, z4⟩ := z
    rw [bE_er]
    exact KI.t ⟨z1.wk fun t ht => List.mem_append_left _ ht, x, rfl, z3, by omega⟩
  | ok P =>
    rw [hr1] at z
    obtain ⟨t1, s1, rfl, rfl, w1, e1, q1⟩ := z
    rw [bE_ok]
    refine KI.i ?_
    have := ap_11 (D := D) (rc' := rc') hE k hhi hWq hk eA' hla (by omega) tg (fun y hy => TR.ls_at hTl y hy) hV (fun y hy => by have := fw_mem l y hy; omega) (by omega) l [] t1 _ s1 (bT a) P (wW c.Ct c.Dt (Pl c.ts) n 0 a) rfl q1 (by rw [e1]; exact hs) (hb.le (by omega)) hf w1
    exact X.mono this fun o h' z => z.wk (by omega) fun _ h => h
end
