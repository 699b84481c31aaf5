/-! THE COMPONENT'S TYPER: cases -/
section
variable {G : Gh} {c : Cx} {P : Nat → Prop} {s : Sx} {n lo hi q rc' D t r1 : Nat} {cs : List Tr} {V : List Nat} {e : Tr}
theorem nw_13 : nw (n2 13 t e (ls cs)) = nw e + nw (ls cs) + 3 := by show 0 + (nw e + nw (ls cs)) + 3 = _; omega
/-- a case -/
theorem ex_case (hC : CtF c.N c.Ct c.Dt) (hE : ExI G c n) (hl8 : 1 ≤ cs.length ∧ cs.length ≤ 8) (hcl : ∀ y, y ∈ cs → (clP y).length = 1) (h1 : sEx c.ts c.O c.N c.Ct c.Dt n 0 V s.rc e r1) (hs : sLn (fun rc k rc' => sCl c.N c.Ct c.Dt n (fun V rc e rc' => sEx c.ts c.O c.N c.Ct c.Dt n 0 V rc e rc') V rc k rc') cs r1 rc') (hT : TR lo hi (n2 13 t e (ls cs))) (hhi : hi ≤ c.ts.length) (ot : OTG (XA c.ts c.W c.O c.Z c.D s.h) c.W s.h (n2 13 t e (ls cs)) 0 0 q) (k : XS G c P s) (hb : BdX c s (2 * nw (n2 13 t e (ls cs)))) (hf : Frs s.h c.Z c.D s.E (bT (n2 13 t e (ls cs)))) (hV : ∀ t, t ∈ V → ∃ σ, (t, σ) ∈ s.E) (hD : fw (n2 13 t e (ls cs)) + 600 ≤ D + 1) : C G mX33_infer (D + 1) [.ref q, .ref (gW G 6)] s.h (ExQ G c P s (fun x => x ∈ bT (n2 13 t e (ls cs))) (2 * nw (n2 13 t e (ls cs)) - 1) (eX (tW c.N c.Ct c.Dt (Vl c.ts) c.kn (n + 1)) (n2 13 t e (ls cs)) (eA s.M s.t s.E)) (wW c.Ct c.Dt (Pl c.ts) (n + 1) 0 (n2 13 t e (ls cs))) rc') ∧ hK s.h q = 31 := by
  obtain ⟨hWq, hkq, -, oy⟩ := (OTG_nd (k := 13) (y := .add e (ls cs)) (by decide)).mp ot
  have hk : hK s.h q = 31 := by simpa [kc] using hkq
  rw [OTG_c2 (by decide) (by decide)] at oy
  obtain ⟨p1, f1, o1⟩ := OTG_f.mp oy.1
  obtain ⟨r0, e0, rl, tg⟩ := OTG_row.mp ((OTG_ef (m' := 22) (i' := 322) (by decide) (by decide)).mp oy.2)
  refine ⟨?_, hk⟩
  have hs13 : sEx c.ts c.O c.N c.Ct c.Dt (n + 1) 0 V s.rc (n2 13 t e (ls cs)) rc' := by
    unfold sEx
    rw [if_neg (by decide)]
    exact Or.inr (Or.inr (Or.inr (Or.inr (Or.inr (Or.inr (Or.inr (Or.inr (Or.inr (Or.inr (Or.inr (Or.inr (Or.inl ⟨t, e, cs, r1, rfl, hl8, hcl, h1, hs⟩))))))))))))
  obtain ⟨hF, hT296⟩ := ex_tok hs13 ot
  have htk : t < c.ts.length := Nat.lt_of_lt_of_le (show tkN (n2 13 t e (ls cs)) < hi from TR.tk hT ⟨_, _, rfl⟩) hhi
  have efw : fw (n2 13 t e (ls cs)) = max 0 (max (fw e) (fw (ls cs))) + 2 := rfl
  have ebt : bT (n2 13 t e (ls cs)) = bT e ++ bT (ls cs) := rfl
  have eww : wW c.Ct c.Dt (Pl c.ts) (n + 1) 0 (n2 13 t e (ls cs)) = wW c.Ct c.Dt (Pl c.ts) n 0 e ++ ((cs.map fun k => wW c.Ct c.Dt (Pl c.ts) n 0 (clE k)).flatten ++ ckM c.Ct c.Dt (Pl c.ts) t cs) := by
    have : wW c.Ct c.Dt (Pl c.ts) (n + 1) 0 (n2 13 t e (ls cs)) = wW c.Ct c.Dt (Pl c.ts) n 0 e ++ (((unl (ls cs)).map fun k => wW c.Ct c.Dt (Pl c.ts) n 0 (clE k)).flatten ++ ckM c.Ct c.Dt (Pl c.ts) t (unl (ls cs))) := rfl
    rw [this, unl_ls]
  have law : eX (tW c.N c.Ct c.Dt (Vl c.ts) c.kn (n + 1)) (n2 13 t e (ls cs)) (eA s.M s.t s.E) = bE (eX (tW c.N c.Ct c.Dt (Vl c.ts) c.kn n) e (eA s.M s.t s.E)) fun R => bE (tMt c.N c.Ct c.Dt n (tW c.N c.Ct c.Dt (Vl c.ts) c.kn n) cs fun γ => ∃ τ, R γ τ) fun Q => bE (eqE (tkN e) (∃ γ a o, R γ a ∧ Q γ [a] o) ()) fun _ => .ok fun γ τ => γ = γ ∧ ∃ a, R γ a ∧ Q γ [a] τ := by
    have : eX (tW c.N c.Ct c.Dt (Vl c.ts) c.kn (n + 1)) (n2 13 t e (ls cs)) (eA s.M s.t s.E) = bE (bE (eX (tW c.N c.Ct c.Dt (Vl c.ts) c.kn n) e (eA s.M s.t s.E)) fun R => bE (tMt c.N c.Ct c.Dt n (tW c.N c.Ct c.Dt (Vl c.ts) c.kn n) (unl (ls cs)) fun γ => ∃ τ, R γ τ) fun Q => bE (eqE (tkN e) (∃ γ a o, R γ a ∧ Q γ [a] o) ()) fun _ => .ok fun γ γ' τ => γ' = γ ∧ ∃ a, R γ a ∧ Q γ [a] τ) fun R => .ok fun γ τ => R γ γ τ := rfl
    rw [this, unl_ls, bE_as]
    congr 1
    funext R
    rw [bE_as]
    congr 1
    funext Q
    rw [bE_as]
    rfl
  rw [law, eww, ebt, nw_13]
  rw [nw_13] at hb
  rw [efw] at hD
  rw [ebt] at hf
  obtain ⟨u1, u2, u3, u4, u5⟩ := id hb
  have hn1 := sEx_nw h1 o1
  have hT1 : TR lo hi e := hT.2.2.2.1
  have hTl : ∀ y, y ∈ cs → TR lo hi y := fun y hy => TR.ls_at hT.2.2.2.2 y hy
  obtain ⟨k1, ν1, v1, v2, v3⟩ := hE P e p1 lo hi r1 D V s h1 hT1 hhi o1 k (hb.le (by omega)) hf.l hV (by omega)
  refine bX33_infer G D s.h _ _ (k.sA.at (by decide)) (k.sA.at (by decide)) ⟨hk, p1, f1, k1, ν1, v1, v2, C.mono v3 ?_⟩
  intro o h4 z
  unfold ExQ at z
  cases hr1 : eX (tW c.N c.Ct c.Dt (Vl c.ts) c.kn n) e (eA s.M s.t s.E) with
  | error f =>
    rw [hr1] at z
    obtain ⟨z1, x, rfl, z3, z4⟩ := z
    rw [bE_er]
    exact KI.t ⟨z1.wk fun t ht => List.mem_append_left _ ht, x, rfl, z3, by omega⟩
  | ok R =>
    rw [hr1] at z
    obtain ⟨t1, s1, rfl, rfl, w1, c1, q1⟩ := z
    rw [bE_ok]
    obtain ⟨⟨b1, b2, b3⟩, b4, b5⟩ := q1.cnt
    have hun : un s1.h ≤ pot s1.h s1.cap := by unfold pot; omega
    obtain ⟨m1, m2⟩ := un_rm (h := s1.h) (n := 1) (by omega)
    refine KI.i ⟨nI_pos (n := 1) (by decide), m1, m2, fun qa hqa1 h9 e9 => ?_⟩
    have hqa : hK s.h qa = 0 := q1.1.1.fresh hqa1
    have r0' := q1.nA (n := 1) (m := 3) k hqa1 (by omega)
    rw [show (1 : Int32).toNatClampNeg = 1 from rfl] at e9
    rw [← e9] at r0'
    have pv := r0'.xs.2.2.2.2.2.2.1 qa (Or.inr rfl)
    have hL9 : hL h9 qa = 1 := by rw [e9, hL_nA, if_pos rfl]
    refine ⟨pv.2.2, by rw [hL9]; exact vp_i (n := 0) (by decide) (by decide), fun h14 e14 => ?_⟩
    have r1' := r0'.wr (i := 0) (v := -1) k (Or.inr rfl) hqa
    rw [show (0 : Int32).toNatClampNeg = 0 from rfl] at e14
    have e14' : h14 = sI (Sx.h (h9, s1.M, s1.Pn, s1.t, s1.m, s1.E, s1.cap, s1.rc, s1.ws)) qa 0 (-1) := e14
    rw [← e14'] at r1'
    have u14 := r1'.uf k hWq
    have hrw : Rw1 h14 qa 1 [] := ⟨by rw [e14, hL_sI]; exact hL9, fun j p hp => by simp at hp, fun j _ hj => by rw [e14, aI_sI, if_pos ⟨rfl, by omega⟩]⟩
    have hp14 : pot h14 s1.cap = pot s1.h s1.cap + 17 := by unfold pot; rw [e14, un_sI, e9, un_nA]; omega
    have cm := c_mat (D := D - 2) (rc' := rc') (P := P) (qa := qa) (cols := 1) (V := V) (A := fun γ => ∃ τ, R γ τ) (u := 7) (wl := 3) (r0 := r0) hE k hhi rl tg hTl hl8 hV (fun y hy => by have := fw_mem cs y hy; omega) hcl hqa r1' hrw (by show sLn _ cs s1.rc rc'; rw [c1]; exact hs) (fun γ => ⟨fun ⟨τ, h⟩ => ⟨_, τ, rfl, h⟩, fun ⟨_, τ, _, h⟩ => ⟨τ, h⟩⟩) (hb.le (by omega)) hf ⟨by show pot h14 s1.cap + 7 ≤ _; omega, by show s1.ws.length + 3 ≤ _; omega⟩
    rw [show D - 2 + 2 = D by omega] at cm
    refine ⟨r0, (u14.2.2.2.2.2 322).2.2.trans e0, C.mono cm ?_⟩
    intro o h19 z
    unfold ClQ at z
    cases hr : tMt c.N c.Ct c.Dt n (tW c.N c.Ct c.Dt (Vl c.ts) c.kn n) cs (fun γ => ∃ τ, R γ τ) with
    | error f =>
      rw [hr] at z
      obtain ⟨z1, y, rfl, z3, z4⟩ := z
      rw [bE_er]
      exact KI.t ⟨z1, y, rfl, z3, by omega⟩
    | ok Q =>
      rw [hr] at z
      obtain ⟨t2, ins, s2, rfl, rfl, w2, c2, q2, q3, q4, q5⟩ := z
      rw [bE_ok]
      have x2 := q2.xs
      obtain ⟨a1, ha1⟩ : ∃ a, ins = [a] := List.length_eq_one_iff.mp q3.1
      subst ha1
      have rw2 := q3.2
      have u19 := q2.uf k hWq
      obtain ⟨hF2, hT2⟩ := ex_tok h1 (q2.ot k hT1 o1)
      have htk1 := TR.tk hT1 (OTG_0 o1)
      refine KI.i ⟨by rw [rw2.1]; exact vp_i (n := 0) (by decide) (by decide), p1, (u19.2.2.2.2.2 321).2.2.trans f1, hF2, ?_⟩
      rw [show (0 : Int32).toNatClampNeg = 0 from rfl, rw2.2.1 0 a1 rfl, hT2]
      refine C.mono ((q2.sameU (d := 0) (t := tkN e) (i := 0) (j := 1) k rfl rfl (by omega) (hb.le (by omega))).up (by omega)) ?_
      have lawE : (∃ γ u, MqS (fun γ u => ∃ v, u = [v] ∧ R γ v) Q γ u ∧ u[0]? = u[1]?) ↔ ∃ γ a o, R γ a ∧ Q γ [a] o := by
        constructor
        · rintro ⟨γ, _, ⟨_, τs, o, rfl, ⟨v, rfl, h2⟩, h3⟩, h4⟩
          have hl := q2.len (γ := γ) (u := ([v] ++ τs) ++ [o]) ⟨[v], τs, o, rfl, ⟨v, rfl, h2⟩, h3⟩
          obtain ⟨a, rfl⟩ : ∃ a, τs = [a] := List.length_eq_one_iff.mp (by simpa using hl)
          cases h4
          exact ⟨γ, v, o, h2, h3⟩
        · rintro ⟨γ, a, o, h2, h3⟩
          exact ⟨γ, _, ⟨[a], [a], o, rfl, ⟨a, rfl, h2⟩, h3⟩, rfl⟩
      rintro o h26 (⟨ex, rfl, τ', hun2, q6, q7⟩ | ⟨no, ft⟩)
      · rw [eqE_y (lawE.mp ex), bE_ok]
        have x6 := q6.xs
        have u26 := q6.uf k hWq
        obtain ⟨ρ, hρ⟩ := x6.tt.sol
        obtain ⟨⟨u0, τs, o2, -, -, hQ⟩, -⟩ : MqS _ Q (gE s.E ρ) _ ∧ _ := q6.2.1.2.2.2.2.1 ρ hρ
        obtain ⟨-, hτl, hty⟩ := tMt_ty hC (clR_ln cs r1 hs (by rw [← c2]; exact x2.2.2.2.2.1)) hcl hr hQ
        have hp26 : pot h26 s2.cap = pot s2.h s2.cap := by unfold pot; rw [hun2]
        have ck := c_chkr (d := D - 500) (tok := t) (cols := 1) hC k q6 rl tg hTl hl8 (clR_ln cs r1 hs (by rw [← c2]; exact x2.2.2.2.2.1)) hcl hτl hty htk hhi ⟨by have := q4.1; show pot h26 s2.cap + _ ≤ _; omega, by have := q4.2; show s2.ws.length + _ ≤ _; omega⟩ (hb.le (by omega))
        rw [show D - 500 + 500 = D by omega] at ck
        refine KV.i ⟨r0, (u26.2.2.2.2.2 322).2.2.trans e0, ?_⟩
        rw [(u26.2.2.2.2.2 296).1, hT296]
        refine C.mono ck ?_
        rintro _ h30 ⟨rfl, s3, rfl, w3, c3, q8, q9⟩
        refine KV.i (Rn.fin (i := 2) ((q8.pm fun a ha => Or.inl ha)) rfl (by omega) (fun γ v => ⟨?_, ?_⟩) ?_ ?_)
        · rintro ⟨-, a, h2, h3⟩
          exact ⟨_, ⟨⟨[a], [a], v, rfl, ⟨a, rfl, h2⟩, h3⟩, rfl⟩, rfl⟩
        · rintro ⟨u, ⟨⟨_, τs, o, rfl, ⟨v', rfl, h2⟩, h3⟩, h4⟩, h5⟩
          have hl := q2.len (γ := γ) (u := ([v'] ++ τs) ++ [o]) ⟨[v'], τs, o, rfl, ⟨v', rfl, h2⟩, h3⟩
          obtain ⟨a, rfl⟩ : ∃ a, τs = [a] := List.length_eq_one_iff.mp (by simpa using hl)
          cases h4
          cases h5
          exact ⟨rfl, v', h2, h3⟩
        · rw [w3]
          show wAll s2.ws _ = _
          rw [w2, wAll_ap, wAll_ap]
          show wAll (wAll s1.ws _) _ = _
          rw [w1]
        · rw [c3]
          exact c2
      · rw [eqE_n fun w => no (lawE.mpr w), bE_er]
        obtain ⟨z1, y, rfl, z3, z4⟩ := ft
        exact KV.t ⟨z1, y, rfl, z3, by omega⟩
end
