/-! THE COMPONENT'S TYPER: values that are declared -/
section
variable {G : Gh} {c : Cx} {P P0 : Nat → Prop} {s s1 : Sx} {B : Nat → Prop} {b b' n lo hi q rc' D t : Nat} {V : List Nat} {e p : Tr} {R : En → En → Prop} {h h' : AH} {ws' : List (Nat × Nat)}
theorem Dn.fm (k : XS G c P0 s) (r : Dn G c P s B s1 b R) (F : FMa G s1.h h') (l : Lm (gW G) MI s1.h h' none) (hw : MsW G h' ws') (hb : b ≤ b') (hu : pot h' s1.cap ≤ pot s.h s.cap + 8 * b') (hws : ws'.length ≤ s.ws.length + b') : Dn G c P s B (h', s1.M, s1.Pn, s1.t, s1.m, s1.E, s1.cap, s1.rc, ws') b' R := by
  obtain ⟨r1, ⟨r2, c1, c2, c3⟩, r3, r4, r5, r6, r7, r8, r9⟩ := r
  obtain ⟨x1, ev, F1⟩ := r3.fm (B := B) F l hw
  exact ⟨r1.tr k.sA (F1.rc_le r5), ⟨r2.tr ev, by show s1.M ≤ _; omega, by show s1.Pn ≤ _; omega, by show s1.m ≤ _; omega⟩, x1, r4, r5, ⟨hu, hws⟩, r7, r8, r9⟩
theorem Frs.cm {Zz : Zt} {Dd : Dm} {Γ : List (Nat × Tr)} {l1 l2 : List Nat} (f : Frs h Zz Dd Γ (l1 ++ l2)) : Frs h Zz Dd Γ (l2 ++ l1) := by
  obtain ⟨f1, f2⟩ := f
  rw [List.nodup_append] at f1
  refine ⟨List.nodup_append.mpr ⟨f1.2.1, f1.1, fun a ha b hb e => f1.2.2 b hb a ha e.symm⟩, fun t ht => f2 t ?_⟩
  rcases List.mem_append.mp ht with w | w
  · exact List.mem_append_right _ w
  · exact List.mem_append_left _ w
/-- a declaration's token -/
theorem dc_tok {k : Nat} {y : Tr} {ts : List (Nat × Nat × Nat)} (hk : k = 51 ∨ k = 52 ∨ k = 53) (hT : TR lo hi (n1 k t y)) (hhi : hi ≤ ts.length) (htl : ts.length ≤ 1300) (hkq : hK h q = 28 ∨ hK h q = 46 ∨ hK h q = 53) {W : Nat → Prop} (ex : EXs W h k q (.add (.num t) y)) : fI h q 313 = nI t ∧ t < ts.length := by
  have h1 : (tkn (.add (.num (t : Int)) y) : Int) < hi := hT.2.1
  have e' : tkn (.add (.num (t : Int)) y) = t := rfl
  have htl' : t < ts.length := by omega
  have htf : tf (hK h q) = 313 := by
    rcases hkq with w | w | w <;> rw [w] <;> rfl
  have := ex.2.2.1
  rw [htf] at this
  refine ⟨?_, htl'⟩
  rw [i_eq, this, nI_toInt (by omega)]
  rfl
theorem dc_val (hC : CtF c.N c.Ct c.Dt) (hE : ExI G c n) (he : sEx c.ts c.O c.N c.Ct c.Dt n 0 V s.rc e rc') (hn30 : 30 ≤ n) (hsv : sVal p) (hp : sPt c.N c.Ct rc' 30 p) (h24 : 1 + pq (shp c.Ct c.Dt 30 p) ≤ 24) (hT : TR lo hi (n2 51 t p e)) (hhi : hi ≤ c.ts.length) (ot : OTG (XA c.ts c.W c.O c.Z c.D s.h) c.W s.h (n2 51 t p e) 0 0 q) (k : XS G c P s) (hb : BdX c s (2 * nw (n2 51 t p e))) (hf : Frs s.h c.Z c.D s.E (bT (n2 51 t p e))) (hV : ∀ t, t ∈ V → ∃ σ, (t, σ) ∈ s.E) (hD : fw (n2 51 t p e) + 600 ≤ D + 1) : C G mX30_infer (D + 1) [.ref q, .ref (gW G 6)] s.h (DcQ G c P s (fun x => x ∈ bT (n2 51 t p e)) (2 * nw (n2 51 t p e)) (tW c.N c.Ct c.Dt (Vl c.ts) c.kn (n + 1) 2 (n2 51 t p e) (eA s.M s.t s.E)) (wW c.Ct c.Dt (Pl c.ts) (n + 1) 2 (n2 51 t p e)) rc' (dNm (n2 51 t p e))) ∧ hK s.h q = 28 := by
  obtain ⟨hWq, hkq, ⟨ex, -⟩, oy⟩ := (OTG_nd (k := 51) (y := .add p e) (by decide)).mp ot
  have hk : hK s.h q = 28 := by simpa [kc] using hkq
  rw [OTG_c2 (by decide) (by decide)] at oy
  obtain ⟨p1, f1, o1⟩ := OTG_f.mp oy.1
  obtain ⟨p2, f2, o2⟩ := OTG_f.mp ((OTG_ef (m' := 1) (i' := 315) (by decide) (by decide)).mp oy.2)
  refine ⟨?_, hk⟩
  have tl := k.1.1.2.2.2.1.1
  obtain ⟨htok, htl⟩ := dc_tok (k := 51) (ts := c.ts) (Or.inl rfl) hT hhi tl (Or.inl hk) ex
  have ew : nw (n2 51 t p e) = nw p + nw e + 1 := by show 0 + (nw p + nw e) + 1 = _; omega
  have efw : fw (n2 51 t p e) = max 0 (max (fw p) (fw e)) + 1 := rfl
  have ebp := bT_p 30 p hp
  have ebt : bT (n2 51 t p e) = pNm 30 p ++ bT e := by rw [← ebp]; rfl
  have eww : wW c.Ct c.Dt (Pl c.ts) (n + 1) 2 (n2 51 t p e) = wW c.Ct c.Dt (Pl c.ts) n 0 e ++ ckO (Pl c.ts) t [[shp c.Ct c.Dt 30 p]] 1 := rfl
  have edn : dNm (n2 51 t p e) = pNm 30 p := rfl
  obtain ⟨up1, up2, -⟩ := tPa_up (Dt := c.Dt) 30 p hp n hn30
  have law : tW c.N c.Ct c.Dt (Vl c.ts) c.kn (n + 1) 2 (n2 51 t p e) (eA s.M s.t s.E) = bE (eX (tW c.N c.Ct c.Dt (Vl c.ts) c.kn n) e (eA s.M s.t s.E)) fun R => bE (tPa c.N c.Ct c.Dt 30 p) fun P => bE (eqE (tkN p) (∃ γ τ ν, R γ τ ∧ P τ ν) fun γ ν => ∃ τ, R γ τ ∧ P τ ν) fun Z =>
              tIf (tBig fun ν => ∃ γ, Z γ ν) (.error (6, t)) (if tSt n e = true then .ok fun γ γ' _ => (∃ ν, Z γ ν) ∧ γ' = updS γ (gnS (pNm 30 p) (Z γ)) else .ok fun γ γ' _ => ∃ ν, Z γ ν ∧ γ' = updL γ ν) := by
    rw [← up1, ← up2]
    rfl
  have eBq : (fun x => x ∈ bT (n2 51 t p e)) = fun x => x ∈ bT e ++ pNm 30 p := by
    funext x
    rw [ebt]
    exact propext ⟨fun w => List.mem_append.mpr (List.mem_append.mp w).symm, fun w => List.mem_append.mpr (List.mem_append.mp w).symm⟩
  rw [law, eww, edn, ew, eBq]
  rw [ew] at hb
  rw [efw] at hD
  rw [ebt] at hf
  have hfc := hf.cm
  have hn1 := sEx_nw he o2
  have hn2 := sPt_nw 30 p hp
  have hTp : TR lo hi p := hT.2.2.2.1
  have hTe : TR lo hi e := hT.2.2.2.2
  obtain ⟨u1, u2, u3, u4, u5⟩ := id hb
  obtain ⟨k1, ν1, v1, v2, v3⟩ := hE P e p2 lo hi rc' D V s he hTe hhi o2 k (hb.le (by omega)) hfc.l hV (by omega)
  refine bX30_infer G D s.h _ _ (k.sA.at (by decide)) (k.sA.at (by decide)) ⟨hk, p2, f2, k1, ν1, v1, v2, C.mono v3 ?_⟩
  intro o h4 z
  unfold ExQ at z
  cases hr1 : eX (tW c.N c.Ct c.Dt (Vl c.ts) c.kn n) e (eA s.M s.t s.E) with
  | error f =>
    rw [hr1] at z
    obtain ⟨z1, x, rfl, z3, z4⟩ := z
    rw [bE_er]
    exact KI.t ⟨z1.wk fun t ht => List.mem_append_left _ ht, x, rfl, z3, by omega⟩
  | ok R =>
    rw [hr1] at z
    obtain ⟨t1, s1, rfl, rfl, w1, c1, q1⟩ := z
    rw [bE_ok]
    have x1 := q1.xs
    obtain ⟨en1, en2⟩ := x1.en
    rw [q1.2.2.2.1] at en1 en2
    have ux := q1.uf k hWq
    have rp := q1.rp
    obtain ⟨k2, ν2, w1', w2', w3'⟩ := rp.pat (D := D) k (by rw [c1]; exact hp) hTp hhi o1 (hb.le (by omega)) (by rw [rp.2.2.2.1.1]; exact hfc.nx2 (pd := []) (w := []) rp.1 k.bd (fun t ht => (by cases ht))) (by omega)
    refine KI.i ?_
    rintro _ rfl
    rw [en1]
    refine ⟨p1, (ux.2.2.2.2.2 314).2.2.trans f1, k2, ν2, w1', w2', C.mono w3' ?_⟩
    intro o h10 z
    cases hr2 : tPa c.N c.Ct c.Dt 30 p with
    | error f =>
      rw [hr2] at z
      obtain ⟨z1, x, rfl, z3, z4⟩ := z
      rw [bE_er]
      exact KI.t ⟨z1, x, rfl, z3, by omega⟩
    | ok Pp =>
      rw [hr2] at z
      obtain ⟨t2, vs2, s2, rfl, rfl, w2, c2, q2, q3, q4, q5⟩ := z
      rw [bE_ok]
      have x2 := q2.xs
      have ux2 := q2.uf k hWq
      obtain ⟨hF, hT302⟩ := pt_tok hp (q2.ot k hTp o1)
      have htk := TR.tk hTp (OTG_0 o1)
      refine KI.i ⟨p1, (ux2.2.2.2.2.2 314).2.2.trans f1, hF, ?_⟩
      rw [hT302]
      refine C.mono ((q2.same (d := 0) (t := tkN p) (i := 0) (j := 1) k rfl rfl (by omega) (hb.le (by omega))).up (by omega)) ?_
      have ezz : ∀ γ u ν, ((∃ u1 v ν1 ν2, u = u1 ++ [v] ∧ ν = ν1 ++ ν2 ∧ ((∃ v, u1 = [v] ∧ R γ v) ∧ ν1 = []) ∧ Pp v ν2) ∧ u[0]? = u[1]?) ↔ ∃ v, u = [v, v] ∧ R γ v ∧ Pp v ν := by
        intro γ u ν
        constructor
        · rintro ⟨⟨_, v, _, ν2, rfl, rfl, ⟨⟨v', rfl, h1⟩, rfl⟩, h2⟩, h3⟩
          cases h3
          exact ⟨v, rfl, h1, h2⟩
        · rintro ⟨v, rfl, h1, h2⟩
          exact ⟨⟨[v], v, [], ν, rfl, rfl, ⟨⟨v, rfl, h1⟩, rfl⟩, h2⟩, rfl⟩
      have lawE : (∃ γ u ν, (∃ u1 v ν1 ν2, u = u1 ++ [v] ∧ ν = ν1 ++ ν2 ∧ ((∃ v, u1 = [v] ∧ R γ v) ∧ ν1 = []) ∧ Pp v ν2) ∧ u[0]? = u[1]?) ↔ ∃ γ τ ν, R γ τ ∧ Pp τ ν := by
        constructor
        · rintro ⟨γ, u, ν, h⟩
          obtain ⟨v, -, h1, h2⟩ := (ezz γ u ν).mp h
          exact ⟨γ, v, ν, h1, h2⟩
        · rintro ⟨γ, v, ν, h1, h2⟩
          exact ⟨γ, [v, v], ν, (ezz γ _ ν).mpr ⟨v, rfl, h1, h2⟩⟩
      rintro o h16 (⟨exi, rfl, τ', hun, q6, q7⟩ | ⟨no, ft⟩)
      · rw [eqE_y (lawE.mp exi), bE_ok]
        have q8 := q6.imp (Z' := fun γ u ν => ∃ v, u = [v, v] ∧ R γ v ∧ Pp v ν) ezz
        have x6 := q8.xs
        have ux6 := q8.uf k hWq
        obtain ⟨k3, ν3, y1, y2, y3⟩ := st_all (G := G) (c := c) n h16 e p2 s.rc rc' D V he (q8.ot k hTe o2) (by omega) (by omega)
        refine KV.i ⟨p2, (ux6.2.2.2.2.2 315).2.2.trans f2, k3, ν3, y1, y2, C.ri y3 ?_⟩
        rw [(ux6.2.2.2.2.2 313).1, htok]
        have ebg : (tBig fun ν => ∃ γ, ∃ τ, R γ τ ∧ Pp τ ν) = tBig (fun ν => ∃ (γ : En) (u : List Tr), (fun γ u ν => ∃ v, u = [v, v] ∧ R γ v ∧ Pp v ν) γ u ν) := by
          congr 1
          funext ν
          exact propext ⟨fun ⟨γ, τ, h1, h2⟩ => ⟨γ, _, τ, rfl, h1, h2⟩, fun ⟨γ, u, τ, _, h1, h2⟩ => ⟨γ, τ, h1, h2⟩⟩
        -- behind `declared`
        have fin : ∀ (Rr : En → En → Prop) (Rl' : Rl) (o : Outcome) (h23 : AH), (∀ γ γ', Rr γ γ' ↔ ∃ τ, Rl' γ γ' τ) → DlQ G c P s (h16, s2.M, s2.Pn, τ', s2.m + 2, s2.E, s2.cap, s2.rc, s2.ws) (bT e ++ pNm 30 p) ([] ++ pNm 30 p) ((2 * nw e - 1) + (2 * nw p - 1) + 1) t (fun γ u ν => ∃ v, u = [v, v] ∧ R γ v ∧ Pp v ν) Rr o h23 → KV (DcQ G c P s (fun x => x ∈ bT e ++ pNm 30 p) (2 * (nw p + nw e + 1)) (tIf (tBig fun ν => ∃ γ, ∃ τ, R γ τ ∧ Pp τ ν) (.error (6, t)) (.ok Rl')) (wW c.Ct c.Dt (Pl c.ts) n 0 e ++ ckO (Pl c.ts) t [[shp c.Ct c.Dt 30 p]] 1) rc' (pNm 30 p)) (fun h23 => ∃ b25, fR h23 q 314 = some b25 ∧ (C G mX10_check_2 D [.ref (gW G 5), .ref (b25), .ref (gW G 1), .int (fI h23 q 313)] h23 (KV (DcQ G c P s (fun x => x ∈ bT e ++ pNm 30 p) (2 * (nw p + nw e + 1)) (tIf (tBig fun ν => ∃ γ, ∃ τ, R γ τ ∧ Pp τ ν) (.error (6, t)) (.ok Rl')) (wW c.Ct c.Dt (Pl c.ts) n 0 e ++ ckO (Pl c.ts) t [[shp c.Ct c.Dt 30 p]] 1) rc' (pNm 30 p)) (fun h27 => DcQ G c P s (fun x => x ∈ bT e ++ pNm 30 p) (2 * (nw p + nw e + 1)) (tIf (tBig fun ν => ∃ γ, ∃ τ, R γ τ ∧ Pp τ ν) (.error (6, t)) (.ok Rl')) (wW c.Ct c.Dt (Pl c.ts) n 0 e ++ ckO (Pl c.ts) t [[shp c.Ct c.Dt 30 p]] 1) rc' (pNm 30 p) (.returned none) h27)))) o h23 := by
          intro Rr Rl' o h23 hRR z
          rcases z with ⟨big, z1, x, rfl, z3, z4⟩ | ⟨nbig, rfl, s4, rfl, w4, c4, p4, q9, nm4, uf4⟩
          · rw [tIf_pos (by rw [ebg]; exact big)]
            exact KV.t ⟨z1, x, rfl, z3, by omega⟩
          · rw [tIf_neg (by rw [ebg]; exact nbig)]
            have x4 := q9.xs
            have u4' := q9.uf k hWq
            obtain ⟨a1, a2, ⟨pa, a3⟩, a4, a5, a6, a7⟩ := id x4
            have hp16 : pot h16 s2.cap = pot s2.h s2.cap := by unfold pot; rw [hun]
            have hp4 : pot s4.h s4.cap = pot s2.h s2.cap := p4.trans hp16
            obtain ⟨b1', b2', b3'⟩ := q1.cnt
            have hun4 : un s4.h ≤ pot s4.h s4.cap := by unfold pot; omega
            have ews : s4.ws = s1.ws := w4.trans w2
            obtain ⟨ρ, hρ⟩ := x6.tt.sol
            obtain ⟨v, -, -, hPv⟩ := q8.sol hρ
            have c4' : s4.rc = rc' := by rw [c4]; exact c2.trans c1
            have hty := shp_ty hC (show rc' ≤ c.Ct.length by rw [← c4']; exact a5) 30 p hp hsv Pp hr2 v _ hPv
            refine KV.i ⟨p1, (u4'.2.2.2.2.2 314).2.2.trans f1, ?_⟩
            rw [(u4'.2.2.2.2.2 313).1, htok]
            have cc := c_check2 (d := D - 500) (tok := t) (rc := rc') (N := c.N) (Ak := gAk c.Ct c.Dt) (Sg := gSg c.N c.Ct c.Dt) (τ := v) (W := c.W) (O := c.O) (Z := c.Z) (D := c.D) x4.hD (gAk_fn hC) (gSg_fn hC) (by rw [← c4']; exact a5) x4.fix a2 a3 a4 hp hTp (q9.ot k hTp o1) hty h24 htl a1.1.2.2.2.1.1 (fun t ht => ⟨a6 t ht, a1.1.2.2.2.1.2 t ht⟩) (by rw [ews]; omega) (by omega)
            rw [show D - 500 + 500 = D by omega] at cc
            refine C.use cc (by decide) ?_
            rintro _ h27 ⟨rfl, F, hu, hw⟩ l -
            have hl1 : (ckO (Pl c.ts) t [[shp c.Ct c.Dt 30 p]] 1).length ≤ 1 := by
              unfold ckO
              split
              · exact Nat.le_refl _
              · exact Nat.zero_le _
            have r5 := q9.fm (b' := 2 * (nw p + nw e + 1)) k F (l.weak (by decide +kernel)) hw (by omega) (by
              have : pot h27 s4.cap ≤ pot s4.h s4.cap + 6 * (nw p - 1) := by unfold pot; omega
              omega) (by rw [wAll_len, ews]; omega)
            refine KV.i ⟨(h27, s4.M, s4.Pn, s4.t, s4.m, s4.E, s4.cap, s4.rc, wAll s4.ws (ckO (Pl c.ts) t [[shp c.Ct c.Dt 30 p]] 1)), rfl, rfl, by show wAll s4.ws _ = _; rw [ews, w1, ← wAll_ap], c4', r5.imp hRR, fun t ht => nm4 t ht, fun a ha => ?_⟩
            have v1 := (q1.1.2.1 a (k.2.2.2.2.2.2.1 a ha).1)
            exact (((v1.tr (q3 a ha)).tr (q7 a ha)).tr (uf4 a ha)).tr (F.uw (a7.1 a ha).1)
        cases hst : tSt n e with
        | true =>
          have dl := c_declG (D := D - 1) k q8 (L := bT e ++ pNm 30 p) (tok := t) hfc (fun t ht => List.mem_append_right _ ht) htl (hb.le (by omega)) (by omega)
          rw [show D - 1 + 1 = D by omega] at dl
          refine C.mono dl fun o h23 z => fin _ _ o h23 (fun γ γ' => ?_) z
          refine ⟨fun ⟨⟨u, ν, v, _, h1, h2⟩, h3⟩ => ⟨.num 0, ⟨ν, v, h1, h2⟩, ?_⟩, fun ⟨_, ⟨ν, v, h1, h2⟩, h3⟩ => ⟨⟨_, ν, v, rfl, h1, h2⟩, ?_⟩⟩
          · rw [h3]
            have : (fun ν => ∃ u v, u = [v, v] ∧ R γ v ∧ Pp v ν) = fun ν => ∃ τ, R γ τ ∧ Pp τ ν := by
              funext ν
              exact propext ⟨fun ⟨u, v, _, h1, h2⟩ => ⟨v, h1, h2⟩, fun ⟨v, h1, h2⟩ => ⟨_, v, rfl, h1, h2⟩⟩
            rw [this]
            rfl
          · rw [h3]
            have : (fun ν => ∃ u v, u = [v, v] ∧ R γ v ∧ Pp v ν) = fun ν => ∃ τ, R γ τ ∧ Pp τ ν := by
              funext ν
              exact propext ⟨fun ⟨u, v, _, h1, h2⟩ => ⟨v, h1, h2⟩, fun ⟨v, h1, h2⟩ => ⟨_, v, rfl, h1, h2⟩⟩
            rw [this]
            rfl
        | false =>
          have dl := c_declN (D := D - 1) k q8 (L := bT e ++ pNm 30 p) (tok := t) (fun t ht => List.mem_append_right _ ht) htl (hb.le (by omega)) (by omega)
          rw [show D - 1 + 1 = D by omega] at dl
          refine C.mono dl fun o h23 z => fin _ _ o h23 (fun γ γ' => ?_) z
          exact ⟨fun ⟨u, ν, ⟨v, _, h1, h2⟩, h3⟩ => ⟨.num 0, ν, ⟨v, h1, h2⟩, h3⟩, fun ⟨_, ν, ⟨v, h1, h2⟩, h3⟩ => ⟨_, ν, ⟨v, rfl, h1, h2⟩, h3⟩⟩
      · rw [eqE_n fun w => no (lawE.mpr w), bE_er]
        obtain ⟨z1, y, rfl, z3, z4⟩ := ft
        exact KV.t ⟨z1, y, rfl, z3, by omega⟩
end
