/-! THE COMPONENT'S TYPER: one function -/
section
variable {G : Gh} {c : Cx} {P P0 : Nat → Prop} {s s1 : Sx} {B : Nat → Prop} {us L V : List Nat} {b D q b0 r0 qa cols l2 l3 n lo hi rc' t v : Nat} {Q : Outcome → AH → Prop} {S : En → List Tr → Prop} {cs fs : List Tr} {tv : Tr} {A : En → Prop}
/-- the row of types gets -1 everywhere -/
theorem fn_102 (k : XS G c P0 s) (hqa : hK s.h qa = 0) (hc24 : cols ≤ 24)
    (hQ : ∀ s2, Rn G c (fun a => P a ∨ a = qa) s B s2 us b S → Rw1 s2.h qa cols [] → s2.ws = s1.ws → s2.rc = s1.rc → pot s2.h s2.cap = pot s1.h s1.cap → X G mX49_infer (D + 1) none [] 102 [(0, .ref q), (1, .ref (gW G 6)), (2, .int (nI l2)), (3, .int (nI l3)), (4, .ref b0), (5, .int (nI cols)), (6, .ref qa), (7, .int (nI cols))] [] s2.h Q) :
    ∀ (f i : Nat) (s2 : Sx), cols - i < f → i ≤ cols → Rn G c (fun a => P a ∨ a = qa) s B s2 us b S → hL s2.h qa = cols → (∀ j, j < i → aI s2.h qa j = -1) → s2.ws = s1.ws → s2.rc = s1.rc → pot s2.h s2.cap = pot s1.h s1.cap → X G mX49_infer (D + 1) none [] 102 [(0, .ref q), (1, .ref (gW G 6)), (2, .int (nI l2)), (3, .int (nI l3)), (4, .ref b0), (5, .int (nI cols)), (6, .ref qa), (7, .int (nI i))] [] s2.h Q := by
  intro f
  induction f with
  | zero => intro i s2 hf; omega
  | succ f IH =>
    intro i s2 hf hi r hl ha h1 h2 h3
    by_cases e : i = cols
    · rw [e] at ha ⊢
      exact hQ s2 r ⟨hl, fun j p hp => by simp at hp, fun j _ hj => ha j hj⟩ h1 h2 h3
    · have x2 := r.xs
      obtain ⟨pv1, pv2, pv3⟩ := x2.2.2.2.2.2.2.1 qa (Or.inr rfl)
      refine bX49_infer_102 G D s2.h _ _ _ _ _ _ _ _ (x2.sA.at (by decide)) ⟨fun z => absurd z (nI_ge (by omega) (by omega)), fun _ => ⟨pv2, pv3, by rw [hl]; exact vp_i (by omega) (by omega), ?_⟩⟩
      rintro h11 e11 _ rfl
      rw [nI_1]
      rw [nI_cn (by omega)] at e11
      have r3 := r.wr (i := i) (v := -1) k (Or.inr rfl) hqa
      rw [← e11] at r3
      refine IH (i + 1) _ (by omega) (by omega) r3 (by show hL h11 qa = _; rw [e11, hL_sI]; exact hl) (fun j hj => ?_) h1 h2 (by show pot h11 s2.cap = _; rw [← h3]; unfold pot; rw [e11, un_sI])
      show aI h11 qa j = -1
      rw [e11, aI_sI]
      by_cases ej : j = i
      · rw [if_pos ⟨rfl, ej⟩]
      · rw [if_neg fun z => ej z.2]
        exact ha j (by omega)
theorem nw_54 : nw (n2 54 t tv (ls cs)) = nw tv + nw (ls cs) + 8 := by show 0 + (nw tv + nw (ls cs)) + 8 = _; omega
/-- one function -/
theorem fn_one {y : Tr} {i : Nat} (hC : CtF c.N c.Ct c.Dt) (hE : ExI G c n) (k : XS G c P s) (hhi : hi ≤ c.ts.length) (hWq : c.W q) (hk : hK s.h q = 46) (e48 : fR s.h q 348 = some r0) (rl : RowL c.W s.h r0 fs.length) (tg : TG (XA c.ts c.W c.O c.Z c.D s.h) c.W s.h (rowAt s.h r0) fs) (hfi : fs[i]? = some y) (ey : y = n2 54 t tv (ls cs)) (hTy : TR lo hi y) (hl8 : 1 ≤ cs.length ∧ cs.length ≤ 8) (hcl : ∀ y, y ∈ cs → (clP y).length = cols) (hV : ∀ t, t ∈ V → ∃ σ, (t, σ) ∈ s.E) (hD : fw y + 601 ≤ D + 1) (hnm : (t, Int.Internal.Linear.Expr.var v) ∈ s.E) (hcv : cln s.M s.t v)
    (r : Rn G c P s (fun t => t ∈ L) s1 [] b (fun γ u => A γ ∧ u = [])) (hs : sLn (fun rc k rc' => sCl c.N c.Ct c.Dt n (fun V rc e rc' => sEx c.ts c.O c.N c.Ct c.Dt n 0 V rc e rc') V rc k rc') cs s1.rc rc') (hb : BdX c s (b + 2 * nw y - 1)) (hf : Frs s.h c.Z c.D s.E (L ++ bT (ls cs)))
    (hft : ∀ f o h', (bE (tMt c.N c.Ct c.Dt n (tW c.N c.Ct c.Dt (Vl c.ts) c.kn n) cs A) fun Qm => eqE t (∃ γ ins o, Qm γ ins o ∧ γ t (ins.foldr tFun o)) fun γ => A γ ∧ ∃ ins o, Qm γ ins o ∧ γ t (ins.foldr tFun o)) = .error f → Ft G c s (fun t => t ∈ L ++ bT (ls cs)) (b + 2 * nw y - 1) f o h' → Q o h')
    (hgo : ∀ A' s2, (bE (tMt c.N c.Ct c.Dt n (tW c.N c.Ct c.Dt (Vl c.ts) c.kn n) cs A) fun Qm => eqE t (∃ γ ins o, Qm γ ins o ∧ γ t (ins.foldr tFun o)) fun γ => A γ ∧ ∃ ins o, Qm γ ins o ∧ γ t (ins.foldr tFun o)) = .ok A' → Rn G c P s (fun t => t ∈ L ++ bT (ls cs)) s2 [] (b + 2 * nw y - 1) (fun γ u => A' γ ∧ u = []) → s2.ws = wAll s1.ws ((cs.map fun k => wW c.Ct c.Dt (Pl c.ts) n 0 (clE k)).flatten ++ ckM c.Ct c.Dt (Pl c.ts) t cs) → s2.rc = rc' → X G mX49_infer (D + 1) none [] 57 [(0, .ref q), (1, .ref (gW G 6)), (2, .int (nI l2)), (3, .int (nI (i + 1)))] [] s2.h Q) :
    X G mX49_infer (D + 1) none [] 57 [(0, .ref q), (1, .ref (gW G 6)), (2, .int (nI l2)), (3, .int (nI i))] [] s1.h Q := by
  have hil := (List.getElem?_eq_some_iff.mp hfi).1
  obtain ⟨b0, fb, ob⟩ := tg i y hfi
  rw [ey] at ob hTy
  obtain ⟨hWb, hkb, ⟨ex, an⟩, oy⟩ := (OTG_nd (k := 54) (y := .add tv (ls cs)) (by decide)).mp ob
  have hk45 : hK s.h b0 = 45 := by simpa [kc] using hkb
  rw [OTG_c2 (by decide) (by decide)] at oy
  obtain ⟨rc0, e45, rlc, tgc⟩ := OTG_row.mp ((OTG_ef (m' := 22) (i' := 345) (by decide) (by decide)).mp oy.2)
  have e46 : c.D.1 t ∧ fR s.h b0 346 = some (c.Z.1 t) := (an (t : Int) _ rfl).2.2.2.2.1 rfl
  have tl := k.1.1.2.2.2.1.1
  have h1' : (tkn (.add (.num (t : Int)) (.add tv (ls cs))) : Int) < hi := hTy.2.1
  have e' : tkn (.add (.num (t : Int)) (.add tv (ls cs))) = t := rfl
  have htl : t < c.ts.length := by omega
  have htok : fI s.h b0 344 = nI t := by
    have := ex.2.2.1
    rw [show tf (hK s.h b0) = 344 by rw [hk45]; rfl] at this
    rw [i_eq, this, nI_toInt (by omega)]
    rfl
  have hTl : ∀ y, y ∈ cs → TR lo hi y := fun y hy => TR.ls_at hTy.2.2.2.2 y hy
  have x1 := r.xs
  have uq := r.uf k hWq
  have ub := r.uf k hWb
  obtain ⟨rl1, ra1, -⟩ := rl.mvs (N' := c.W) (h' := s1.h) fun a ha _ => ⟨(r.uf k ha).us, ha⟩
  obtain ⟨z1, z2, z3, z4⟩ := row_sz rl1
  obtain ⟨rw0, rwn, rwc, -, rwb⟩ := row_get (i := i) rl1 (by rw [ra1]; exact fb) (by omega)
  obtain ⟨rc1, rca, -⟩ := rlc.mvs (N' := c.W) (h' := s1.h) fun a ha _ => ⟨(r.uf k ha).us, ha⟩
  obtain ⟨y1, y2, y3, y4⟩ := row_sz rc1
  -- its first clause
  obtain ⟨k0, hk0⟩ : ∃ k0, cs[0]? = some k0 := ⟨_, List.getElem?_eq_getElem (by omega)⟩
  obtain ⟨bc, fc, oc⟩ := tgc 0 k0 hk0
  have hk0m := List.mem_of_getElem? hk0
  obtain ⟨tc, vc, ps, ec, ek, hc24⟩ : ∃ (tc : Nat) (vc : Int) (ps : List Tr) (ec : Tr), k0 = n3 50 tc (.num vc) (ls ps) ec ∧ ps.length ≤ 24 := by
    cases cs with
    | nil => cases hk0
    | cons a cs' =>
      cases hk0
      obtain ⟨r1, ⟨tc, vc, ps, ec, ek, _, _, _, h24, _, _⟩, _⟩ := hs
      exact ⟨tc, vc, ps, ec, ek, by rw [List.length_map] at h24; omega⟩
  have hcol : ps.length = cols := by
    have := hcl k0 hk0m
    rw [ek] at this
    rw [← this]
    exact (congrArg List.length (unl_ls ps)).symm
  rw [ek] at oc
  obtain ⟨hWc, hk29, arr, be, eA', hla, -, -, -⟩ := cl_ot2 oc
  have uc := r.uf k hWc
  have ua := r.uf k eA'.2.2
  obtain ⟨rd0, rdn, rdc, -, rdb⟩ := row_get (i := 0) rc1 (by rw [rca]; exact fc) (by omega)
  have eny : nw y = nw tv + nw (ls cs) + 8 := by rw [ey, nw_54]
  have efy : fw y = max 0 (max (fw tv) (fw (ls cs))) + 1 := by rw [ey]; rfl
  obtain ⟨u1, u2, u3, u4, u5⟩ := id hb
  obtain ⟨⟨b1, b2, b3⟩, b4, b5⟩ := r.cnt
  have hun : un s1.h ≤ pot s1.h s1.cap := by unfold pot; omega
  obtain ⟨m1, m2⟩ := un_rm (h := s1.h) (n := cols) (by omega)
  refine bX49_infer_57 G D s1.h _ _ _ _ (x1.sA.at (by decide)) ⟨uq.1.trans hk, r0, (uq.2.2.2.2.2 348).2.2.trans e48, z1, ?_⟩
  rw [z2, nI_leI (by omega) (by omega)]
  refine ⟨fun z => by omega, fun _ => ⟨r0, (uq.2.2.2.2.2 348).2.2.trans e48, z1, C.rr ((c_rfun (d := 0) rwc rwb (ub.1.trans hk45)).up (by omega)) ⟨ub.1.trans hk45, rc0, (ub.2.2.2.2.2 345).2.2.trans e45, y1, C.rr ((c_rcl (d := 0) rdc rdb (uc.1.trans hk29)).up (by omega)) ⟨uc.1.trans hk29, arr, (uc.2.2.2.2.2 317).2.2.trans eA'.1, ua.1.trans eA'.2.1, ?_⟩⟩⟩⟩
  rintro _ rfl
  rw [ua.2.1, hla, hcol, show Int32.ofNat cols = nI cols from rfl, nI_cn (by omega)]
  refine ⟨nI_pos (by omega), m1, m2, fun qa hqa1 h28 e28 => ?_⟩
  have hqa : hK s.h qa = 0 := r.1.1.fresh hqa1
  have ra := r.nA (n := cols) (m := 5) k hqa1 (by omega)
  rw [← e28] at ra
  have hp28 : pot h28 s1.cap = pot s1.h s1.cap + 16 + cols := by unfold pot; rw [e28, un_nA]; omega
  refine fn_102 (s1 := (h28, s1.M, s1.Pn, s1.t, s1.m, s1.E, s1.cap, s1.rc, s1.ws)) (Q := Q) k hqa (by omega) ?_ (cols + 1) 0 _ (by omega) (by omega) ra (by show hL h28 qa = _; rw [e28, hL_nA, if_pos rfl]) (fun j hj => by omega) rfl rfl rfl
  intro s2 r2 rw2 w2 c2 p2
  have p2' : pot s2.h s2.cap = pot s1.h s1.cap + 16 + cols := p2.trans hp28
  have x2 := r2.xs
  have ub2 := r2.uf k hWb
  refine bX49_infer_102 G D s2.h _ _ _ _ _ _ _ _ (x2.sA.at (by decide)) ⟨fun _ => ⟨ub2.1.trans hk45, rc0, (ub2.2.2.2.2.2 345).2.2.trans e45, ?_⟩, fun z => absurd (by rw [nI_leI (by omega) (by omega)]; exact Nat.le_refl _) z⟩
  have cm := c_mat (D := D - 2) (rc' := rc') (P := P) (qa := qa) (cols := cols) (V := V) (A := A) (u := 0) (wl := 5) (r0 := rc0) hE k hhi rlc tgc hTl hl8 hV (fun y hy => by have := fw_mem cs y hy; omega) hcl hqa r2 rw2 (by rw [c2]; exact hs) (fun γ => ⟨fun h => ⟨_, h, rfl⟩, fun ⟨_, h, _⟩ => h⟩) (hb.le (by omega)) hf ⟨by omega, by rw [w2]; show s1.ws.length + 5 ≤ _; omega⟩
  rw [show D - 2 + 2 = D by omega] at cm
  refine C.mono cm ?_
  intro o h5 z
  unfold ClQ at z
  cases hr : tMt c.N c.Ct c.Dt n (tW c.N c.Ct c.Dt (Vl c.ts) c.kn n) cs A with
  | error f =>
    rw [hr] at z
    obtain ⟨zz1, x, rfl, zz3, zz4⟩ := z
    exact KI.t (hft f _ _ (by rw [hr, bE_er]) ⟨zz1, x, rfl, zz3, by omega⟩)
  | ok Qm =>
    rw [hr] at z
    obtain ⟨t2, ins, s3, rfl, rfl, w3, c3, q3, q4, q5, q6⟩ := z
    refine KI.i ?_
    rintro _ rfl
    obtain ⟨⟨d1, d2, d3⟩, d4, d5⟩ := q3.cnt
    have hins : ins.length = cols := q4.1
    rw [Int32.sub_eq_add_neg]
    have q7 := (q3.wk (b' := b + 2 * nw y - 2) (by omega) fun _ h => h).imp (S' := fun γ u => ∃ τs o, u = τs ++ [(τs.drop cols).foldr tFun o] ∧ τs.length = ins.length ∧ Qm γ τs o) fun γ u => ⟨by
      rintro ⟨u0, τs, o, rfl, ⟨hA, rfl⟩, h1⟩
      have hl := q3.len (γ := γ) (u := ([] ++ τs) ++ [o]) ⟨[], τs, o, rfl, ⟨hA, rfl⟩, h1⟩
      have hl' : τs.length = ins.length := by simpa using hl
      exact ⟨τs, o, by rw [List.drop_of_length_le (by omega)]; rfl, hl', h1⟩, by
      rintro ⟨τs, o, rfl, hl, h1⟩
      obtain ⟨u0, hA, rfl⟩ := q6 γ τs o h1
      exact ⟨[], τs, o, by rw [List.drop_of_length_le (by omega)]; rfl, ⟨hA, rfl⟩, h1⟩⟩
    rw [List.nil_append] at q7
    refine fn_140 (s1 := s3) (Q := Q) (l3 := i) k (hb.le (by omega)) hins (by omega) (by omega) ?_ cols s3 t2 (Nat.le_refl _) q7 q4.2 rfl rfl rfl rfl rfl (by omega) (by omega)
    intro s4 x q8 w4 c4 un4 cap4 m4
    have x4 := q8.xs
    have ub4 := q8.uf k hWb
    obtain ⟨iE, hiE⟩ := List.getElem?_of_mem hnm
    obtain ⟨ba, g1, g2, g3, g3', g4, g5, g6, g7⟩ := x4.nod (i := iE) (t := t) (v := v) (by rw [q8.2.2.2.1]; exact hiE)
    have q9 := q8.nmd k hnm hcv
    have ix1 : ∀ {α : Type} (l : List α) (x v : α), ((l ++ [x]) ++ [v])[l.length + 1]? = some v := fun l x v => by
      rw [List.getElem?_append_right (by rw [List.length_append]; exact Nat.le_refl _), List.length_append, List.length_singleton, Nat.sub_self]
      rfl
    have ix0 : ∀ {α : Type} (l : List α) (x v : α), ((l ++ [x]) ++ [v])[l.length]? = some x := fun l x v => by
      rw [List.getElem?_append_left (by rw [List.length_append]; exact Nat.lt_succ_self _), List.getElem?_append_right (Nat.le_refl _), Nat.sub_self]
      rfl
    have lenQ : ∀ γ τs o, Qm γ τs o → A γ ∧ τs.length = ins.length := fun γ τs o h1 => by
      obtain ⟨u0, hA, rfl⟩ := q6 γ τs o h1
      have hl := q3.len (γ := γ) (u := ([] ++ τs) ++ [o]) ⟨[], τs, o, rfl, ⟨hA, rfl⟩, h1⟩
      exact ⟨hA, by simpa using hl⟩
    refine bX49_infer_140 G D s4.h _ _ _ _ _ _ _ _ (x4.sA.at (by decide)) (x4.sA.at (by decide)) (x4.sA.at (by decide)) ⟨fun _ => ⟨ub4.1.trans hk45, c.Z.1 t, (ub4.2.2.2.2.2 346).2.2.trans e46.2, g5, ?_⟩, fun z => absurd (by decide) z⟩
    rw [g6, (ub4.2.2.2.2.2 344).1, htok]
    refine C.mono ((q9.sameU (d := 0) (t := t) k (ix1 ins x v) (ix0 ins x v) htl (hb.le (by omega))).up (by omega)) ?_
    have ein : ∀ (τs : List Tr) (F w : Tr), τs.length = ins.length → (((τs ++ [F]) ++ [w])[ins.length + 1]? = ((τs ++ [F]) ++ [w])[ins.length]? ↔ w = F) := fun τs F w hl => by
      rw [← hl, ix1, ix0]
      exact ⟨fun e => Option.some.inj e, fun e => by rw [e]⟩
    have lawE : (∃ γ u, (∃ u1 w, u = u1 ++ [w] ∧ (∃ τs o, u1 = τs ++ [τs.foldr tFun o] ∧ τs.length = ins.length ∧ Qm γ τs o) ∧ γ t w) ∧ u[ins.length + 1]? = u[ins.length]?) ↔ ∃ γ ins o, Qm γ ins o ∧ γ t (ins.foldr tFun o) := by
      constructor
      · rintro ⟨γ, _, ⟨_, w, rfl, ⟨τs, o, rfl, hl, h1⟩, h2⟩, h3⟩
        have e := (ein τs _ w hl).mp h3
        exact ⟨γ, τs, o, h1, by rw [← e]; exact h2⟩
      · rintro ⟨γ, τs, o, h1, h2⟩
        obtain ⟨-, hl⟩ := lenQ γ τs o h1
        exact ⟨γ, _, ⟨_, _, rfl, ⟨τs, o, rfl, hl, h1⟩, h2⟩, (ein τs _ _ hl).mpr rfl⟩
    rintro o h6 (⟨exi, rfl, τ', hun6, q10, q11⟩ | ⟨no, ft⟩)
    · have u6 := q10.uf k hWb
      have x6 := q10.xs
      refine KV.i ⟨rc0, (u6.2.2.2.2.2 345).2.2.trans e45, ?_⟩
      rw [(u6.2.2.2.2.2 344).1, htok]
      have hrcl : rc' ≤ c.Ct.length := by rw [← c3]; exact q3.xs.2.2.2.2.1
      obtain ⟨ρ, hρ⟩ := x6.tt.sol
      obtain ⟨⟨_, w, -, ⟨τs, o, -, -, hQ⟩, -⟩, -⟩ := q10.2.1.2.2.2.2.1 ρ hρ
      obtain ⟨-, hτl, hty⟩ := tMt_ty hC (clR_ln cs s1.rc hs hrcl) hcl hr hQ
      have hp6 : pot h6 s4.cap = pot s3.h s3.cap := by unfold pot; rw [hun6, un4, cap4]
      have ck := c_chkr (d := D - 500) (tok := t) (cols := cols) hC k q10 rlc tgc hTl hl8 (clR_ln cs s1.rc hs hrcl) hcl hτl hty htl hhi ⟨by have := q5.1; show pot h6 s4.cap + _ ≤ _; omega, by have := q5.2; show s4.ws.length + _ ≤ _; rw [w4]; omega⟩ (hb.le (by omega))
      rw [show D - 500 + 500 = D by omega] at ck
      refine C.mono ck ?_
      rintro _ h10 ⟨rfl, s5, rfl, w5, c5, q12, -⟩
      refine KV.i ?_
      rintro _ rfl
      rw [nI_1]
      have q13 := (((q12.wk (b' := b + 2 * nw y - 1) (by omega) fun _ h => h).pm (P := P) fun a ha => Or.inl ha).prj (us' := []) (fun _ => []) (fun t ht => (by cases ht)) (fun ρ _ => rfl)).imp (S' := fun γ u => (A γ ∧ ∃ ins o, Qm γ ins o ∧ γ t (ins.foldr tFun o)) ∧ u = []) fun γ u => ⟨by
        rintro ⟨_, ⟨⟨_, w, rfl, ⟨τs, o, rfl, hl, h1⟩, h2⟩, h3⟩, rfl⟩
        have e := (ein τs _ w hl).mp h3
        exact ⟨⟨(lenQ γ τs o h1).1, τs, o, h1, by rw [← e]; exact h2⟩, rfl⟩, by
        rintro ⟨⟨-, τs, o, h1, h2⟩, rfl⟩
        obtain ⟨-, hl⟩ := lenQ γ τs o h1
        exact ⟨_, ⟨⟨_, _, rfl, ⟨τs, o, rfl, hl, h1⟩, h2⟩, (ein τs _ _ hl).mpr rfl⟩, rfl⟩⟩
      refine hgo _ s5 (by rw [hr, bE_ok, eqE_y (lawE.mp exi)]) q13 ?_ ?_
      · rw [w5]
        show wAll s4.ws _ = _
        rw [w4, w3, w2, ← wAll_ap]
      · rw [c5]
        exact c4.trans c3
    · obtain ⟨zz1, x', rfl, zz3, zz4⟩ := ft
      exact KV.t (hft (5, t) _ _ (by rw [hr, bE_ok, eqE_n fun w => no (lawE.mpr w)]) ⟨zz1, x', rfl, zz3, by omega⟩)
end
