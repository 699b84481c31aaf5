/-! THE COMPONENT'S TYPER: functions that are declared -/
section
variable {G : Gh} {c : Cx} {P : Nat → Prop} {s : Sx} {V : List Nat} {D q n lo hi rc' t : Nat} {fs : List Tr}
theorem dc_funs (hC : CtF c.N c.Ct c.Dt) (hE : ExI G c n) (hl1 : 1 ≤ fs.length) (hs : sLn (fun rc f rc' => ∃ (t' : Nat) (v : Tr) (cs : List Tr), f = n2 54 t' v (ls cs) ∧ (1 ≤ cs.length ∧ cs.length ≤ 8) ∧ (∀ c c', c ∈ cs → c' ∈ cs → (clP c).length = (clP c').length) ∧ sLn (fun rc y rc' => sCl c.N c.Ct c.Dt n (fun V rc e rc' => sEx c.ts c.O c.N c.Ct c.Dt n 0 V rc e rc') (V ++ fs.map tkN) rc y rc') cs rc rc') fs s.rc rc') (hT : TR lo hi (n1 52 t (ls fs))) (hhi : hi ≤ c.ts.length) (ot : OTG (XA c.ts c.W c.O c.Z c.D s.h) c.W s.h (n1 52 t (ls fs)) 0 0 q) (k : XS G c P s) (hb : BdX c s (2 * nw (n1 52 t (ls fs)))) (hf : Frs s.h c.Z c.D s.E (bT (n1 52 t (ls fs)))) (hV : ∀ t, t ∈ V → ∃ σ, (t, σ) ∈ s.E) (hD : fw (n1 52 t (ls fs)) + 600 ≤ D + 1) : C G mX49_infer (D + 1) [.ref q, .ref (gW G 6)] s.h (DcQ G c P s (fun x => x ∈ bT (n1 52 t (ls fs))) (2 * nw (n1 52 t (ls fs))) (tW c.N c.Ct c.Dt (Vl c.ts) c.kn (n + 1) 2 (n1 52 t (ls fs)) (eA s.M s.t s.E)) (wW c.Ct c.Dt (Pl c.ts) (n + 1) 2 (n1 52 t (ls fs))) rc' (dNm (n1 52 t (ls fs)))) ∧ hK s.h q = 46 := by
  obtain ⟨hWq, hkq, ⟨ex, -⟩, oy⟩ := (OTG_nd (k := 52) (by decide)).mp ot
  have hk : hK s.h q = 46 := by simpa [kc] using hkq
  obtain ⟨r0, e48, rl, tg⟩ := OTG_row.mp ((OTG_ef (m' := 22) (i' := 348) (by decide) (by decide)).mp oy)
  refine ⟨?_, hk⟩
  have tl := k.1.1.2.2.2.1.1
  obtain ⟨htok, htl⟩ := dc_tok (k := 52) (ts := c.ts) (Or.inr (Or.inl rfl)) hT hhi tl (Or.inr (Or.inl hk)) ex
  have ew : nw (n1 52 t (ls fs)) = nw (ls fs) + 1 := by show 0 + nw (ls fs) + 1 = _; omega
  have efw : fw (n1 52 t (ls fs)) = max 0 (fw (ls fs)) + 1 := rfl
  have ebt : bT (n1 52 t (ls fs)) = bT (ls fs) := rfl
  have edn : dNm (n1 52 t (ls fs)) = fs.map tkN := by
    have : dNm (n1 52 t (ls fs)) = (unl (ls fs)).map tkN := rfl
    rw [this, unl_ls]
  have eww : wW c.Ct c.Dt (Pl c.ts) (n + 1) 2 (n1 52 t (ls fs)) = (fs.map fun f => ((fCs f).map fun k => wW c.Ct c.Dt (Pl c.ts) n 0 (clE k)).flatten ++ ckM c.Ct c.Dt (Pl c.ts) (tkN f) (fCs f)).flatten := by
    have : wW c.Ct c.Dt (Pl c.ts) (n + 1) 2 (n1 52 t (ls fs)) = ((unl (ls fs)).map fun f => ((fCs f).map fun k => wW c.Ct c.Dt (Pl c.ts) n 0 (clE k)).flatten ++ ckM c.Ct c.Dt (Pl c.ts) (tkN f) (fCs f)).flatten := rfl
    rw [this, unl_ls]
  have law : tW c.N c.Ct c.Dt (Vl c.ts) c.kn (n + 1) 2 (n1 52 t (ls fs)) (eA s.M s.t s.E) = bE (tFs c.N c.Ct c.Dt n (tW c.N c.Ct c.Dt (Vl c.ts) c.kn n) fs fun γ' => ∃ γ φ, eA s.M s.t s.E γ ∧ φ.length = fs.length ∧ γ' = updL γ ((fs.map tkN).zip φ)) fun B =>
            tIf (tBig fun ν => ∃ γ φ, ν = (fs.map tkN).zip φ ∧ φ.length = fs.length ∧ B (updL γ ν)) (.error (6, t)) (.ok fun γ γ' _ => (∃ φ, φ.length = fs.length ∧ eA s.M s.t s.E γ ∧ B (updL γ ((fs.map tkN).zip φ))) ∧ γ' = updS γ (gnS (fs.map tkN) fun ν => ∃ φ, ν = (fs.map tkN).zip φ ∧ φ.length = fs.length ∧ B (updL γ ν))) := by
    have e0 : tW c.N c.Ct c.Dt (Vl c.ts) c.kn (n + 1) 2 (n1 52 t (ls fs)) (eA s.M s.t s.E) = bE (tFs c.N c.Ct c.Dt n (tW c.N c.Ct c.Dt (Vl c.ts) c.kn n) (unl (ls fs)) fun γ' => ∃ γ φ, eA s.M s.t s.E γ ∧ φ.length = (unl (ls fs)).length ∧ γ' = updL γ (((unl (ls fs)).map tkN).zip φ)) fun B =>
            tIf (tBig fun ν => ∃ γ φ, ν = ((unl (ls fs)).map tkN).zip φ ∧ φ.length = (unl (ls fs)).length ∧ B (updL γ ν)) (.error (6, t)) (.ok fun γ γ' _ => (∃ φ, φ.length = (unl (ls fs)).length ∧ eA s.M s.t s.E γ ∧ B (updL γ (((unl (ls fs)).map tkN).zip φ))) ∧ γ' = updS γ (gnS ((unl (ls fs)).map tkN) fun ν => ∃ φ, ν = ((unl (ls fs)).map tkN).zip φ ∧ φ.length = (unl (ls fs)).length ∧ B (updL γ ν))) := rfl
    rw [e0, unl_ls]
  rw [law, eww, edn, ebt, ew]
  rw [ew] at hb
  rw [efw] at hD
  rw [ebt] at hf
  have hfs : ∀ y, y ∈ fs → ∃ (t : Nat) (v : Tr) (cs : List Tr), y = n2 54 t v (ls cs) := by
    clear law eww edn ebt ew hb hf hD efw rl tg oy hT ot hl1 ex
    generalize s.rc = rc at hs
    revert rc hs
    generalize V ++ fs.map tkN = V'
    induction fs with
    | nil => intro rc hs y hy; cases hy
    | cons x fs ih =>
      rintro rc ⟨r1, ⟨t', v, cs, e, -⟩, h2⟩ y hy
      rcases List.mem_cons.mp hy with w | w
      · exact ⟨t', v, cs, w.trans e⟩
      · exact ih r1 h2 y w
  obtain ⟨nd1, nd2⟩ := fB_nd fs hfs hf.1
  have hf2 : Frs s.h c.Z c.D s.E (fs.map tkN ++ fB fs) := ⟨nd1, fun x hx => hf.2 x (nd2 x hx)⟩
  have hln := fn_len (fun rc y rc' ⟨t, v, cs, e, _⟩ => ⟨t, v, cs, e⟩) fs _ _ hs
  have hTl : ∀ y, y ∈ fs → TR lo hi y := fun y hy => TR.ls_at hT.2.2.2 y hy
  obtain ⟨en1, en2⟩ := k.en
  refine bX49_infer G D s.h _ _ (k.sA.at (by decide)) fun x1 ex1 => ?_
  rw [ex1, en1]
  have rp0 : Rpn G c P s (fun t => t ∈ ([] : List Tr).map tkN) s [] [] (([] : List Tr).map tkN) 0 (fun γ u ν => eA s.M s.t s.E γ ∧ u = [] ∧ ν.map (·.1) = ([] : List Tr).map tkN) := (Rn.rf (B := fun t => t ∈ ([] : List Tr).map tkN) k).rp.imp fun γ u ν => ⟨fun ⟨⟨h1, h2⟩, h3⟩ => ⟨h1, h2, by rw [h3]; rfl⟩, fun ⟨h1, h2, h3⟩ => ⟨⟨h1, h2⟩, List.map_eq_nil_iff.mp h3⟩⟩
  refine fun_i7 (lo := lo) (hi := hi) k hWq hk e48 rl tg hTl hfs (by omega) ?_ fs [] s [] rfl rp0 rfl rfl (fun a _ => Uf.rf) (hb.le (by show 0 + fs.length ≤ _; omega)) hf2.l
  intro sN vs rN wN cN uN
  have xN := rN.xs
  have uqN := rN.uf k hWq
  obtain ⟨rlN, raN, -⟩ := rl.mvs (N' := c.W) (h' := sN.h) fun a ha _ => ⟨(rN.uf k ha).us, ha⟩
  have tgN : TG (XA c.ts c.W c.O c.Z c.D sN.h) c.W sN.h (rowAt sN.h r0) fs := fun i x hx => by
    obtain ⟨b, b1, b2⟩ := tg i x hx
    exact ⟨b, by rw [raN]; exact b1, rN.ot k (hTl x (List.mem_of_getElem? hx)) b2⟩
  have eEN := rN.2.2.2.1.1
  have elN := rN.2.2.2.1.2
  have hcv : ∀ v, v ∈ vs → cln sN.M sN.t v := fun v hv => rN.2.1.2.2.1 v (List.mem_append_right _ hv)
  have hat : ∀ (i x : Nat), (fs.map tkN)[i]? = some x → ∃ v, v ∈ vs ∧ (x, Int.Internal.Linear.Expr.var v) ∈ sN.E := fun i x hx => by
    have hil := (List.getElem?_eq_some_iff.mp hx).1
    obtain ⟨v, hv⟩ : ∃ v, vs[i]? = some v := ⟨_, List.getElem?_eq_getElem (by omega)⟩
    refine ⟨v, List.mem_of_getElem? hv, ?_⟩
    rw [eEN]
    refine List.mem_append_right _ (List.mem_of_getElem? (i := i) ?_)
    rw [List.getElem?_zip_eq_some]
    exact ⟨hx, by rw [List.getElem?_map, hv]; rfl⟩
  have hVN : ∀ x, x ∈ V ++ fs.map tkN → ∃ σ, (x, σ) ∈ sN.E := fun x hx => by
    rcases List.mem_append.mp hx with w | w
    · obtain ⟨σ, h1⟩ := hV x w
      exact ⟨σ, by rw [eEN]; exact List.mem_append_left _ h1⟩
    · obtain ⟨i, hi⟩ := List.getElem?_of_mem w
      obtain ⟨v, -, h1⟩ := hat i x hi
      exact ⟨_, h1⟩
  have hnm : ∀ y, y ∈ fs → ∃ v, (tkN y, Int.Internal.Linear.Expr.var v) ∈ sN.E ∧ cln sN.M sN.t v := fun y hy => by
    obtain ⟨i, hi⟩ := List.getElem?_of_mem (List.mem_map_of_mem (f := tkN) hy)
    obtain ⟨v, h1, h2⟩ := hat i _ hi
    exact ⟨v, h2, hcv v h1⟩
  have fN : Frs sN.h c.Z c.D sN.E ([] ++ fB fs) := by
    rw [eEN]
    exact hf2.nx2 rN.1 k.bd fun t h => h
  have hpdn : (fs.map tkN).Nodup := (List.nodup_append.mp nd1).1
  have eAN := rN.ea k
  have rA : Rn G c P sN (fun t => t ∈ ([] : List Nat)) sN [] 0 (fun γ' u => (∃ γ φ, eA s.M s.t s.E γ ∧ φ.length = fs.length ∧ γ' = updL γ ((fs.map tkN).zip φ)) ∧ u = []) := (Rn.rf (B := fun t => t ∈ ([] : List Nat)) xN).imp fun γ' u => by
    rw [eAN]
    constructor
    · rintro ⟨⟨γ, _, ν, ⟨h1, -, h3⟩, h4⟩, h5⟩
      refine ⟨⟨γ, ν.map (·.2), h1, ?_, ?_⟩, h5⟩
      · have := congrArg List.length h3
        rw [List.length_map, List.length_map] at this
        rw [List.length_map]
        exact this
      · rw [h4, ← nu_zip ν _ _ h3 rfl]
    · rintro ⟨⟨γ, φ, h1, h2, h4⟩, h5⟩
      exact ⟨⟨γ, [], _, ⟨h1, rfl, List.map_fst_zip (by rw [List.length_map, h2]; exact Nat.le_refl _)⟩, h4⟩, h5⟩
  refine fns_57 (f1 := []) (V := V ++ fs.map tkN) (l2' := s.E.length) (bE' := 2 * nw (ls fs) - fs.length) (lo := lo) (rc' := rc') hC hE xN hhi hWq (uqN.1.trans hk) ((uqN.2.2.2.2.2 348).2.2.trans e48) rlN tgN hTl hVN (fun y hy => by have := fw_mem fs y hy; omega) hnm fs 0 sN [] _ rfl rA (by rw [cN]; exact hs) ((hb.le (show fs.length + (0 + 2 * nw (ls fs) - fs.length) ≤ _ by omega)).nxp rN) (by omega) fN ?_ ?_
  · intro f o h' e z
    rw [e, bE_er]
    obtain ⟨z1, x, rfl, z3, z4⟩ := z
    have r6 := rN.2.2.2.2.2.1
    refine ⟨((rN.1.wk (B' := fun t => t ∈ bT (ls fs)) fun t ht => nd2 t (List.mem_append_left _ ht))).tr k.sA ((z1.wk fun t ht => nd2 t (List.mem_append_right _ (by rw [List.nil_append] at ht; exact ht))).rc_le rN.2.2.2.2.1), x, rfl, z3, by omega⟩
  · intro B s2 e r2 w2 c2
    rw [e, bE_ok]
    have rr := rN.rn k r2 hcv
    rw [List.nil_append] at rr
    have uq2 := rr.uf k hWq
    obtain ⟨rl2, ra2, -⟩ := rl.mvs (N' := c.W) (h' := s2.h) fun a ha _ => ⟨(rr.uf k ha).us, ha⟩
    obtain ⟨z1, z2, z3, z4⟩ := row_sz rl2
    refine bX49_infer_57 G D s2.h _ _ _ _ (rr.xs.sA.at (by decide)) ⟨uq2.1.trans hk, r0, (uq2.2.2.2.2.2 348).2.2.trans e48, z1, ?_⟩
    rw [z2, nI_leI (by omega) (by omega)]
    refine ⟨fun _ => ?_, fun z => absurd (Nat.le_refl _) z⟩
    rw [(uq2.2.2.2.2.2 313).1, htok]
    have dl := c_declG (D := D - 1) k rr (tok := t) hf2 (fun t ht => List.mem_append_left _ ht) htl (hb.le (by omega)) (by omega)
    rw [show D - 1 + 1 = D by omega] at dl
    refine C.mono dl ?_
    have eset : ∀ γ ν, eA s.M s.t s.E γ → ((∃ u : List Tr, (eA s.M s.t s.E γ ∧ u = [] ∧ ν.map (·.1) = fs.map tkN) ∧ B (updL γ ν)) ↔ ∃ φ, ν = (fs.map tkN).zip φ ∧ φ.length = fs.length ∧ B (updL γ ν)) := fun γ ν hA => ⟨by
      rintro ⟨_, ⟨-, -, h3⟩, h4⟩
      refine ⟨ν.map (·.2), nu_zip ν _ _ h3 rfl, ?_, h4⟩
      have := congrArg List.length h3
      rw [List.length_map, List.length_map] at this
      rw [List.length_map]
      exact this, by
      rintro ⟨φ, h1, h2, h4⟩
      exact ⟨[], ⟨hA, rfl, by rw [h1]; exact List.map_fst_zip (by rw [List.length_map, h2]; exact Nat.le_refl _)⟩, h4⟩⟩
    have ebg : (tBig fun ν => ∃ γ φ, ν = (fs.map tkN).zip φ ∧ φ.length = fs.length ∧ B (updL γ ν)) = tBig (fun ν => ∃ (γ : En) (u : List Tr), (eA s.M s.t s.E γ ∧ u = [] ∧ ν.map (·.1) = fs.map tkN) ∧ B (updL γ ν)) := by
      congr 1
      funext ν
      refine propext ⟨?_, ?_⟩
      · rintro ⟨γ, φ, h1⟩
        obtain ⟨h2, γ0, h3, h4⟩ := tFs_set hpdn e γ ν ⟨φ, h1⟩
        exact ⟨γ0, [], ⟨h3, rfl, h2⟩, by rw [h4]; exact h1.2.2⟩
      · rintro ⟨γ, u, h1⟩
        obtain ⟨φ, h2⟩ := (eset γ ν h1.1.1).mp ⟨u, h1⟩
        exact ⟨γ, φ, h2⟩
    rintro o h6 (⟨big, y1, x, rfl, y3, y4⟩ | ⟨nbig, rfl, s4, rfl, w4, c4, p4, q9, nm4, uf4⟩)
    · rw [tIf_pos (by rw [ebg]; exact big)]
      exact KV.t ⟨y1.wk nd2, x, rfl, y3, by omega⟩
    · rw [tIf_neg (by rw [ebg]; exact nbig)]
      refine KV.i ⟨s4, rfl, rfl, by rw [w4, w2, wN], c4.trans c2, (q9.wk (by omega) nd2).imp fun γ γ' => ⟨?_, ?_⟩, nm4, fun a ha => ?_⟩
      · rintro ⟨⟨u, ν, h1⟩, h2⟩
        obtain ⟨φ, rfl, h4, h5⟩ := (eset γ ν h1.1.1).mp ⟨u, h1⟩
        refine ⟨.num 0, ⟨φ, h4, h1.1.1, h5⟩, ?_⟩
        rw [h2]
        congr 2
        funext ν'
        exact propext (eset γ ν' h1.1.1)
      · rintro ⟨_, ⟨φ, h4, hA, h5⟩, h2⟩
        obtain ⟨u, h6⟩ := (eset γ _ hA).mpr ⟨φ, rfl, h4, h5⟩
        refine ⟨⟨u, _, h6⟩, ?_⟩
        rw [h2]
        congr 2
        funext ν'
        exact propext (eset γ ν' hA).symm
      · exact ((uN a ha).tr (r2.1.2.1 a (xN.2.2.2.2.2.2.1 a ha).1)).tr (uf4 a ha)
end
