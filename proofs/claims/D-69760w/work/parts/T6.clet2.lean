/-! THE COMPONENT'S TYPER: let -/
section
variable {G : Gh} {c : Cx} {P : Nat → Prop} {s : Sx} {n lo hi q rc' D t r0 r1 be : Nat} {ds : List Tr} {V V' : List Nat} {e : Tr}
theorem dc_nw (hs : sEx c.ts c.O c.N c.Ct c.Dt n 2 V r0 e r1) : 1 ≤ nw e := by
  cases n with
  | zero => exact hs.elim
  | succ n =>
    unfold sEx at hs
    rw [if_pos rfl] at hs
    rcases hs with ⟨t, p, e, rfl, -⟩ | ⟨t, fs, rfl, -⟩ | ⟨t, ds, rfl, -⟩ <;> exact Nat.le_add_left 1 _
theorem let_7 (hE : ExI G c n) (hDc : DcI G c n) (k : XS G c P s) (hhi : hi ≤ c.ts.length) (hWq : c.W q) (hk : hK s.h q = 17) (e98 : fR s.h q 298 = some r0) (rl : RowL c.W s.h r0 ds.length) (tg : TG (XA c.ts c.W c.O c.Z c.D s.h) c.W s.h (rowAt s.h r0) ds) (e99 : fR s.h q 299 = some be) (oe : OTG (XA c.ts c.W c.O c.Z c.D s.h) c.W s.h e 0 0 be) (hTl : ∀ y, y ∈ ds → TR lo hi y) (hTe : TR lo hi e) (hD : ∀ y, y ∈ ds → fw y + 600 ≤ D) (hDe : fw e + 600 ≤ D) (hse : sEx c.ts c.O c.N c.Ct c.Dt n 0 V' r1 e rc') :
    ∀ (ds2 ds1 : List Tr) (b : Nat) (s1 : Sx) (L V : List Nat) (Bl : En → En → Prop) (w : List (Nat × Nat)), ds = ds1 ++ ds2 → Dn G c P s (fun t => t ∈ L) s1 b Bl → (∀ t, t ∈ V → ∃ σ, (t, σ) ∈ s1.E) → sDc (fun V rc d rc' => sEx c.ts c.O c.N c.Ct c.Dt n 2 V rc d rc') ds2 V s1.rc V' r1 → BdX c s (b + 2 * nw (ls ds2) + 2 * nw e) → Frs s.h c.Z c.D s.E (L ++ (bT (ls ds2) ++ bT e)) → s1.ws = wAll s.ws w →
    X G mX17_infer (D + 1) none [] 7 [(0, .ref q), (1, .ref (gW G 6)), (2, .int (nI s.E.length)), (3, .int (nI ds1.length))] [] s1.h (ExQ G c P s (fun t => t ∈ L ++ (bT (ls ds2) ++ bT e)) (b + 2 * nw (ls ds2) + (2 * nw e - 1)) (bE (tDs (tW c.N c.Ct c.Dt (Vl c.ts) c.kn n) ds2 Bl) fun B => bE (eX (tW c.N c.Ct c.Dt (Vl c.ts) c.kn n) e fun γ' => ∃ γ, B γ γ') fun R => .ok fun γ τ => γ = γ ∧ ∃ γ2, B γ γ2 ∧ R γ2 τ) (w ++ ((ds2.map (wW c.Ct c.Dt (Pl c.ts) n 2)).flatten ++ wW c.Ct c.Dt (Pl c.ts) n 0 e)) rc') := by
  intro ds2
  induction ds2 with
  | nil =>
    intro ds1 b s1 L V Bl w he r hV hs hb hf hw
    rw [List.append_nil] at he
    subst he
    obtain ⟨hs1, hs2⟩ := hs
    have x1 := r.xs
    have uq := r.uf k hWq
    obtain ⟨rl1, ra1, -⟩ := rl.mvs (N' := c.W) (h' := s1.h) fun a ha _ => ⟨(r.uf k ha).us, ha⟩
    obtain ⟨z1, z2, z3, z4⟩ := row_sz rl1
    have law : (bE (tDs (tW c.N c.Ct c.Dt (Vl c.ts) c.kn n) [] Bl) fun B => bE (eX (tW c.N c.Ct c.Dt (Vl c.ts) c.kn n) e fun γ' => ∃ γ, B γ γ') fun R => (.ok fun γ τ => γ = γ ∧ ∃ γ2, B γ γ2 ∧ R γ2 τ : Except Fa (En → Tr → Prop))) = bE (eX (tW c.N c.Ct c.Dt (Vl c.ts) c.kn n) e fun γ' => ∃ γ, Bl γ γ') fun R => (.ok fun γ τ => γ = γ ∧ ∃ γ2, Bl γ γ2 ∧ R γ2 τ : Except Fa (En → Tr → Prop)) := rfl
    rw [law]
    refine bX17_infer_7 G D s1.h _ _ _ _ (x1.sA.at (by decide)) (x1.sA.at (by decide)) ⟨uq.1.trans hk, r0, (uq.2.2.2.2.2 298).2.2.trans e98, z1, ?_⟩
    rw [z2, nI_leI (by omega) (by omega)]
    have e99' : fR s1.h q 299 = some be := (uq.2.2.2.2.2 299).2.2.trans e99
    refine ⟨fun _ => ⟨fun z => (by rw [e99'] at z; cases z), fun b6 _ => ⟨fun z => (by rw [e99'] at z; cases z), fun b8 hb8 => ?_⟩⟩, fun z => absurd (Nat.le_refl _) z⟩
    rw [e99'] at hb8
    cases hb8
    obtain ⟨k2, ν2, v1, v2, v3⟩ := r.body (D := D) (A1 := fun γ' => ∃ γ, Bl γ γ') hE k (by rw [← hs2]; exact hse) hTe hhi oe (hb.le (by show b + 2 * nw e ≤ b + 2 * 0 + 2 * nw e; omega)) hf (by rw [hs1]; exact hV) hDe (fun γ' => Iff.rfl)
    refine ⟨k2, ν2, v1, v2, C.mono v3 ?_⟩
    intro o h8 z
    have hn := sEx_nw hse oe
    cases hr : eX (tW c.N c.Ct c.Dt (Vl c.ts) c.kn n) e (fun γ' => ∃ γ, Bl γ γ') with
    | error f =>
      rw [hr] at z
      obtain ⟨z1, y, rfl, z3, z4⟩ := z
      rw [bE_er]
      exact KI.t ⟨z1, y, rfl, z3, by omega⟩
    | ok R =>
      rw [hr] at z
      obtain ⟨t, s2, rfl, z2, z3, z4, z5⟩ := z
      rw [bE_ok]
      refine KI.i fun h13 e13 => ?_
      rw [e13, ← z2]
      refine Rn.fin (i := 0) z5 rfl (by omega) (fun γ v => ⟨?_, ?_⟩) ?_ z4
      · rintro ⟨-, γ2, h1, h2⟩
        exact ⟨[v], ⟨v, rfl, γ2, h1, h2⟩, rfl⟩
      · rintro ⟨u, ⟨v', rfl, γ2, h1, h2⟩, h3⟩
        cases h3
        exact ⟨rfl, γ2, h1, h2⟩
      · rw [z3, hw, ← wAll_ap]
        rfl
  | cons y ds2 IH =>
    intro ds1 b s1 L V Bl w he r hV hs hb hf hw
    have hj : ds[ds1.length]? = some y := by rw [he, List.getElem?_append_right (Nat.le_refl _), Nat.sub_self]; rfl
    have hjl := (List.getElem?_eq_some_iff.mp hj).1
    have hy := List.mem_of_getElem? hj
    obtain ⟨b0, fb, ob⟩ := tg _ y hj
    obtain ⟨ry, hs1, hs2⟩ := hs
    have x1 := r.xs
    have uq := r.uf k hWq
    obtain ⟨rl1, ra1, -⟩ := rl.mvs (N' := c.W) (h' := s1.h) fun a ha _ => ⟨(r.uf k ha).us, ha⟩
    obtain ⟨z1, z2, z3, z4⟩ := row_sz rl1
    obtain ⟨rl0, rn, rc0, -, rb⟩ := row_get (i := ds1.length) rl1 (by rw [ra1]; exact fb) (by omega)
    have ob1 := r.ot k (hTl y hy) ob
    have ew : nw (ls (y :: ds2)) = nw y + nw (ls ds2) := rfl
    rw [ew] at hb ⊢
    have eL : L ++ (bT (ls (y :: ds2)) ++ bT e) = (L ++ bT y) ++ (bT (ls ds2) ++ bT e) := by
      show L ++ ((bT y ++ bT (ls ds2)) ++ bT e) = _
      rw [List.append_assoc, List.append_assoc]
    rw [eL] at hf ⊢
    have law : (bE (tDs (tW c.N c.Ct c.Dt (Vl c.ts) c.kn n) (y :: ds2) Bl) fun B => bE (eX (tW c.N c.Ct c.Dt (Vl c.ts) c.kn n) e fun γ' => ∃ γ, B γ γ') fun R => (.ok fun γ τ => γ = γ ∧ ∃ γ2, B γ γ2 ∧ R γ2 τ : Except Fa (En → Tr → Prop))) = bE (tW c.N c.Ct c.Dt (Vl c.ts) c.kn n 2 y fun γ' => ∃ γ, Bl γ γ') fun Rd => bE (tDs (tW c.N c.Ct c.Dt (Vl c.ts) c.kn n) ds2 fun γ γ'' => ∃ γ' τ, Bl γ γ' ∧ Rd γ' γ'' τ) fun B => bE (eX (tW c.N c.Ct c.Dt (Vl c.ts) c.kn n) e fun γ' => ∃ γ, B γ γ') fun R => (.ok fun γ τ => γ = γ ∧ ∃ γ2, B γ γ2 ∧ R γ2 τ : Except Fa (En → Tr → Prop)) := bE_as
    rw [law]
    refine bX17_infer_7 G D s1.h _ _ _ _ (x1.sA.at (by decide)) (x1.sA.at (by decide)) ⟨uq.1.trans hk, r0, (uq.2.2.2.2.2 298).2.2.trans e98, z1, ?_⟩
    rw [z2, nI_leI (by omega) (by omega)]
    obtain ⟨k2, ν2, v1, v2, v3⟩ := hDc P y b0 lo hi ry D V s1 hs1 (hTl y hy) hhi ob1 x1 ((hb.le (show b + 2 * nw y ≤ _ by omega)).nxd r) (r.frs k hf.l) hV (hD y hy)
    refine ⟨fun z => by omega, fun _ => ⟨r0, (uq.2.2.2.2.2 298).2.2.trans e98, z1, C.rr ((c_rdec (d := 0) rc0 rb (dc_kd hs1 ob1)).up (by have := hD y hy; omega)) ⟨k2, ν2, v1, v2, C.mono v3 ?_⟩⟩⟩
    intro o h24 z
    unfold DcQ at z
    rw [r.ea] at z
    cases hr : tW c.N c.Ct c.Dt (Vl c.ts) c.kn n 2 y (fun γ' => ∃ γ, Bl γ γ') with
    | error f =>
      rw [hr] at z
      obtain ⟨z1, x, rfl, z3, z4⟩ := z
      rw [bE_er]
      have hn := sEx_nw hse oe
      have b6 := r.2.2.2.2.2.1.1
      exact KV.t ⟨((r.1.wk fun t ht => List.mem_append_left _ ht).tr k.sA ((z1.wk fun t ht => List.mem_append_right _ ht).rc_le r.2.2.2.2.1)).wk fun t ht => List.mem_append_left _ ht, x, rfl, z3, by omega⟩
    | ok Rd =>
      rw [hr] at z
      obtain ⟨s2, rfl, rfl, w2, c2, q2, q3, q4⟩ := z
      rw [bE_ok]
      refine KV.i ?_
      rintro _ rfl
      rw [nI_1]
      have rr := ((r.wk (B' := fun t => t ∈ L ++ bT y) (Nat.le_refl _) fun t ht => List.mem_append_left _ ht).tr k (q2.wk (Nat.le_refl _) fun t ht => List.mem_append_right _ ht)).imp (R' := fun γ γ'' => ∃ γ' τ, Bl γ γ' ∧ Rd γ' γ'' τ) fun γ γ'' => ⟨fun ⟨γ', h1, τ, h2⟩ => ⟨γ', τ, h1, h2⟩, fun ⟨γ', τ, h1, h2⟩ => ⟨γ', h1, τ, h2⟩⟩
      have ih := IH (ds1 ++ [y]) (b + 2 * nw y) s2 (L ++ bT y) (V ++ dNm y) _ (w ++ wW c.Ct c.Dt (Pl c.ts) n 2 y) (by rw [he, List.append_assoc]; rfl) rr (fun t ht => by
        rcases List.mem_append.mp ht with w | w
        · obtain ⟨σ, h1⟩ := hV t w
          obtain ⟨Γ, e1, -⟩ := q2.2.2.2.1
          exact ⟨σ, by rw [e1]; exact List.mem_append_left _ h1⟩
        · exact q3 t w) (by rw [c2]; exact hs2) (hb.le (by omega)) hf (by rw [w2, hw, ← wAll_ap])
      rw [List.length_append] at ih
      have eb : b + 2 * (nw y + nw (ls ds2)) + (2 * nw e - 1) = b + 2 * nw y + 2 * nw (ls ds2) + (2 * nw e - 1) := by omega
      have ewW : w ++ (((y :: ds2).map (wW c.Ct c.Dt (Pl c.ts) n 2)).flatten ++ wW c.Ct c.Dt (Pl c.ts) n 0 e) = w ++ wW c.Ct c.Dt (Pl c.ts) n 2 y ++ ((ds2.map (wW c.Ct c.Dt (Pl c.ts) n 2)).flatten ++ wW c.Ct c.Dt (Pl c.ts) n 0 e) := by
        rw [List.map_cons, List.flatten_cons, List.append_assoc, List.append_assoc]
      rw [eb, ewW]
      exact ih
/-- let -/
theorem ex_let (hE : ExI G c n) (hDc : DcI G c n) (hsd : sDc (fun V rc d rc' => sEx c.ts c.O c.N c.Ct c.Dt n 2 V rc d rc') ds V s.rc V' r1) (hse : sEx c.ts c.O c.N c.Ct c.Dt n 0 V' r1 e rc') (hT : TR lo hi (n2 11 t (ls ds) e)) (hhi : hi ≤ c.ts.length) (ot : OTG (XA c.ts c.W c.O c.Z c.D s.h) c.W s.h (n2 11 t (ls ds) e) 0 0 q) (k : XS G c P s) (hb : BdX c s (2 * nw (n2 11 t (ls ds) e))) (hf : Frs s.h c.Z c.D s.E (bT (n2 11 t (ls ds) e))) (hV : ∀ t, t ∈ V → ∃ σ, (t, σ) ∈ s.E) (hD : fw (n2 11 t (ls ds) e) + 600 ≤ D + 1) : C G mX17_infer (D + 1) [.ref q, .ref (gW G 6)] s.h (ExQ G c P s (fun x => x ∈ bT (n2 11 t (ls ds) e)) (2 * nw (n2 11 t (ls ds) e) - 1) (eX (tW c.N c.Ct c.Dt (Vl c.ts) c.kn (n + 1)) (n2 11 t (ls ds) e) (eA s.M s.t s.E)) (wW c.Ct c.Dt (Pl c.ts) (n + 1) 0 (n2 11 t (ls ds) e)) rc') ∧ hK s.h q = 17 := by
  obtain ⟨hWq, hkq, -, oy⟩ := (OTG_nd (k := 11) (y := .add (ls ds) e) (by decide)).mp ot
  have hk : hK s.h q = 17 := by simpa [kc] using hkq
  rw [OTG_c2 (by decide) (by decide)] at oy
  obtain ⟨r0, e98, rl, tg⟩ := OTG_row.mp ((OTG_ef (m' := 22) (i' := 298) (by decide) (by decide)).mp oy.1)
  obtain ⟨be, e99, oe⟩ := OTG_f.mp ((OTG_ef (m' := 1) (i' := 299) (by decide) (by decide)).mp oy.2)
  refine ⟨?_, hk⟩
  have ew : nw (n2 11 t (ls ds) e) = nw (ls ds) + nw e + 1 := by show 0 + (nw (ls ds) + nw e) + 1 = _; omega
  have efw : fw (n2 11 t (ls ds) e) = max 0 (max (fw (ls ds)) (fw e)) + 1 := rfl
  have ebt : bT (n2 11 t (ls ds) e) = bT (ls ds) ++ bT e := rfl
  have eww : wW c.Ct c.Dt (Pl c.ts) (n + 1) 0 (n2 11 t (ls ds) e) = (ds.map (wW c.Ct c.Dt (Pl c.ts) n 2)).flatten ++ wW c.Ct c.Dt (Pl c.ts) n 0 e := by
    have : wW c.Ct c.Dt (Pl c.ts) (n + 1) 0 (n2 11 t (ls ds) e) = ((unl (ls ds)).map (wW c.Ct c.Dt (Pl c.ts) n 2)).flatten ++ wW c.Ct c.Dt (Pl c.ts) n 0 e := rfl
    rw [this, unl_ls]
  have law : eX (tW c.N c.Ct c.Dt (Vl c.ts) c.kn (n + 1)) (n2 11 t (ls ds) e) (eA s.M s.t s.E) = bE (tDs (tW c.N c.Ct c.Dt (Vl c.ts) c.kn n) ds fun γ γ' => eA s.M s.t s.E γ ∧ γ' = γ) fun B => bE (eX (tW c.N c.Ct c.Dt (Vl c.ts) c.kn n) e fun γ' => ∃ γ, B γ γ') fun R => .ok fun γ τ => γ = γ ∧ ∃ γ2, B γ γ2 ∧ R γ2 τ := by
    have : eX (tW c.N c.Ct c.Dt (Vl c.ts) c.kn (n + 1)) (n2 11 t (ls ds) e) (eA s.M s.t s.E) = bE (bE (tDs (tW c.N c.Ct c.Dt (Vl c.ts) c.kn n) (unl (ls ds)) fun γ γ' => eA s.M s.t s.E γ ∧ γ' = γ) fun B => bE (eX (tW c.N c.Ct c.Dt (Vl c.ts) c.kn n) e fun γ' => ∃ γ, B γ γ') fun R => .ok fun γ γ' τ => γ' = γ ∧ ∃ γ2, B γ γ2 ∧ R γ2 τ) fun R => .ok fun γ τ => R γ γ τ := rfl
    rw [this, unl_ls, bE_as]
    congr 1
    funext B
    rw [bE_as]
    rfl
  rw [law, eww, ebt, ew]
  rw [ew] at hb
  rw [efw] at hD
  rw [ebt] at hf
  obtain ⟨en1, en2⟩ := k.en
  refine bX17_infer G D s.h _ _ (k.sA.at (by decide)) fun x1 ex1 => ?_
  rw [ex1, en1]
  have := let_7 (D := D) (rc' := rc') hE hDc k hhi hWq hk e98 rl tg e99 oe (fun y hy => TR.ls_at hT.2.2.2.1 y hy) hT.2.2.2.2 (fun y hy => by have := fw_mem ds y hy; omega) (by omega) hse ds [] 0 s [] V _ [] rfl (Dn.rf k) hV hsd (hb.le (by omega)) hf rfl
  exact X.mono this fun o h' z => ExQ.wk (b := 0 + 2 * nw (ls ds) + (2 * nw e - 1)) z (by omega) fun _ h => h
end
