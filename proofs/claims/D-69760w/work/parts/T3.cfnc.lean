/-! THE COMPONENT'S TYPER: functions, cases -/
section
variable {G : Gh} {c : Cx} {P P0 : Nat → Prop} {s s1 : Sx} {B : Nat → Prop} {us : List Nat} {b d n lo hi tok r0 cols q rc' D t r1 : Nat} {S : En → List Tr → Prop} {cs : List Tr} {V : List Nat} {e : Tr}
/-- a match is checked, behind what was done -/
theorem c_chkr (hC : CtF c.N c.Ct c.Dt) (k : XS G c P0 s) (r : Rn G c P s B s1 us b S) (rl : RowL c.W s.h r0 cs.length) (tg : TG (XA c.ts c.W c.O c.Z c.D s.h) c.W s.h (rowAt s.h r0) cs) (hTR : ∀ y, y ∈ cs → TR lo hi y) (hl8 : 1 ≤ cs.length ∧ cs.length ≤ 8) (hcR : ∀ y, y ∈ cs → clR c.N c.Ct c.Dt n y) (hcl : ∀ y, y ∈ cs → (clP y).length = cols) {τs : List Tr} (hτl : τs.length = cols) (hty : ∀ y, y ∈ cs → rTy1 (gAk c.Ct c.Dt) (gSg c.N c.Ct c.Dt) τs ((clP y).map (shp c.Ct c.Dt 30))) (htok : tok < c.ts.length) (hhi : hi ≤ c.ts.length) (hsl : Slk s s1 b (uqc cs) (cs.length + 1)) (hb : BdX c s b) :
    C G mX10_check (d + 500) [.ref (gW G 5), .ref r0, .ref (gW G 1), .int (nI tok)] s1.h (fun o h' => o = .returned none ∧ ∃ s2, Sx.h s2 = h' ∧ Sx.ws s2 = wAll s1.ws (ckM c.Ct c.Dt (Pl c.ts) tok cs) ∧ Sx.rc s2 = s1.rc ∧ Rn G c P s B s2 us b S ∧ ∀ a, P a → Uf s1.h h' a) := by
  have x1 := r.xs
  obtain ⟨rl1, ra1, -⟩ := rl.mvs (N' := c.W) (h' := s1.h) fun a ha _ => ⟨(r.uf k ha).us, ha⟩
  have tg1 : TG (XA c.ts c.W c.O c.Z c.D s1.h) c.W s1.h (rowAt s1.h r0) cs := fun i x hx => by
    obtain ⟨b, b1, b2⟩ := tg i x hx
    exact ⟨b, by rw [ra1]; exact b1, r.ot k (hTR x (List.mem_of_getElem? hx)) b2⟩
  obtain ⟨a1, a2, ⟨pa, a3⟩, a4, a5, a6, a7⟩ := id x1
  obtain ⟨u1, u2, u3, u4, u5⟩ := hb
  obtain ⟨w1, w2⟩ := hsl
  have hun : un s1.h ≤ pot s1.h s1.cap := by unfold pot; omega
  have hc24 : τs.length ≤ 24 := by
    obtain ⟨y, hy⟩ : ∃ y, cs[0]? = some y := ⟨_, List.getElem?_eq_getElem (by omega)⟩
    have hy := List.mem_of_getElem? hy
    obtain ⟨t, v, ps, e, ey, -, -, -, h24⟩ := hcR y hy
    have := hcl y hy
    rw [ey] at this
    have e1 : (clP (n3 50 t (.num v) (ls ps) e)) = ps := unl_ls ps
    rw [e1] at this
    rw [List.length_map] at h24
    omega
  refine C.use (c_check (d := d) (tok := tok) (rc := c.Ct.length) (N := c.N) (Ak := gAk c.Ct c.Dt) (Sg := gSg c.N c.Ct c.Dt) (τs := τs) (xs := cs.map fun k => (tkN k, (clP k).map (shp c.Ct c.Dt 30))) k.hD (gAk_fn hC) (gSg_fn hC) (Nat.le_refl _) x1.fix a2 a3 a4 rl1 tg1 hTR hl8 ⟨List.length_map .., fun i y x hy hx => ?_⟩ hc24 htok a1.1.2.2.2.1.1 (fun t ht => ⟨a6 t ht, a1.1.2.2.2.1.2 t ht⟩) hhi (by omega) (by omega)) (by decide) ?_
  · rw [List.getElem?_map, hy] at hx
    cases hx
    have hy := List.mem_of_getElem? hy
    refine ⟨?_, hty y hy⟩
    obtain ⟨t, v, ps, e, ey, -, -, hps, h24⟩ := hcR y hy
    rw [ey]
    have e1 : (clP (n3 50 t (.num v) (ls ps) e)) = ps := unl_ls ps
    exact ⟨v, ps, e, rfl, fun p hp => (hps p hp).1, by show (clP (n3 50 t (.num v) (ls ps) e)).map _ = _; rw [e1], by show ((clP (n3 50 t (.num v) (ls ps) e)).map _).length + pqs ((clP (n3 50 t (.num v) (ls ps) e)).map _) ≤ 24; rw [e1]; exact h24⟩
  · rintro _ h' ⟨rfl, F, hu, hw⟩ l -
    have eck : ckU (Pl c.ts) [] (cs.map fun k => (tkN k, (clP k).map (shp c.Ct c.Dt 30))) ++ ckO (Pl c.ts) tok ((cs.map fun k => (tkN k, (clP k).map (shp c.Ct c.Dt 30))).map (·.2)) τs.length = ckM c.Ct c.Dt (Pl c.ts) tok cs := by
      unfold ckM
      rw [List.map_map]
      congr 1
      have : (cs.map fun k => (clP k).length).headD 0 = τs.length := by
        cases cs with
        | nil => exact absurd hl8.1 (by decide)
        | cons y cs => exact (hcl y (List.mem_cons_self ..)).trans hτl.symm
      rw [this]
      rfl
    rw [eck] at hw
    have hlen : (ckM c.Ct c.Dt (Pl c.ts) tok cs).length ≤ cs.length + 1 := by
      unfold ckM
      rw [List.length_append]
      have h1 := ckU_len (Pl c.ts) (cs.map fun k => (tkN k, (clP k).map (shp c.Ct c.Dt 30))) []
      rw [List.length_map] at h1
      have h2 : (ckO (Pl c.ts) tok (cs.map fun k => (clP k).map (shp c.Ct c.Dt 30)) ((cs.map fun k => (clP k).length).headD 0)).length ≤ 1 := by
        unfold ckO
        split
        · exact Nat.le_refl _
        · exact Nat.zero_le _
      omega
    have r2 := r.fm (b' := b) k F (l.weak (by decide +kernel)) hw (Nat.le_refl _) (by
      have : pot h' s1.cap ≤ pot s1.h s1.cap + uqc cs := by unfold pot; omega
      omega) (by rw [wAll_len]; omega)
    exact ⟨rfl, (h', s1.M, s1.Pn, s1.t, s1.m, s1.E, s1.cap, s1.rc, wAll s1.ws (ckM c.Ct c.Dt (Pl c.ts) tok cs)), rfl, rfl, rfl, r2, fun a ha => F.uw (a7.1 a ha).1⟩
theorem nw_12 : nw (n1 12 t (ls cs)) = nw (ls cs) + 3 := by show 0 + nw (ls cs) + 3 = _; omega
/-- a function -/
theorem ex_fn (hC : CtF c.N c.Ct c.Dt) (hE : ExI G c n) (hl8 : 1 ≤ cs.length ∧ cs.length ≤ 8) (hcl : ∀ y, y ∈ cs → (clP y).length = 1) (hs : sLn (fun rc k rc' => sCl c.N c.Ct c.Dt n (fun V rc e rc' => sEx c.ts c.O c.N c.Ct c.Dt n 0 V rc e rc') V rc k rc') cs s.rc rc') (hT : TR lo hi (n1 12 t (ls cs))) (hhi : hi ≤ c.ts.length) (ot : OTG (XA c.ts c.W c.O c.Z c.D s.h) c.W s.h (n1 12 t (ls cs)) 0 0 q) (k : XS G c P s) (hb : BdX c s (2 * nw (n1 12 t (ls cs)))) (hf : Frs s.h c.Z c.D s.E (bT (n1 12 t (ls cs)))) (hV : ∀ t, t ∈ V → ∃ σ, (t, σ) ∈ s.E) (hD : fw (n1 12 t (ls cs)) + 600 ≤ D + 1) : C G mX32_infer (D + 1) [.ref q, .ref (gW G 6)] s.h (ExQ G c P s (fun x => x ∈ bT (n1 12 t (ls cs))) (2 * nw (n1 12 t (ls cs)) - 1) (eX (tW c.N c.Ct c.Dt (Vl c.ts) c.kn (n + 1)) (n1 12 t (ls cs)) (eA s.M s.t s.E)) (wW c.Ct c.Dt (Pl c.ts) (n + 1) 0 (n1 12 t (ls cs))) rc') ∧ hK s.h q = 30 := by
  obtain ⟨hWq, hkq, -, oy⟩ := (OTG_nd (k := 12) (by decide)).mp ot
  have hk : hK s.h q = 30 := by simpa [kc] using hkq
  obtain ⟨r0, e0, rl, tg⟩ := OTG_row.mp ((OTG_ef (m' := 22) (i' := 319) (by decide) (by decide)).mp oy)
  refine ⟨?_, hk⟩
  have hs12 : sEx c.ts c.O c.N c.Ct c.Dt (n + 1) 0 V s.rc (n1 12 t (ls cs)) rc' := by
    unfold sEx
    rw [if_neg (by decide)]
    exact Or.inr (Or.inr (Or.inr (Or.inr (Or.inr (Or.inr (Or.inr (Or.inr (Or.inr (Or.inr (Or.inr (Or.inl ⟨t, cs, rfl, hl8, hcl, hs⟩)))))))))))
  obtain ⟨hF, hT296⟩ := ex_tok hs12 ot
  have htk : t < c.ts.length := Nat.lt_of_lt_of_le (show tkN (n1 12 t (ls cs)) < hi from TR.tk hT ⟨_, _, rfl⟩) hhi
  have efw : fw (n1 12 t (ls cs)) = max 0 (fw (ls cs)) + 2 := rfl
  have ebt : bT (n1 12 t (ls cs)) = bT (ls cs) := rfl
  have eww : wW c.Ct c.Dt (Pl c.ts) (n + 1) 0 (n1 12 t (ls cs)) = (cs.map fun k => wW c.Ct c.Dt (Pl c.ts) n 0 (clE k)).flatten ++ ckM c.Ct c.Dt (Pl c.ts) t cs := by
    have : wW c.Ct c.Dt (Pl c.ts) (n + 1) 0 (n1 12 t (ls cs)) = ((unl (ls cs)).map fun k => wW c.Ct c.Dt (Pl c.ts) n 0 (clE k)).flatten ++ ckM c.Ct c.Dt (Pl c.ts) t (unl (ls cs)) := rfl
    rw [this, unl_ls]
  have law : eX (tW c.N c.Ct c.Dt (Vl c.ts) c.kn (n + 1)) (n1 12 t (ls cs)) (eA s.M s.t s.E) = bE (tMt c.N c.Ct c.Dt n (tW c.N c.Ct c.Dt (Vl c.ts) c.kn n) cs (eA s.M s.t s.E)) fun Q => .ok fun γ τ => γ = γ ∧ ∃ a o, τ = tFun a o ∧ Q γ [a] o := by
    have : eX (tW c.N c.Ct c.Dt (Vl c.ts) c.kn (n + 1)) (n1 12 t (ls cs)) (eA s.M s.t s.E) = bE (bE (tMt c.N c.Ct c.Dt n (tW c.N c.Ct c.Dt (Vl c.ts) c.kn n) (unl (ls cs)) (eA s.M s.t s.E)) fun Q => .ok fun γ γ' τ => γ' = γ ∧ ∃ a o, τ = tFun a o ∧ Q γ [a] o) fun R => .ok fun γ τ => R γ γ τ := rfl
    rw [this, unl_ls, bE_as]
    rfl
  rw [law, eww, ebt, nw_12]
  rw [nw_12] at hb
  rw [efw] at hD
  rw [ebt] at hf
  obtain ⟨u1, u2, u3, u4, u5⟩ := id hb
  have hun : un s.h ≤ pot s.h s.cap := by unfold pot; omega
  obtain ⟨m1, m2⟩ := un_rm (h := s.h) (n := 1) (by omega)
  have hTl : ∀ y, y ∈ cs → TR lo hi y := fun y hy => TR.ls_at hT.2.2.2 y hy
  refine bX32_infer G D s.h _ _ (k.sA.at (by decide)) (k.sA.at (by decide)) (k.sA.at (by decide)) ⟨nI_pos (n := 1) (by decide), m1, m2, fun qa hqa h3 e3 => ?_⟩
  have r0' := (Rn.rf (B := fun t => t ∈ ([] : List Nat)) k).nA (n := 1) (m := 3) k hqa (by omega)
  rw [show (1 : Int32).toNatClampNeg = 1 from rfl] at e3
  rw [← e3] at r0'
  have pv := r0'.xs.2.2.2.2.2.2.1 qa (Or.inr rfl)
  have hL3 : hL h3 qa = 1 := by rw [e3, hL_nA, if_pos rfl]
  refine ⟨pv.2.2, by rw [hL3]; exact vp_i (n := 0) (by decide) (by decide), fun h8 e8 => ?_⟩
  have r1' := r0'.wr (i := 0) (v := -1) k (Or.inr rfl) hqa
  rw [show (0 : Int32).toNatClampNeg = 0 from rfl] at e8
  have e8' : h8 = sI (Sx.h (h3, s.M, s.Pn, s.t, s.m, s.E, s.cap, s.rc, s.ws)) qa 0 (-1) := e8
  rw [← e8'] at r1'
  have u8 := r1'.uf k hWq
  have hrw : Rw1 h8 qa 1 [] := ⟨by rw [e8, hL_sI]; exact hL3, fun j p hp => by simp at hp, fun j _ hj => by rw [e8, aI_sI, if_pos ⟨rfl, by omega⟩]⟩
  have hp8 : pot h8 s.cap = pot s.h s.cap + 17 := by unfold pot; rw [e8, un_sI, e3, un_nA]; omega
  have cm := c_mat (D := D - 2) (rc' := rc') (P := P) (qa := qa) (cols := 1) (V := V) (A := eA s.M s.t s.E) (u := 7) (wl := 3) (r0 := r0) hE k hhi rl tg hTl hl8 hV (fun y hy => by have := fw_mem cs y hy; omega) hcl hqa r1' hrw hs (fun γ => ⟨fun h => ⟨_, h, rfl⟩, fun ⟨_, h, _⟩ => h⟩) (hb.le (by omega)) hf ⟨by show pot h8 s.cap + 7 ≤ _; omega, by show s.ws.length + 3 ≤ _; omega⟩
  rw [show D - 2 + 2 = D by omega] at cm
  refine ⟨u8.1.trans hk, r0, (u8.2.2.2.2.2 319).2.2.trans e0, C.mono cm ?_⟩
  intro o h14 z
  unfold ClQ at z
  cases hr : tMt c.N c.Ct c.Dt n (tW c.N c.Ct c.Dt (Vl c.ts) c.kn n) cs (eA s.M s.t s.E) with
  | error f =>
    rw [hr] at z
    obtain ⟨z1, y, rfl, z3, z4⟩ := z
    rw [bE_er]
    exact KI.t ⟨z1, y, rfl, z3, by omega⟩
  | ok Q =>
    rw [hr] at z
    obtain ⟨t2, ins, s2, rfl, rfl, w2, c2, q2, q3, q4, q5⟩ := z
    rw [bE_ok]
    have x2 := q2.xs
    have u14 := q2.uf k hWq
    -- a solution
    obtain ⟨ρ, hρ⟩ := x2.tt.sol
    obtain ⟨u0, τs, o2, -, -, hQ⟩ : MqS _ Q (gE s.E ρ) _ := q2.2.1.2.2.2.2.1 ρ hρ
    obtain ⟨-, hτl, hty⟩ := tMt_ty hC (clR_ln cs s.rc hs (by rw [← c2]; exact x2.2.2.2.2.1)) hcl hr hQ
    have ck := c_chkr (d := D - 500) (tok := t) (cols := 1) hC k q2 rl tg hTl hl8 (clR_ln cs s.rc hs (by rw [← c2]; exact x2.2.2.2.2.1)) hcl hτl hty htk hhi ⟨by have := q4.1; omega, by have := q4.2; omega⟩ (hb.le (by omega))
    rw [show D - 500 + 500 = D by omega] at ck
    refine KI.i ⟨r0, (u14.2.2.2.2.2 319).2.2.trans e0, ?_⟩
    rw [(u14.2.2.2.2.2 296).1, hT296]
    refine C.mono ck ?_
    rintro _ h19 ⟨rfl, s3, rfl, w3, c3, q6, q7⟩
    have rw3 := q3.2.uf (q7 qa (Or.inr rfl))
    obtain ⟨a1, ha1⟩ : ∃ a, ins = [a] := List.length_eq_one_iff.mp q3.1
    rw [ha1] at q6 rw3
    refine KV.i ⟨by rw [rw3.1]; exact vp_i (n := 0) (by decide) (by decide), ?_⟩
    rw [show (0 : Int32).toNatClampNeg = 0 from rfl, rw3.2.1 0 a1 rfl]
    refine C.mono ((q6.cf (d := 0) (i := 0) (j := 1) k rfl rfl (hb.le (by omega))).up (by omega)) ?_
    rintro _ h22 ⟨τ2, rfl, hun2, q8⟩
    refine KI.i (Rn.fin (i := 2) ((q8.pm fun a ha => Or.inl ha)) rfl (by omega) (fun γ v => ⟨?_, ?_⟩) ?_ ?_)
    · rintro ⟨-, a, o3, rfl, h1⟩
      obtain ⟨u0, h2⟩ := q5 γ [a] o3 h1
      obtain ⟨h2, rfl⟩ := h2
      exact ⟨_, ⟨_, rfl, [], [a], o3, rfl, ⟨h2, rfl⟩, h1⟩, rfl⟩
    · rintro ⟨u, ⟨w, rfl, u0, τs', o3, rfl, ⟨h1, rfl⟩, h2⟩, h3⟩
      have hl := q6.len (γ := γ) (u := ([] ++ τs') ++ [o3]) ⟨[], τs', o3, rfl, ⟨h1, rfl⟩, h2⟩
      obtain ⟨a, rfl⟩ : ∃ a, τs' = [a] := List.length_eq_one_iff.mp (by simpa using hl)
      cases h3
      exact ⟨rfl, a, o3, rfl, h2⟩
    · show s3.ws = _
      rw [w3, w2, wAll_ap]
    · show s3.rc = rc'
      rw [c3, c2]
end
