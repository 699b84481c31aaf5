/-! THE COMPONENT'S TYPER: a match -/
section
variable {G : Gh} {c : Cx} {P P0 : Nat → Prop} {s s1 : Sx} {us L : List Nat} {n lo hi rc' D qa cols r0 b u wl : Nat} {S0 : En → List Tr → Prop} {V : List Nat} {cs : List Tr} {A : En → Prop}
theorem c_mat (hE : ExI G c n) (k : XS G c P0 s) (hhi : hi ≤ c.ts.length) (rl : RowL c.W s.h r0 cs.length) (tg : TG (XA c.ts c.W c.O c.Z c.D s.h) c.W s.h (rowAt s.h r0) cs) (hTR : ∀ y, y ∈ cs → TR lo hi y) (hl8 : 1 ≤ cs.length ∧ cs.length ≤ 8) (hV : ∀ t, t ∈ V → ∃ σ, (t, σ) ∈ s.E) (hD : ∀ y, y ∈ cs → fw y + 600 ≤ D + 1) (hcl : ∀ y, y ∈ cs → (clP y).length = cols) (hqa : hK s.h qa = 0) (r : Rn G c (fun a => P a ∨ a = qa) s (fun t => t ∈ L) s1 us b S0) (hrw : Rw1 s1.h qa cols []) (hs : sLn (fun rc k rc' => sCl c.N c.Ct c.Dt n (fun V rc e rc' => sEx c.ts c.O c.N c.Ct c.Dt n 0 V rc e rc') V rc k rc') cs s1.rc rc') (hA : ∀ γ, A γ ↔ ∃ u, S0 γ u) (hb : BdX c s (b + 2 * nw (ls cs))) (hf : Frs s.h c.Z c.D s.E (L ++ bT (ls cs))) (hsl : Slk s s1 b u wl) :
    C G mX11_match (D + 2) [.ref (gW G 6), .ref r0, .ref qa] s1.h (ClQ G c (fun a => P a ∨ a = qa) s (fun t => t ∈ L ++ bT (ls cs)) (b + 2 * nw (ls cs)) (tMt c.N c.Ct c.Dt n (tW c.N c.Ct c.Dt (Vl c.ts) c.kn n) cs A) (wAll s1.ws (cs.map fun k => wW c.Ct c.Dt (Pl c.ts) n 0 (clE k)).flatten) rc' us S0 qa cols (u + uqc cs) (wl + cs.length)) := by
  cases cs with
  | nil => exact absurd hl8.1 (by decide)
  | cons y cs2 =>
  have hS0 : ∀ γ u0, S0 γ u0 → u0.length = us.length := fun γ u0 h => r.len h
  refine bX11_match G (D + 1) s1.h _ _ _ fun x1' ex1 => ?_
  obtain ⟨b0, fb, ob⟩ := tg 0 y rfl
  have hs' := hs
  obtain ⟨r1, ⟨tc, vc, ps, e, ey, hp1, hn30, hps, hp24, hsv, hse⟩, hs2⟩ := hs'
  have hy : y ∈ y :: cs2 := List.mem_cons_self ..
  have hTy := hTR y hy
  have hcy := hcl y hy
  have hDy := hD y hy
  have ecp : clP y = ps := by rw [ey]; exact unl_ls ps
  have ece : clE y = e := by rw [ey]; rfl
  rw [ecp] at hcy
  have eny : nw y = nw (ls ps) + nw e + 1 := by rw [ey, nw_cl]
  have eby : bT y = bT (ls ps) ++ bT e := by rw [ey]; rfl
  rw [ey, fw_cl] at hDy
  rw [ey] at ob hTy
  obtain ⟨hWb, hk29, arr, be, eA', hla, tga, e18, oe⟩ := cl_ot2 ob
  have hTps : TR lo hi (ls ps) := hTy.2.2.2.2.1
  have hTe : TR lo hi e := hTy.2.2.2.2.2
  have x1 := r.xs
  obtain ⟨rl1, ra1, -⟩ := rl.mvs (N' := c.W) (h' := s1.h) fun a ha _ => ⟨(r.uf k ha).us, ha⟩
  obtain ⟨z1, z2, z3, z4⟩ := row_sz rl1
  obtain ⟨rl0, rn, rc0, -, rb⟩ := row_get (i := 0) rl1 (by rw [ra1]; exact fb) (by omega)
  have ew : nw (ls (y :: cs2)) = (nw (ls ps) + nw e + 1) + nw (ls cs2) := by show nw y + nw (ls cs2) = _; rw [eny]
  rw [ew] at hb ⊢
  have eL : L ++ bT (ls (y :: cs2)) = (L ++ (bT (ls ps) ++ bT e)) ++ bT (ls cs2) := by
    show L ++ (bT y ++ bT (ls cs2)) = _
    rw [eby, ← List.append_assoc L]
  rw [eL] at hf ⊢
  have ub := r.uf k hWb
  have hc24 : ps.length ≤ 24 := by rw [List.length_map] at hp24; omega
  have hne := sEx_nw hse oe
  rw [ex1]
  refine bX11_match_5 G (D + 1) s1.h _ _ _ _ _ (x1.sA.at (by decide)) ⟨z1, ?_⟩
  rw [z2, show (0 : Int32) = nI 0 from rfl, nI_leI (by omega) (by omega)]
  refine ⟨fun z => by omega, fun _ => C.rr ((c_rcl (d := 0) rc0 rb (ub.1.trans hk29)).up (by omega)) ?_⟩
  obtain ⟨en1, en2⟩ := x1.en
  rw [r.2.2.2.1] at en1 en2
  have rp := r.rp
  rw [← List.append_nil us] at rp
  have rp := rp.imp (Z' := ZfS S0 fun γ ins ν => A γ ∧ ins = [] ∧ ν = []) fun γ u ν => ⟨by
    rintro ⟨h1, rfl⟩
    exact ⟨u, [], (List.append_nil _).symm, h1, (hA γ).mpr ⟨u, h1⟩, rfl, rfl⟩, by
    rintro ⟨u0, _, rfl, h1, -, rfl, rfl⟩
    rw [List.append_nil]
    exact ⟨h1, rfl⟩⟩
  have cl := cl1_8 (D := D) (rc' := r1) (rc0 := s1.rc) (P := P) (qa := qa) (us := us) (S0 := S0) (V := V) hE k hhi hWb hk29 eA' hla tga e18 oe (fun y hy => TR.ls_at hTps y hy) hTe hqa hps hc24 hV (by omega) en2 ps [] b u wl s1 [] [] [] L _ rfl rp rfl (by rw [hcy]; exact hrw) (fun γ τs ν h => (hA γ).mp h.1) rfl (by rw [List.nil_append]; exact hse) (hb.le (by omega)) hf.l (fun t ht => (by cases ht)) hsl
  refine C.mono (bX11_clause G D s1.h _ _ _ (x1.sA.at (by decide)) fun x1' ex1 => ?_) (Q := ClQ G c (fun a => P a ∨ a = qa) s (fun t => t ∈ L ++ (bT (ls ps) ++ bT e)) (b + 2 * nw (ls ps) + (2 * nw e - 1)) (bE (tPf c.N c.Ct c.Dt 30 ps fun γ ins ν => A γ ∧ ins = [] ∧ ν = []) fun Z => bE (eX (tW c.N c.Ct c.Dt (Vl c.ts) c.kn n) e fun γ' => ∃ γ ins ν, Z γ ins ν ∧ γ' = updL γ ν) fun R => .ok fun γ ins o => ∃ ν, Z γ ins ν ∧ R (updL γ ν) o) (wAll s1.ws (wW c.Ct c.Dt (Pl c.ts) n 0 e)) r1 us S0 qa ps.length (u + uq ps) (wl + ps.length)) ?_
  · rw [ex1, en1]
    exact cl
  intro o h6 z
  have law : tMt c.N c.Ct c.Dt n (tW c.N c.Ct c.Dt (Vl c.ts) c.kn n) (y :: cs2) A = bE (bE (tPf c.N c.Ct c.Dt 30 ps fun γ ins ν => A γ ∧ ins = [] ∧ ν = []) fun Z => bE (eX (tW c.N c.Ct c.Dt (Vl c.ts) c.kn n) e fun γ' => ∃ γ ins ν, Z γ ins ν ∧ γ' = updL γ ν) fun R => .ok fun γ ins o => ∃ ν, Z γ ins ν ∧ R (updL γ ν) o) fun Q => tMs c.N c.Ct c.Dt n (tW c.N c.Ct c.Dt (Vl c.ts) c.kn n) cs2 Q := by
    show bE (tPf c.N c.Ct c.Dt n (clP y) _) _ = _
    rw [ecp, tPf_up hn30 ps _ hps, bE_as]
    congr 1
    funext Z
    rw [bE_as, ece]
    rfl
  rw [law]
  have eww : (wAll s1.ws ((y :: cs2).map fun k => wW c.Ct c.Dt (Pl c.ts) n 0 (clE k)).flatten) = wAll (wAll s1.ws (wW c.Ct c.Dt (Pl c.ts) n 0 e)) (cs2.map fun k => wW c.Ct c.Dt (Pl c.ts) n 0 (clE k)).flatten := by
    rw [List.map_cons, List.flatten_cons, wAll_ap, ece]
  rw [eww]
  cases hr : (bE (tPf c.N c.Ct c.Dt 30 ps fun γ ins ν => A γ ∧ ins = [] ∧ ν = []) fun Z => bE (eX (tW c.N c.Ct c.Dt (Vl c.ts) c.kn n) e fun γ' => ∃ γ ins ν, Z γ ins ν ∧ γ' = updL γ ν) fun R => (.ok fun γ ins o => ∃ ν, Z γ ins ν ∧ R (updL γ ν) o : Except Fa Mq)) with
  | error f =>
    rw [hr] at z
    obtain ⟨z1, y', rfl, z3, z4⟩ := z
    rw [bE_er]
    exact KI.t ⟨z1.wk fun t ht => List.mem_append_left _ ht, y', rfl, z3, by omega⟩
  | ok Q =>
    rw [hr] at z
    obtain ⟨t, ins, s2, rfl, rfl, w2, c2, q2, q3, q4, hQ⟩ := z
    rw [bE_ok]
    refine KI.i ⟨fun z => absurd z (by decide), fun _ => ?_⟩
    rintro _ rfl
    have e1 : (nI 0 + 1 : Int32) = nI ([y] : List Tr).length := rfl
    rw [e1]
    have mt := mt_5 (D := D) (rc' := rc') (P := P) (qa := qa) (us := us) (S0 := S0) (V := V) (cols := cols) hE k hhi rl tg hTR hl8.2 hV hD hcl hS0 cs2 [y] (b + 2 * (nw (ls ps) + nw e + 1)) (u + uq ps) (wl + 1) t s2 ins (L ++ (bT (ls ps) ++ bT e)) Q rfl (q2.wk (by omega) fun _ h => h) ⟨q3.1.trans hcy, by rw [← hcy]; exact q3.2⟩ hQ (by rw [c2]; exact hs2) (hb.le (by omega)) hf ⟨by
      have := q4.1
      omega, by
      have := q4.2
      omega⟩
    have eu : u + uqc (y :: cs2) = u + uq ps + uqc cs2 := by show u + (uq (clP y) + uqc cs2) = _; rw [ecp]; omega
    have ewl : wl + (y :: cs2).length = wl + 1 + cs2.length := by rw [List.length_cons]; omega
    have ebb : b + 2 * (nw (ls ps) + nw e + 1 + nw (ls cs2)) = b + 2 * (nw (ls ps) + nw e + 1) + 2 * nw (ls cs2) := by omega
    rw [eu, ewl, ebb, ← w2]
    exact mt
end
