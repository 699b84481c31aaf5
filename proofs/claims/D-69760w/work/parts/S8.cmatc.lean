/-! THE COMPONENT'S TYPER: clauses one behind another -/
section
variable {G : Gh} {c : Cx} {P P0 : Nat → Prop} {s s1 s2 : Sx} {B : Nat → Prop} {us : List Nat} {n lo hi rc rc' D b0 be arr qa cols t ot r0 q b N : Nat} {S S0 : En → List Tr → Prop} {h h' : AH} {V : List Nat} {e : Tr} {ps cs : List Tr} {v : Int} {Ct : Ctb} {Dt : Dtb}
theorem cl_ot2 (o : OTG (XA c.ts c.W c.O c.Z c.D h) c.W h (n3 50 t (.num v) (ls ps) e) 0 0 q) : c.W q ∧ hK h q = 29 ∧ ∃ arr be, ArF c.W h q 317 arr ∧ hL h arr = ps.length ∧ TG (XA c.ts c.W c.O c.Z c.D h) c.W h (aR h arr) ps ∧ fR h q 318 = some be ∧ OTG (XA c.ts c.W c.O c.Z c.D h) c.W h e 0 0 be := by
  obtain ⟨hWb, hkb, -, oy⟩ := (OTG_nd (k := 50) (y := .add (.num v) (.add (ls ps) e)) (by decide)).mp o
  have hk29 : hK h q = 29 := by simpa [kc] using hkb
  rw [OTG_c2 (by decide) (by decide)] at oy
  have oy2 := (OTG_c2 (by decide) (by decide)).mp oy.2
  obtain ⟨arr, eA, hla, tga⟩ := OTG_arr.mp oy2.1
  obtain ⟨be, f2, o2⟩ := OTG_f.mp ((OTG_ef (m' := 1) (i' := 318) (by decide) (by decide)).mp oy2.2)
  exact ⟨hWb, hk29, arr, be, eA, hla, tga, f2, o2⟩
theorem tPf_up (hn : 30 ≤ n) : ∀ (ps : List Tr) (Z : En → List Tr → Nu → Prop), (∀ p, p ∈ ps → sPt N Ct rc 30 p) → tPf N Ct Dt n ps Z = tPf N Ct Dt 30 ps Z := by
  intro ps
  induction ps with
  | nil => intro Z _; rfl
  | cons p ps ih =>
    intro Z hp
    show bE (tPa N Ct Dt n p) _ = bE (tPa N Ct Dt 30 p) _
    rw [(tPa_up 30 p (hp p (List.mem_cons_self ..)) n hn).1]
    congr 1
    funext P
    exact ih _ fun x hx => hp x (List.mem_cons_of_mem _ hx)
theorem tPe_up (hn : 30 ≤ n) : ∀ (ps : List Tr) (i : Nat) (Z : En → List Tr → Tr → Nu → Prop), (∀ p, p ∈ ps → sPt N Ct rc 30 p) → tPe N Ct Dt n i ps Z = tPe N Ct Dt 30 i ps Z := by
  intro ps
  induction ps with
  | nil => intro i Z _; rfl
  | cons p ps ih =>
    intro i Z hp
    show bE (tPa N Ct Dt n p) _ = bE (tPa N Ct Dt 30 p) _
    rw [(tPa_up 30 p (hp p (List.mem_cons_self ..)) n hn).1]
    congr 1
    funext P
    congr 1
    funext Z'
    exact ih _ _ fun x hx => hp x (List.mem_cons_of_mem _ hx)
theorem ix_o {α : Type} {u0 τs : List α} {o v : α} {m k : Nat} (h0 : u0.length = m) (h1 : τs.length = k) : (((u0 ++ τs) ++ [o]) ++ [v])[m + k]? = some o := by
  rw [List.getElem?_append_left (by simp; omega), List.getElem?_append_right (by simp; omega)]
  have : m + k - (u0 ++ τs).length = 0 := by simp; omega
  rw [this]
  rfl
/-- an equation; what is held stays -/
theorem Rn.sameU {a e t i j d : Nat} (k : XS G c P0 s) (r : Rn G c P s B s1 us b S) (hi : us[i]? = some a) (hj : us[j]? = some e) (ht : t < c.ts.length) (hb : BdX c s (b + 1)) : C G mX11_same (d + 6) [.ref (gW G 6), .int (nI a), .int (nI e), .int (nI t)] s1.h (fun o h' => ((∃ γ u, S γ u ∧ u[i]? = u[j]?) ∧ o = .returned none ∧ ∃ τ', un h' = un s1.h ∧ Rn G c P s B (h', s1.M, s1.Pn, τ', s1.m + 2, s1.E, s1.cap, s1.rc, s1.ws) us (b + 1) (fun γ u => S γ u ∧ u[i]? = u[j]?) ∧ ∀ x, P x → Uf s1.h h' x) ∨ ((¬ ∃ γ u, S γ u ∧ u[i]? = u[j]?) ∧ Ft G c s B b (5, t) o h')) := by
  obtain ⟨r1, r2, r3, r4, r5, r6, r7⟩ := id r
  obtain ⟨-, -, -, ⟨q1, q2, q3⟩, -⟩ := id r2
  obtain ⟨u1, u2, u3, u4, u5⟩ := hb
  have ca : cln s1.M s1.t a := r2.2.2.1 a (List.mem_of_getElem? hi)
  have ce : cln s1.M s1.t e := r2.2.2.1 e (List.mem_of_getElem? hj)
  have hun : un s1.h ≤ pot s1.h s1.cap := by unfold pot; omega
  refine C.mono (c_ysm (d := d) (nC := c.Ct.length) (Z := c.Z) r3.1.1 r3.tt (by omega) (by omega) ca ce ht (by omega)) ?_
  have hE : ∀ ρ : Nat → Tr, Sl s1.M s1.t ρ → (ρ a = ρ e ↔ (fun u : List Tr => u[i]? = u[j]?) (us.map ρ)) := fun ρ _ => by
    show _ ↔ (us.map ρ)[i]? = (us.map ρ)[j]?
    rw [List.getElem?_map, List.getElem?_map, hi, hj]
    exact ⟨fun e => by rw [Option.map_some, Option.map_some, e], fun e => Option.some.inj e⟩
  have can := r2.can (a := a) (c := e) (E := fun u => u[i]? = u[j]?) hE
  have law : (∃ ρ, Sl s1.M s1.t ρ ∧ ρ a = ρ e) ↔ ∃ γ u, S γ u ∧ u[i]? = u[j]? := by
    rw [can]
    constructor
    · rintro ⟨ρ, u, h1, h2, h3⟩
      exact ⟨_, u, h2, h3⟩
    · rintro ⟨γ, u, h2, h3⟩
      obtain ⟨ρ, h1, rfl⟩ := r7 γ u h2
      exact ⟨ρ, u, h1, h2, h3⟩
  rintro o h' ⟨F, q⟩
  rcases q with ⟨ex, rfl, T, τ', k4, ev4, hs4⟩ | ⟨no, x, rfl, ft, hu⟩
  · refine Or.inl ⟨law.mp ex, rfl, τ', T.2.1, ⟨r1.tr k.sA ((F.wk fun _ w => w.elim).rc_le r5), ?_, r3.mt T F.1 k4 ev4, r4, r5, ?_, fun γ u h => r7 γ u h.1⟩, fun x hx => F.2.1 x (r3.2.2.2.2.2.2.1 x hx).1⟩
    · exact r2.eqn k4 ev4 hs4 (E := fun u => u[i]? = u[j]?) hE
    · have : pot h' s1.cap = pot s1.h s1.cap := by unfold pot; rw [T.2.1]
      exact ⟨by show pot h' s1.cap ≤ _; omega, by show s1.ws.length ≤ _; omega⟩
  · exact Or.inr ⟨fun w => (law.mpr w).elim fun ρ hρ => no ρ hρ.1 hρ.2, r1.tr k.sA ((F.wk fun _ w => w.elim).rc_le r5), x, rfl, ft, by omega⟩
/-- the last node is let go -/
theorem Rn.dl (r : Rn G c P s B s1 (us ++ [t]) b S) : Rn G c P s B s1 us b (fun γ u => ∃ v, S γ (u ++ [v])) := by
  refine (r.prj (us' := us) (fun u => u.take us.length) (fun x hx => Or.inl (List.mem_append_left _ hx)) (fun ρ _ => ?_)).imp fun γ u => ⟨?_, ?_⟩
  · rw [List.map_append, List.take_append_of_le_length (by rw [List.length_map]; exact Nat.le_refl _), List.take_of_length_le (by rw [List.length_map]; exact Nat.le_refl _)]
  · rintro ⟨w, h1, rfl⟩
    have hl := r.len h1
    rw [List.length_append, List.length_singleton] at hl
    refine ⟨w.getD us.length (.num 0), ?_⟩
    have e1 : w.drop us.length = [w.getD us.length (.num 0)] := by
      rw [List.drop_eq_getElem_cons (by omega), List.drop_of_length_le (by omega), List.getD, List.getElem?_eq_getElem (by omega)]
      rfl
    rw [← e1, List.take_append_drop]
    exact h1
  · rintro ⟨v, h1⟩
    have hl := r.len h1
    rw [List.length_append, List.length_append] at hl
    refine ⟨_, h1, ?_⟩
    rw [← Nat.add_right_cancel hl, List.take_append_of_le_length (Nat.le_refl _), List.take_of_length_le (Nat.le_refl _)]
theorem XS.en (k : XS G c P s) : fI s.h (gW G 6) 112 = nI s.E.length ∧ s.E.length < 100000 := by
  obtain ⟨ba, -, -, g5, g8, -⟩ := k.1.2.2.1
  exact ⟨g8, by omega⟩
theorem nw_cl : nw (n3 50 t (.num v) (ls ps) e) = nw (ls ps) + nw e + 1 := nw_c
theorem bT_cl : bT (n3 50 t (.num v) (ls ps) e) = bT (ls ps) ++ bT e := rfl
theorem fw_cl : fw (n3 50 t (.num v) (ls ps) e) = max (fw (ls ps)) (fw e) + 1 := by
  show max 0 (max 0 (max (fw (ls ps)) (fw e))) + 1 = _
  omega
/-- clauses behind the first -/
theorem mt_5 (hE : ExI G c n) (k : XS G c P0 s) (hhi : hi ≤ c.ts.length) (rl : RowL c.W s.h r0 cs.length) (tg : TG (XA c.ts c.W c.O c.Z c.D s.h) c.W s.h (rowAt s.h r0) cs) (hTR : ∀ y, y ∈ cs → TR lo hi y) (hl8 : cs.length ≤ 8) (hV : ∀ t, t ∈ V → ∃ σ, (t, σ) ∈ s.E) (hD : ∀ y, y ∈ cs → fw y + 600 ≤ D + 1) (hcl : ∀ y, y ∈ cs → (clP y).length = cols) (hS0 : ∀ γ u0, S0 γ u0 → u0.length = us.length) :
    ∀ (cs2 cs1 : List Tr) (b u wl ot : Nat) (s1 : Sx) (ins L : List Nat) (Q : Mq), cs = cs1 ++ cs2 → Rn G c (fun a => P a ∨ a = qa) s (fun t => t ∈ L) s1 ((us ++ ins) ++ [ot]) b (MqS S0 Q) → (ins.length = cols ∧ Rw1 s1.h qa cols ins) → (∀ γ τs o, Q γ τs o → ∃ u0, S0 γ u0) → sLn (fun rc k rc' => sCl c.N c.Ct c.Dt n (fun V rc e rc' => sEx c.ts c.O c.N c.Ct c.Dt n 0 V rc e rc') V rc k rc') cs2 s1.rc rc' → BdX c s (b + 2 * nw (ls cs2)) → Frs s.h c.Z c.D s.E (L ++ bT (ls cs2)) → Slk s s1 b u wl →
    X G mX11_match (D + 2) none [] 5 [(0, .ref (gW G 6)), (1, .ref r0), (2, .ref qa), (3, .int (nI ot)), (4, .int (nI cs1.length))] [] s1.h (ClQ G c (fun a => P a ∨ a = qa) s (fun t => t ∈ L ++ bT (ls cs2)) (b + 2 * nw (ls cs2)) (tMs c.N c.Ct c.Dt n (tW c.N c.Ct c.Dt (Vl c.ts) c.kn n) cs2 Q) (wAll s1.ws (cs2.map fun k => wW c.Ct c.Dt (Pl c.ts) n 0 (clE k)).flatten) rc' us S0 qa cols (u + uqc cs2) (wl + cs2.length)) := by
  intro cs2
  induction cs2 with
  | nil =>
    intro cs1 b u wl ot s1 ins L Q he r hrw hQ hs hb hf hsl
    rw [List.append_nil] at he
    subst he
    have x1 := r.xs
    obtain ⟨rl1, ra1, -⟩ := rl.mvs (N' := c.W) (h' := s1.h) fun a ha _ => ⟨(r.uf k ha).us, ha⟩
    obtain ⟨z1, z2, z3, z4⟩ := row_sz rl1
    refine bX11_match_5 G (D + 1) s1.h _ _ _ _ _ (x1.sA.at (by decide)) ⟨z1, ?_⟩
    rw [z2, nI_leI (by omega) (by omega)]
    exact ⟨fun _ => ⟨ot, ins, s1, rfl, rfl, rfl, hs.symm, r.wk (Nat.le_refl _) fun t ht => List.mem_append_left _ ht, hrw, hsl, hQ⟩, fun z => absurd (Nat.le_refl _) z⟩
  | cons y cs2 IH =>
    intro cs1 b u wl ot s1 ins L Q he r hrw hQ hs hb hf hsl
    have hj : cs[cs1.length]? = some y := by rw [he, List.getElem?_append_right (Nat.le_refl _), Nat.sub_self]; rfl
    have hjl := (List.getElem?_eq_some_iff.mp hj).1
    have hy := List.mem_of_getElem? hj
    obtain ⟨b0, fb, ob⟩ := tg _ y hj
    obtain ⟨r1, ⟨tc, vc, ps, e, ey, hp1, hn30, hps, hp24, hsv, hse⟩, hs2⟩ := hs
    have hTy := hTR y hy
    have hcy := hcl y hy
    have hDy := hD y hy
    have ecp : clP y = ps := by rw [ey]; exact unl_ls ps
    have ece : clE y = e := by rw [ey]; rfl
    rw [ecp] at hcy
    have eny : nw y = nw (ls ps) + nw e + 1 := by rw [ey, nw_cl]
    have eby : bT y = bT (ls ps) ++ bT e := by rw [ey]; rfl
    rw [ey, fw_cl] at hDy
    rw [ey] at ob hTy
    obtain ⟨hWb, hk29, arr, be, eA', hla, tga, e18, oe⟩ := cl_ot2 ob
    have hTps : TR lo hi (ls ps) := hTy.2.2.2.2.1
    have hTe : TR lo hi e := hTy.2.2.2.2.2
    have x1 := r.xs
    obtain ⟨rl1, ra1, -⟩ := rl.mvs (N' := c.W) (h' := s1.h) fun a ha _ => ⟨(r.uf k ha).us, ha⟩
    obtain ⟨z1, z2, z3, z4⟩ := row_sz rl1
    obtain ⟨rl0, rn, rc0, -, rb⟩ := row_get (i := cs1.length) rl1 (by rw [ra1]; exact fb) (by omega)
    have ew : nw (ls (y :: cs2)) = (nw (ls ps) + nw e + 1) + nw (ls cs2) := by show nw y + nw (ls cs2) = _; rw [eny]
    rw [ew] at hb ⊢
    have eL : L ++ bT (ls (y :: cs2)) = (L ++ (bT (ls ps) ++ bT e)) ++ bT (ls cs2) := by
      show L ++ (bT y ++ bT (ls cs2)) = _
      rw [eby, ← List.append_assoc L]
    rw [eL] at hf ⊢
    have ub := r.uf k hWb
    have hc24 : ps.length ≤ 24 := by rw [List.length_map] at hp24; omega
    have hne := sEx_nw hse oe
    refine bX11_match_5 G (D + 1) s1.h _ _ _ _ _ (x1.sA.at (by decide)) ⟨z1, ?_⟩
    rw [z2, nI_leI (by omega) (by omega)]
    refine ⟨fun z => by omega, fun _ => C.rr ((c_rcl (d := 0) rc0 rb (ub.1.trans hk29)).up (by omega)) ?_⟩
    obtain ⟨en1, en2⟩ := x1.en
    rw [r.2.2.2.1] at en1 en2
    have rp := r.rp.imp (Z' := ZeS S0 fun γ ins o ν => Q γ ins o ∧ ν = []) fun γ u ν => ⟨by
      rintro ⟨⟨u0, τs, o, rfl, h1, h2⟩, rfl⟩
      exact ⟨u0, τs, o, rfl, h1, h2, rfl⟩, by
      rintro ⟨u0, τs, o, rfl, h1, h2, rfl⟩
      exact ⟨⟨u0, τs, o, rfl, h1, h2⟩, rfl⟩⟩
    have cl := cl2_8 (D := D) (rc' := r1) (rc0 := s1.rc) (P := P) (qa := qa) (us := us) (S0 := S0) (ins := ins) (ot := ot) (V := V) hE k hhi hWb hk29 eA' hla tga e18 oe (fun y hy => TR.ls_at hTps y hy) hTe hps hc24 hV (by omega) hS0 (by rw [hrw.1, hcy]) ps [] b u wl s1 [] [] L _ rfl rp (by rw [hcy]; exact hrw.2) (fun γ τs o ν h => hQ γ τs o h.1) rfl (by rw [List.nil_append]; exact hse) (hb.le (by omega)) hf.l (fun t ht => (by cases ht)) hsl
    refine C.mono (bX11_clause G D s1.h _ _ _ (x1.sA.at (by decide)) fun x1' ex1 => ?_) (Q := ClQ2 G c (fun a => P a ∨ a = qa) s (fun t => t ∈ L ++ (bT (ls ps) ++ bT e)) (b + 2 * nw (ls ps) + (2 * nw e - 1)) (bE (tPe c.N c.Ct c.Dt 30 0 ps fun γ ins o ν => Q γ ins o ∧ ν = []) fun Z => bE (eX (tW c.N c.Ct c.Dt (Vl c.ts) c.kn n) e fun γ' => ∃ γ ins o ν, Z γ ins o ν ∧ γ' = updL γ ν) fun R => .ok (Z, R)) (wAll s1.ws (wW c.Ct c.Dt (Pl c.ts) n 0 e)) r1 ((us ++ ins) ++ [ot]) ins S0 qa ps.length (u + uq ps) (wl + ps.length)) ?_
    · rw [ex1, en1]
      exact cl
    intro o h6 z
    have law : tMs c.N c.Ct c.Dt n (tW c.N c.Ct c.Dt (Vl c.ts) c.kn n) (y :: cs2) Q = bE (bE (tPe c.N c.Ct c.Dt 30 0 ps fun γ ins o ν => Q γ ins o ∧ ν = []) fun Z => bE (eX (tW c.N c.Ct c.Dt (Vl c.ts) c.kn n) e fun γ' => ∃ γ ins o ν, Z γ ins o ν ∧ γ' = updL γ ν) fun R => .ok (Z, R)) fun x => bE (eqE (tkN e) (∃ γ ins o ν, x.1 γ ins o ν ∧ x.2 (updL γ ν) o) fun γ ins o => ∃ ν, x.1 γ ins o ν ∧ x.2 (updL γ ν) o) fun Q' => tMs c.N c.Ct c.Dt n (tW c.N c.Ct c.Dt (Vl c.ts) c.kn n) cs2 Q' := by
      show bE (tPe c.N c.Ct c.Dt n 0 (clP y) _) _ = _
      rw [ecp, tPe_up hn30 ps 0 _ hps, bE_as]
      congr 1
      funext Z
      rw [bE_as, ece]
      rfl
    rw [law]
    have eww : (wAll s1.ws ((y :: cs2).map fun k => wW c.Ct c.Dt (Pl c.ts) n 0 (clE k)).flatten) = wAll (wAll s1.ws (wW c.Ct c.Dt (Pl c.ts) n 0 e)) (cs2.map fun k => wW c.Ct c.Dt (Pl c.ts) n 0 (clE k)).flatten := by
      rw [List.map_cons, List.flatten_cons, wAll_ap, ece]
    rw [eww]
    cases hr : (bE (tPe c.N c.Ct c.Dt 30 0 ps fun γ ins o ν => Q γ ins o ∧ ν = []) fun Z => bE (eX (tW c.N c.Ct c.Dt (Vl c.ts) c.kn n) e fun γ' => ∃ γ ins o ν, Z γ ins o ν ∧ γ' = updL γ ν) fun R => .ok (Z, R)) with
    | error f =>
      rw [hr] at z
      obtain ⟨z1, y', rfl, z3, z4⟩ := z
      rw [bE_er]
      exact KI.t ⟨z1.wk fun t ht => List.mem_append_left _ ht, y', rfl, z3, by omega⟩
    | ok x =>
      rw [hr] at z
      obtain ⟨t, s2, rfl, rfl, w2, c2, q2, q3, q4, q5⟩ := z
      rw [bE_ok]
      have x2 := q2.xs
      have ub2 := q2.uf k hWb
      obtain ⟨hF, hT296⟩ := ex_tok hse (q2.ot k hTe oe)
      have htk := TR.tk hTe (OTG_0 oe)
      have hot : ot < s1.M := (r.2.1.2.2.1 ot (List.mem_append_right _ (List.mem_cons_self ..))).lt
      obtain ⟨⟨c5, c6, c7⟩, c8, c9⟩ := r.cnt
      obtain ⟨y1, y2, y3, y4, y5⟩ := id hb
      refine KI.i ⟨fun _ => ⟨ub2.1.trans hk29, be, (ub2.2.2.2.2.2 318).2.2.trans e18, hF, ?_⟩, fun z => absurd (nI_pos' (by omega)) z⟩
      rw [hT296]
      have iit : (((us ++ ins) ++ [ot]) ++ [t])[us.length + ins.length + 1]? = some t := ix_l rfl rfl
      have iio : (((us ++ ins) ++ [ot]) ++ [t])[us.length + ins.length]? = some ot := ix_o rfl rfl
      refine C.mono ((q2.sameU (d := 0) (t := tkN e) k iit iio (by omega) (hb.le (by omega))).up (by omega)) ?_
      have lenZ : ∀ γ u0 τs o ν, S0 γ u0 → x.1 γ τs o ν → x.2 (updL γ ν) o → u0.length = us.length ∧ τs.length = ins.length := fun γ u0 τs o ν h1 h2 h3 => by
        have h3' := hS0 γ u0 h1
        have h4 := q2.len (γ := γ) (u := (((u0 ++ τs) ++ [o]) ++ [o])) ⟨_, o, ν, rfl, ⟨u0, τs, o, rfl, h1, h2⟩, h3⟩
        simp only [List.length_append, List.length_singleton] at h4
        exact ⟨h3', by omega⟩
      have ein : ∀ γ (τs : List Tr) o (ν : Nu) v u0, S0 γ u0 → x.1 γ τs o ν → x.2 (updL γ ν) v → ((((u0 ++ τs) ++ [o]) ++ [v])[us.length + ins.length + 1]? = (((u0 ++ τs) ++ [o]) ++ [v])[us.length + ins.length]? ↔ v = o) := fun γ τs o ν v u0 h1 h2 h3 => by
        have l1 := hS0 γ u0 h1
        have h4 := q2.len (γ := γ) (u := (((u0 ++ τs) ++ [o]) ++ [v])) ⟨_, v, ν, rfl, ⟨u0, τs, o, rfl, h1, h2⟩, h3⟩
        simp only [List.length_append, List.length_singleton] at h4
        rw [ix_l l1 (by omega), ix_o l1 (by omega)]
        exact ⟨fun e => Option.some.inj e, fun e => by rw [e]⟩
      have lawE : (∃ γ u, (∃ u1 v ν, u = u1 ++ [v] ∧ ZeS S0 x.1 γ u1 ν ∧ x.2 (updL γ ν) v) ∧ u[us.length + ins.length + 1]? = u[us.length + ins.length]?) ↔ ∃ γ ins o ν, x.1 γ ins o ν ∧ x.2 (updL γ ν) o := by
        constructor
        · rintro ⟨γ, _, ⟨_, v, ν, rfl, ⟨u0, τs, o, rfl, h1, h2⟩, h3⟩, h4⟩
          have e4 := (ein γ τs o ν v u0 h1 h2 h3).mp h4
          exact ⟨γ, τs, o, ν, h2, by rw [← e4]; exact h3⟩
        · rintro ⟨γ, τs, o, ν, h2, h3⟩
          obtain ⟨u0, h1⟩ := q5 γ τs o ν h2
          exact ⟨γ, _, ⟨_, o, ν, rfl, ⟨u0, τs, o, rfl, h1, h2⟩, h3⟩, (ein γ τs o ν o u0 h1 h2 h3).mpr rfl⟩
      rintro o h14 (⟨ex, rfl, τ', hun, q6, q7⟩ | ⟨no, ft⟩)
      · rw [eqE_y (lawE.mp ex), bE_ok]
        refine KV.i ?_
        rintro _ rfl
        rw [nI_1]
        have uq2 := q7 qa (Or.inr rfl)
        have q8 := (q6.dl.wk (b' := b + 2 * (nw (ls ps) + nw e + 1)) (by omega) fun _ h => h).imp (S' := MqS S0 fun γ ins o => ∃ ν, x.1 γ ins o ν ∧ x.2 (updL γ ν) o) fun γ u => ⟨by
          rintro ⟨v, ⟨u1, v', ν, e1, ⟨u0, τs, o, rfl, h1, h2⟩, h3⟩, h4⟩
          rw [e1] at h4
          have e2 := (List.append_inj' e1 rfl).1
          rw [e2]
          have e4 := (ein γ τs o ν v' u0 h1 h2 h3).mp h4
          exact ⟨u0, τs, o, rfl, h1, ν, h2, by rw [← e4]; exact h3⟩, by
          rintro ⟨u0, τs, o, rfl, h1, ν, h2, h3⟩
          exact ⟨o, ⟨_, o, ν, rfl, ⟨u0, τs, o, rfl, h1, h2⟩, h3⟩, (ein γ τs o ν o u0 h1 h2 h3).mpr rfl⟩⟩
        have ih := IH (cs1 ++ [y]) (b + 2 * (nw (ls ps) + nw e + 1)) (u + uq ps) (wl + 1) ot _ ins (L ++ (bT (ls ps) ++ bT e)) _ (by rw [he, List.append_assoc]; rfl) q8 ⟨hrw.1, by rw [← hcy]; exact q3.uf uq2⟩ (fun γ τs o ⟨ν, h1, _⟩ => q5 γ τs o ν h1) (by show sLn _ cs2 s2.rc rc'; rw [c2]; exact hs2) (hb.le (by omega)) hf ⟨by
          have := q4.1
          have e1 : pot h14 s2.cap = pot s2.h s2.cap := by unfold pot; rw [hun]
          show pot h14 s2.cap + _ ≤ _
          omega, by
          have := q4.2
          show s2.ws.length + _ ≤ _
          omega⟩
        rw [List.length_append] at ih
        have eu : u + uqc (y :: cs2) = u + uq ps + uqc cs2 := by show u + (uq (clP y) + uqc cs2) = _; rw [ecp]; omega
        have ewl : wl + (y :: cs2).length = wl + 1 + cs2.length := by rw [List.length_cons]; omega
        have ebb : b + 2 * (nw (ls ps) + nw e + 1 + nw (ls cs2)) = b + 2 * (nw (ls ps) + nw e + 1) + 2 * nw (ls cs2) := by omega
        rw [eu, ewl, ebb, ← w2]
        exact ih
      · rw [eqE_n fun w => no (lawE.mpr w), bE_er]
        obtain ⟨z1, y', rfl, z3, z4⟩ := ft
        exact KV.t ⟨z1.wk fun t ht => List.mem_append_left _ ht, y', rfl, z3, by omega⟩
end
