/-! THE COMPONENT'S TYPER: clauses behind the first -/
def ZeS (S0 : En → List Tr → Prop) (Ze : En → List Tr → Tr → Nu → Prop) : En → List Tr → Nu → Prop := fun γ u ν => ∃ u0 τs o, u = (u0 ++ τs) ++ [o] ∧ S0 γ u0 ∧ Ze γ τs o ν
/-- the end of such a clause -/
def ClQ2 (G : Gh) (c : Cx) (P : Nat → Prop) (s : Sx) (B : Nat → Prop) (b : Nat) (r : Except Fa ((En → List Tr → Tr → Nu → Prop) × (En → Tr → Prop))) (w : List (Nat × Nat)) (rc' : Nat) (ns ins : List Nat) (S0 : En → List Tr → Prop) (qa cols u wl : Nat) : Outcome → AH → Prop := fun o h' => match r with
  | .error f => Ft G c s B b f o h'
  | .ok x => ∃ t s2, o = .returned (some (.int (nI t))) ∧ Sx.h s2 = h' ∧ Sx.ws s2 = w ∧ Sx.rc s2 = rc' ∧ Rn G c P s B s2 (ns ++ [t]) b (fun γ u => ∃ u1 v ν, u = u1 ++ [v] ∧ ZeS S0 x.1 γ u1 ν ∧ x.2 (updL γ ν) v) ∧ Rw1 (Sx.h s2) qa cols ins ∧ Slk s s2 b u wl ∧ ∀ γ τs o ν, x.1 γ τs o ν → ∃ u0, S0 γ u0
section
variable {G : Gh} {c : Cx} {P P0 : Nat → Prop} {s s1 s2 : Sx} {us : List Nat} {n lo hi rc0 rc' D b0 be arr qa cols t ot : Nat} {S0 : En → List Tr → Prop} {h h' : AH} {V : List Nat} {e : Tr} {ps : List Tr} {ins : List Nat}
theorem ix_l {α : Type} {u0 τs : List α} {o v : α} {m k : Nat} (h0 : u0.length = m) (h1 : τs.length = k) : (((u0 ++ τs) ++ [o]) ++ [v])[m + k + 1]? = some v := by
  rw [List.getElem?_append_right (by simp; omega)]
  have : m + k + 1 - ((u0 ++ τs) ++ [o]).length = 0 := by simp; omega
  rw [this]
  rfl
theorem ix_r {α : Type} {u0 τs : List α} {o v : α} {m i : Nat} (h0 : u0.length = m) (h1 : i < τs.length) : (((u0 ++ τs) ++ [o]) ++ [v])[m + i]? = τs[i]? := by
  rw [List.getElem?_append_left (by simp; omega), List.getElem?_append_left (by simp; omega), List.getElem?_append_right (by omega), show m + i - u0.length = i by omega]
theorem cl2_8 (hE : ExI G c n) (k : XS G c P0 s) (hhi : hi ≤ c.ts.length) (hWb : c.W b0) (hk : hK s.h b0 = 29) (eA' : ArF c.W s.h b0 317 arr) (hla : hL s.h arr = ps.length) (tg : TG (XA c.ts c.W c.O c.Z c.D s.h) c.W s.h (aR s.h arr) ps) (e18 : fR s.h b0 318 = some be) (oe : OTG (XA c.ts c.W c.O c.Z c.D s.h) c.W s.h e 0 0 be) (hTl : ∀ y, y ∈ ps → TR lo hi y) (hTe : TR lo hi e) (hps : ∀ p, p ∈ ps → sPt c.N c.Ct rc0 30 p) (hcols : ps.length ≤ 24) (hV : ∀ t, t ∈ V → ∃ σ, (t, σ) ∈ s.E) (hD : fw e + 600 ≤ D) (hS0 : ∀ γ u0, S0 γ u0 → u0.length = us.length) (hil : ins.length = ps.length) :
    ∀ (ps2 ps1 : List Tr) (b u wl : Nat) (s1 : Sx) (vs pd L : List Nat) (Ze : En → List Tr → Tr → Nu → Prop), ps = ps1 ++ ps2 → Rpn G c (fun a => P a ∨ a = qa) s (fun t => t ∈ L) s1 ((us ++ ins) ++ [ot]) vs pd b (ZeS S0 Ze) → Rw1 s1.h qa ps.length ins → (∀ γ τs o ν, Ze γ τs o ν → ∃ u0, S0 γ u0) → s1.rc = rc0 → sEx c.ts c.O c.N c.Ct c.Dt n 0 (V ++ (pd ++ (ps2.map (pNm 30)).flatten)) rc0 e rc' → BdX c s (b + 2 * nw (ls ps2) + 2 * nw e) → Frs s.h c.Z c.D s.E (L ++ (bT (ls ps2) ++ bT e)) → (∀ t, t ∈ pd → t ∈ L) → Slk s s1 b u wl →
    X G mX11_clause (D + 1) none [] 8 [(0, .ref (gW G 6)), (1, .ref b0), (2, .ref qa), (3, .int (nI s.E.length)), (4, .int (nI ps1.length))] [] s1.h (ClQ2 G c (fun a => P a ∨ a = qa) s (fun t => t ∈ L ++ (bT (ls ps2) ++ bT e)) (b + 2 * nw (ls ps2) + (2 * nw e - 1)) (bE (tPe c.N c.Ct c.Dt 30 ps1.length ps2 Ze) fun Z => bE (eX (tW c.N c.Ct c.Dt (Vl c.ts) c.kn n) e fun γ' => ∃ γ ins o ν, Z γ ins o ν ∧ γ' = updL γ ν) fun R => .ok (Z, R)) (wAll s1.ws (wW c.Ct c.Dt (Pl c.ts) n 0 e)) rc' ((us ++ ins) ++ [ot]) ins S0 qa ps.length (u + uq ps2) (wl + ps2.length)) := by
  intro ps2
  induction ps2 with
  | nil =>
    intro ps1 b u wl s1 vs pd L Ze he r hrw hZ hrc hs hb hf hpd hsl
    rw [List.append_nil] at he
    subst he
    have ub := r.uf k hWb
    have ua := r.uf k eA'.2.2
    have x1 := r.xs
    have law : (bE (tPe c.N c.Ct c.Dt 30 ps.length [] Ze) fun Z => bE (eX (tW c.N c.Ct c.Dt (Vl c.ts) c.kn n) e fun γ' => ∃ γ ins o ν, Z γ ins o ν ∧ γ' = updL γ ν) fun R => .ok (Z, R)) = bE (eX (tW c.N c.Ct c.Dt (Vl c.ts) c.kn n) e fun γ' => ∃ γ ins o ν, Ze γ ins o ν ∧ γ' = updL γ ν) fun R => .ok (Ze, R) := rfl
    rw [law]
    refine bX11_clause_8 G D s1.h _ _ _ _ _ (x1.sA.at (by decide)) ⟨ub.1.trans hk, arr, (ub.2.2.2.2.2 317).2.2.trans eA'.1, ua.1.trans eA'.2.1, ?_⟩
    rw [ua.2.1, hla, show Int32.ofNat ps.length = nI ps.length from rfl, nI_leI (by omega) (by omega)]
    have hs' : sEx c.ts c.O c.N c.Ct c.Dt n 0 (V ++ pd) s1.rc e rc' := by
      rw [hrc]
      have : pd ++ (([] : List Tr).map (pNm 30)).flatten = pd := List.append_nil _
      rw [this] at hs
      exact hs
    obtain ⟨k2, ν2, v1, v2, v3⟩ := r.body (D := D) (A1 := fun γ' => ∃ γ ins o ν, Ze γ ins o ν ∧ γ' = updL γ ν) hE k hs' hTe hhi oe (hb.le (by show b + 2 * nw e ≤ b + 2 * 0 + 2 * nw e; omega)) hf hpd hV hD (fun γ' => ⟨fun ⟨γ, τs, o, ν, h1, h2⟩ => by obtain ⟨u0, h3⟩ := hZ γ τs o ν h1; exact ⟨γ, _, ν, ⟨u0, τs, o, rfl, h3, h1⟩, h2⟩, fun ⟨γ, _, ν, ⟨u0, τs, o, _, _, h1⟩, h2⟩ => ⟨γ, τs, o, ν, h1, h2⟩⟩)
    refine ⟨fun _ => ⟨be, (ub.2.2.2.2.2 318).2.2.trans e18, k2, ν2, v1, v2, C.mono v3 ?_⟩, fun z => absurd (Nat.le_refl _) z⟩
    intro o h8 z
    have hn := sEx_nw hs' oe
    cases hr : eX (tW c.N c.Ct c.Dt (Vl c.ts) c.kn n) e (fun γ' => ∃ γ ins o ν, Ze γ ins o ν ∧ γ' = updL γ ν) with
    | error f =>
      rw [hr] at z
      obtain ⟨z1, y, rfl, z3, z4⟩ := z
      rw [bE_er]
      exact KI.t ⟨z1, y, rfl, z3, by omega⟩
    | ok R =>
      rw [hr] at z
      obtain ⟨t, s2, rfl, z2, z3, z4, z5, z6, z7⟩ := z
      rw [bE_ok]
      refine KI.i fun h11 e11 => ⟨t, s2, rfl, z2.trans e11.symm, z3, z4, z5.wk (by omega) fun _ h => h, hrw.uf (z6 qa (Or.inr rfl)), ⟨?_, ?_⟩, hZ⟩
      · have := hsl.1
        have := z7.1
        show pot s2.h s2.cap + (u + 0) ≤ _
        omega
      · have := hsl.2
        have := z7.2
        show s2.ws.length + (wl + 0) ≤ _
        omega
  | cons p ps2 IH =>
    intro ps1 b u wl s1 vs pd L Ze he r hrw hZ hrc hs hb hf hpd hsl
    have hj : ps[ps1.length]? = some p := by rw [he, List.getElem?_append_right (Nat.le_refl _), Nat.sub_self]; rfl
    have hjl := (List.getElem?_eq_some_iff.mp hj).1
    have hx := List.mem_of_getElem? hj
    obtain ⟨bp, fp, op⟩ := tg _ p hj
    have ub := r.uf k hWb
    have ua := r.uf k eA'.2.2
    have x1 := r.xs
    have hp := hps p hx
    have ebp := bT_p 30 p hp
    have hn := sPt_nw 30 p hp
    have ew : nw (ls (p :: ps2)) = nw p + nw (ls ps2) := rfl
    rw [ew] at hb ⊢
    have eL : L ++ (bT (ls (p :: ps2)) ++ bT e) = (L ++ pNm 30 p) ++ (bT (ls ps2) ++ bT e) := by
      show L ++ ((bT p ++ bT (ls ps2)) ++ bT e) = _
      rw [ebp, List.append_assoc, List.append_assoc]
    rw [eL] at hf ⊢
    have eb : b + 2 * (nw p + nw (ls ps2)) + (2 * nw e - 1) = (b + 2 * nw p) + 2 * nw (ls ps2) + (2 * nw e - 1) := by omega
    rw [eb]
    have lenZ : ∀ γ u0 τs o ν, S0 γ u0 → Ze γ τs o ν → u0.length = us.length ∧ τs.length = ins.length := fun γ u0 τs o ν h1 h2 => by
      have h3 := hS0 γ u0 h1
      have h4 := (r.2.2.2.2.2.2 γ _ ν ⟨u0, τs, o, rfl, h1, h2⟩).2.1
      simp only [List.length_append, List.length_singleton] at h4
      exact ⟨h3, by omega⟩
    refine bX11_clause_8 G D s1.h _ _ _ _ _ (x1.sA.at (by decide)) ⟨ub.1.trans hk, arr, (ub.2.2.2.2.2 317).2.2.trans eA'.1, ua.1.trans eA'.2.1, ?_⟩
    rw [ua.2.1, hla, show Int32.ofNat ps.length = nI ps.length from rfl, nI_leI (by omega) (by omega)]
    obtain ⟨k2, ν2, v1, v2, v3⟩ := r.pat (D := D) k (by rw [hrc]; exact hp) (hTl p hx) hhi op (hb.le (by omega)) (by rw [r.2.2.2.1.1]; exact hf.l.nx2 r.1 k.bd hpd) (by omega)
    refine ⟨fun z => by omega, fun _ => ⟨arr, (ub.2.2.2.2.2 317).2.2.trans eA'.1, ua.1.trans eA'.2.1, by rw [ua.2.1, hla]; exact vp_i hjl (by omega), bp, by rw [nI_cn (by omega), ua.2.2.2.2.1]; exact fp, k2, ν2, v1, v2, C.mono v3 ?_⟩⟩
    intro o h22 z
    have law : (bE (tPe c.N c.Ct c.Dt 30 ps1.length (p :: ps2) Ze) fun Z => bE (eX (tW c.N c.Ct c.Dt (Vl c.ts) c.kn n) e fun γ' => ∃ γ ins o ν, Z γ ins o ν ∧ γ' = updL γ ν) fun R => .ok (Z, R)) = bE (tPa c.N c.Ct c.Dt 30 p) fun P => bE (eqE (tkN p) (∃ γ ins o ν1 ν2 τ, Ze γ ins o ν1 ∧ ins[ps1.length]? = some τ ∧ P τ ν2) fun γ ins o ν => ∃ ν1 ν2 τ, ν = ν1 ++ ν2 ∧ Ze γ ins o ν1 ∧ ins[ps1.length]? = some τ ∧ P τ ν2) fun Z' => bE (tPe c.N c.Ct c.Dt 30 (ps1.length + 1) ps2 Z') fun Z => bE (eX (tW c.N c.Ct c.Dt (Vl c.ts) c.kn n) e fun γ' => ∃ γ ins o ν, Z γ ins o ν ∧ γ' = updL γ ν) fun R => .ok (Z, R) := by
      refine bE_as.trans ?_
      congr 1
      funext P
      exact bE_as
    rw [law]
    cases hr : tPa c.N c.Ct c.Dt 30 p with
    | error f =>
      rw [hr] at z
      obtain ⟨z1, y, rfl, z3, z4⟩ := z
      rw [bE_er]
      exact KI.t ⟨z1.wk fun t ht => List.mem_append_left _ ht, y, rfl, z3, by omega⟩
    | ok Pp =>
      rw [hr] at z
      obtain ⟨t, vs2, s2, rfl, rfl, w2, c2, q2, q3, q4, q5⟩ := z
      rw [bE_ok]
      have x2 := q2.xs
      obtain ⟨pv1, pv2, pv3⟩ := x2.2.2.2.2.2.2.1 qa (Or.inr rfl)
      have rw2 := hrw.uf (q3 qa (Or.inr rfl))
      obtain ⟨a, ha⟩ : ∃ a, ins[ps1.length]? = some a := ⟨_, List.getElem?_eq_getElem (by omega)⟩
      have hia : (((us ++ ins) ++ [ot]) ++ [t])[us.length + ps1.length]? = some a := (ix_r rfl (by omega)).trans ha
      have hit : (((us ++ ins) ++ [ot]) ++ [t])[us.length + ins.length + 1]? = some t := ix_l rfl rfl
      have haM : a < s2.M := (q2.2.1.2.2.1 a (List.mem_append_left _ (List.mem_of_getElem? hia))).lt
      obtain ⟨⟨c5, c6, c7⟩, c8, c9⟩ := q2.cnt
      obtain ⟨y1, y2, y3, y4, y5⟩ := id hb
      refine KI.i ⟨pv2, by rw [rw2.1]; exact vp_i hjl (by omega), ?_⟩
      rw [nI_cn (by omega), rw2.2.1 ps1.length a ha]
      obtain ⟨hF, hT302⟩ := pt_tok hp (q2.ot k (hTl p hx) op)
      have htk := TR.tk (hTl p hx) (OTG_0 op)
      have ub2 := q2.uf k hWb
      have ua2 := q2.uf k eA'.2.2
      refine ⟨fun _ => ⟨by rw [rw2.1]; exact vp_i hjl (by omega), arr, (ub2.2.2.2.2.2 317).2.2.trans eA'.1, ua2.1.trans eA'.2.1, by rw [ua2.2.1, hla]; exact vp_i hjl (by omega), bp, by rw [ua2.2.2.2.2.1]; exact fp, hF, ?_⟩, fun z => absurd (nI_pos' (by omega)) z⟩
      rw [hT302]
      refine C.mono ((q2.same (d := 0) (t := tkN p) k hit hia (by omega) (hb.le (by omega))).up (by omega)) ?_
      have ein : ∀ γ (τs : List Tr) o (ν1 ν2 : Nu) v u0, S0 γ u0 → Ze γ τs o ν1 → ((((u0 ++ τs) ++ [o]) ++ [v])[us.length + ins.length + 1]? = (((u0 ++ τs) ++ [o]) ++ [v])[us.length + ps1.length]? ↔ τs[ps1.length]? = some v) := fun γ τs o ν1 ν2 v u0 h1 h2 => by
        obtain ⟨l1, l2⟩ := lenZ γ u0 τs o ν1 h1 h2
        rw [ix_l l1 l2, ix_r l1 (by omega)]
        exact ⟨fun e => e.symm, fun e => e.symm⟩
      have lawE : (∃ γ u ν, (∃ u1 v ν1 ν2, u = u1 ++ [v] ∧ ν = ν1 ++ ν2 ∧ ZeS S0 Ze γ u1 ν1 ∧ Pp v ν2) ∧ u[us.length + ins.length + 1]? = u[us.length + ps1.length]?) ↔ ∃ γ ins o ν1 ν2 τ, Ze γ ins o ν1 ∧ ins[ps1.length]? = some τ ∧ Pp τ ν2 := by
        constructor
        · rintro ⟨γ, _, _, ⟨_, v, ν1, ν2, rfl, rfl, ⟨u0, τs, o, rfl, h1, h2⟩, h3⟩, h4⟩
          exact ⟨γ, τs, o, ν1, ν2, v, h2, (ein γ τs o ν1 ν2 v u0 h1 h2).mp h4, h3⟩
        · rintro ⟨γ, τs, o, ν1, ν2, v, h2, h4, h3⟩
          obtain ⟨u0, h1⟩ := hZ γ τs o ν1 h2
          exact ⟨γ, _, _, ⟨_, v, ν1, ν2, rfl, rfl, ⟨u0, τs, o, rfl, h1, h2⟩, h3⟩, (ein γ τs o ν1 ν2 v u0 h1 h2).mpr h4⟩
      rintro o h36 (⟨ex, rfl, τ', hun, q6, q7⟩ | ⟨no, ft⟩)
      · rw [eqE_y (lawE.mp ex), bE_ok]
        refine KV.i ?_
        rintro _ rfl
        rw [nI_1]
        have q8 := (q6.dl.wk (b' := b + 2 * nw p) (by omega) fun _ h => h).imp (Z' := ZeS S0 fun γ ins o ν => ∃ ν1 ν2 τ, ν = ν1 ++ ν2 ∧ Ze γ ins o ν1 ∧ ins[ps1.length]? = some τ ∧ Pp τ ν2) fun γ u ν => ⟨by
          rintro ⟨v, ⟨u1, v', ν1, ν2, e1, rfl, ⟨u0, τs, o, rfl, h1, h2⟩, h3⟩, h4⟩
          rw [e1] at h4
          have e2 := (List.append_inj' e1 rfl).1
          rw [e2]
          exact ⟨u0, τs, o, rfl, h1, ν1, ν2, v', rfl, h2, (ein γ τs o ν1 ν2 v' u0 h1 h2).mp h4, h3⟩, by
          rintro ⟨u0, τs, o, rfl, h1, ν1, ν2, v, rfl, h2, h4, h3⟩
          exact ⟨v, ⟨_, v, ν1, ν2, rfl, rfl, ⟨u0, τs, o, rfl, h1, h2⟩, h3⟩, (ein γ τs o ν1 ν2 v u0 h1 h2).mpr h4⟩⟩
        have ih := IH (ps1 ++ [p]) (b + 2 * nw p) (u + 6 * (nw p - 1)) (wl + 1) _ (vs ++ vs2) (pd ++ pNm 30 p) (L ++ pNm 30 p) _ (by rw [he, List.append_assoc]; rfl) q8 (rw2.uf (q7 qa (Or.inr rfl))) (fun γ τs o ν ⟨ν1, ν2, τ, _, h1, _⟩ => hZ γ τs o ν1 h1) (c2.trans hrc) (by
          have : pd ++ pNm 30 p ++ (ps2.map (pNm 30)).flatten = pd ++ ((p :: ps2).map (pNm 30)).flatten := by rw [List.append_assoc]; rfl
          rw [this]
          exact hs) (hb.le (by omega)) hf (fun t ht => by
          rcases List.mem_append.mp ht with w | w
          · exact List.mem_append_left _ (hpd t w)
          · exact List.mem_append_right _ w) ⟨by
          have := hsl.1
          have e1 : pot h36 s2.cap = pot s2.h s2.cap := by unfold pot; rw [hun]
          show pot h36 s2.cap + _ ≤ _
          omega, by
          have := hsl.2
          show s2.ws.length + _ ≤ _
          rw [w2]
          omega⟩
        rw [List.length_append] at ih
        have eu : u + uq (p :: ps2) = u + 6 * (nw p - 1) + uq ps2 := by show u + (6 * (nw p - 1) + uq ps2) = _; omega
        have ewl : wl + (p :: ps2).length = wl + 1 + ps2.length := by rw [List.length_cons]; omega
        rw [eu, ewl, ← w2]
        exact ih
      · rw [eqE_n fun w => no (lawE.mpr w), bE_er]
        obtain ⟨z1, y, rfl, z3, z4⟩ := ft
        exact KV.t ⟨z1.wk fun t ht => List.mem_append_left _ ht, y, rfl, z3, by omega⟩
end
