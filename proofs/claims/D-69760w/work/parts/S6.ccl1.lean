/-! THE COMPONENT'S TYPER: the first clause -/
/-- nodes before, the row's types, the answer's type -/
def MqS (S0 : En → List Tr → Prop) (Q : Mq) : En → List Tr → Prop := fun γ u => ∃ u0 τs o, u = (u0 ++ τs) ++ [o] ∧ S0 γ u0 ∧ Q γ τs o
def ZfS (S0 : En → List Tr → Prop) (Zf : En → List Tr → Nu → Prop) : En → List Tr → Nu → Prop := fun γ u ν => ∃ u0 τs, u = u0 ++ τs ∧ S0 γ u0 ∧ Zf γ τs ν
/-- a row of types that is held; those that aren't known yet are -1 -/
def Rw1 (h : AH) (qa cols : Nat) (ins : List Nat) : Prop := hL h qa = cols ∧ (∀ (j p : Nat), ins[j]? = some p → aI h qa j = nI p) ∧ ∀ j, ins.length ≤ j → j < cols → aI h qa j = -1
/-- the end of the first clause -/
def ClQ (G : Gh) (c : Cx) (P : Nat → Prop) (s : Sx) (B : Nat → Prop) (b : Nat) (r : Except Fa Mq) (w : List (Nat × Nat)) (rc' : Nat) (us : List Nat) (S0 : En → List Tr → Prop) (qa cols u wl : Nat) : Outcome → AH → Prop := fun o h' => match r with
  | .error f => Ft G c s B b f o h'
  | .ok Q => ∃ t ins s2, o = .returned (some (.int (nI t))) ∧ Sx.h s2 = h' ∧ Sx.ws s2 = w ∧ Sx.rc s2 = rc' ∧ Rn G c P s B s2 ((us ++ ins) ++ [t]) b (MqS S0 Q) ∧ (ins.length = cols ∧ Rw1 (Sx.h s2) qa cols ins) ∧ Slk s s2 b u wl ∧ ∀ γ τs o, Q γ τs o → ∃ u0, S0 γ u0
section
variable {G : Gh} {c : Cx} {P P0 : Nat → Prop} {s s1 s2 : Sx} {us : List Nat} {n lo hi rc0 rc' D b0 be arr qa cols t : Nat} {S0 : En → List Tr → Prop} {h h' : AH} {V : List Nat} {e : Tr} {ps : List Tr} {ins : List Nat}
theorem Rw1.uf (k : Rw1 h qa cols ins) (u : Uf h h' qa) : Rw1 h' qa cols ins := ⟨u.2.1.trans k.1, fun j p hp => by rw [u.2.2.1]; exact k.2.1 j p hp, fun j h1 h2 => by rw [u.2.2.1]; exact k.2.2 j h1 h2⟩
theorem Rw1.wr (k : Rw1 h qa cols ins) : Rw1 (sI h qa ins.length (nI t)) qa cols (ins ++ [t]) := by
  refine ⟨k.1, fun j p hp => ?_, fun j h1 h2 => ?_⟩
  · rw [aI_sI]
    by_cases cj : j < ins.length
    · rw [if_neg fun z => by omega]
      rw [List.getElem?_append_left cj] at hp
      exact k.2.1 j p hp
    · have hi := (List.getElem?_eq_some_iff.mp hp).1
      rw [List.length_append, List.length_singleton] at hi
      have ei : j = ins.length := by omega
      rw [if_pos ⟨rfl, ei⟩]
      rw [ei, List.getElem?_append_right (Nat.le_refl _), Nat.sub_self] at hp
      cases hp
      rfl
  · rw [List.length_append, List.length_singleton] at h1
    rw [aI_sI, if_neg fun z => by omega]
    exact k.2.2 j (by omega) h2
theorem cl1_8 (hE : ExI G c n) (k : XS G c P0 s) (hhi : hi ≤ c.ts.length) (hWb : c.W b0) (hk : hK s.h b0 = 29) (eA' : ArF c.W s.h b0 317 arr) (hla : hL s.h arr = ps.length) (tg : TG (XA c.ts c.W c.O c.Z c.D s.h) c.W s.h (aR s.h arr) ps) (e18 : fR s.h b0 318 = some be) (oe : OTG (XA c.ts c.W c.O c.Z c.D s.h) c.W s.h e 0 0 be) (hTl : ∀ y, y ∈ ps → TR lo hi y) (hTe : TR lo hi e) (hqa : hK s.h qa = 0) (hps : ∀ p, p ∈ ps → sPt c.N c.Ct rc0 30 p) (hcols : ps.length ≤ 24) (hV : ∀ t, t ∈ V → ∃ σ, (t, σ) ∈ s.E) (hD : fw e + 600 ≤ D) (hEl : s.E.length < 100000) :
    ∀ (ps2 ps1 : List Tr) (b u wl : Nat) (s1 : Sx) (ins vs pd L : List Nat) (Zf : En → List Tr → Nu → Prop), ps = ps1 ++ ps2 → Rpn G c (fun a => P a ∨ a = qa) s (fun t => t ∈ L) s1 (us ++ ins) vs pd b (ZfS S0 Zf) → ins.length = ps1.length → Rw1 s1.h qa ps.length ins → (∀ γ τs ν, Zf γ τs ν → ∃ u0, S0 γ u0) → s1.rc = rc0 → sEx c.ts c.O c.N c.Ct c.Dt n 0 (V ++ (pd ++ (ps2.map (pNm 30)).flatten)) rc0 e rc' → BdX c s (b + 2 * nw (ls ps2) + 2 * nw e) → Frs s.h c.Z c.D s.E (L ++ (bT (ls ps2) ++ bT e)) → (∀ t, t ∈ pd → t ∈ L) → Slk s s1 b u wl →
    X G mX11_clause (D + 1) none [] 8 [(0, .ref (gW G 6)), (1, .ref b0), (2, .ref qa), (3, .int (nI s.E.length)), (4, .int (nI ps1.length))] [] s1.h (ClQ G c (fun a => P a ∨ a = qa) s (fun t => t ∈ L ++ (bT (ls ps2) ++ bT e)) (b + 2 * nw (ls ps2) + (2 * nw e - 1)) (bE (tPf c.N c.Ct c.Dt 30 ps2 Zf) fun Z => bE (eX (tW c.N c.Ct c.Dt (Vl c.ts) c.kn n) e fun γ' => ∃ γ ins ν, Z γ ins ν ∧ γ' = updL γ ν) fun R => .ok fun γ ins o => ∃ ν, Z γ ins ν ∧ R (updL γ ν) o) (wAll s1.ws (wW c.Ct c.Dt (Pl c.ts) n 0 e)) rc' us S0 qa ps.length (u + uq ps2) (wl + ps2.length)) := by
  intro ps2
  induction ps2 with
  | nil =>
    intro ps1 b u wl s1 ins vs pd L Zf he r hil hrw hZ hrc hs hb hf hpd hsl
    rw [List.append_nil] at he
    subst he
    have ub := r.uf k hWb
    have ua := r.uf k eA'.2.2
    have x1 := r.xs
    have law : (bE (tPf c.N c.Ct c.Dt 30 [] Zf) fun Z => bE (eX (tW c.N c.Ct c.Dt (Vl c.ts) c.kn n) e fun γ' => ∃ γ ins ν, Z γ ins ν ∧ γ' = updL γ ν) fun R => (.ok fun γ ins o => ∃ ν, Z γ ins ν ∧ R (updL γ ν) o : Except Fa Mq)) = bE (eX (tW c.N c.Ct c.Dt (Vl c.ts) c.kn n) e fun γ' => ∃ γ ins ν, Zf γ ins ν ∧ γ' = updL γ ν) fun R => .ok fun γ ins o => ∃ ν, Zf γ ins ν ∧ R (updL γ ν) o := rfl
    rw [law]
    refine bX11_clause_8 G D s1.h _ _ _ _ _ (x1.sA.at (by decide)) ⟨ub.1.trans hk, arr, (ub.2.2.2.2.2 317).2.2.trans eA'.1, ua.1.trans eA'.2.1, ?_⟩
    rw [ua.2.1, hla, show Int32.ofNat ps.length = nI ps.length from rfl, nI_leI (by omega) (by omega)]
    have hs' : sEx c.ts c.O c.N c.Ct c.Dt n 0 (V ++ pd) s1.rc e rc' := by
      rw [hrc]
      have : pd ++ (([] : List Tr).map (pNm 30)).flatten = pd := List.append_nil _
      rw [this] at hs
      exact hs
    obtain ⟨k2, ν2, v1, v2, v3⟩ := r.body (D := D) (A1 := fun γ' => ∃ γ ins ν, Zf γ ins ν ∧ γ' = updL γ ν) hE k hs' hTe hhi oe (hb.le (by show b + 2 * nw e ≤ b + 2 * 0 + 2 * nw e; omega)) hf hpd hV hD (fun γ' => ⟨fun ⟨γ, τs, ν, h1, h2⟩ => by obtain ⟨u0, h3⟩ := hZ γ τs ν h1; exact ⟨γ, _, ν, ⟨u0, τs, rfl, h3, h1⟩, h2⟩, fun ⟨γ, _, ν, ⟨u0, τs, _, _, h1⟩, h2⟩ => ⟨γ, τs, ν, h1, h2⟩⟩)
    refine ⟨fun _ => ⟨be, (ub.2.2.2.2.2 318).2.2.trans e18, k2, ν2, v1, v2, C.mono v3 ?_⟩, fun z => absurd (Nat.le_refl _) z⟩
    intro o h8 z
    have hn := sEx_nw hs' oe
    cases hr : eX (tW c.N c.Ct c.Dt (Vl c.ts) c.kn n) e (fun γ' => ∃ γ ins ν, Zf γ ins ν ∧ γ' = updL γ ν) with
    | error f =>
      rw [hr] at z
      obtain ⟨z1, y, rfl, z3, z4⟩ := z
      rw [bE_er]
      exact KI.t ⟨z1, y, rfl, z3, by omega⟩
    | ok R =>
      rw [hr] at z
      obtain ⟨t, s2, rfl, z2, z3, z4, z5, z6, z7⟩ := z
      rw [bE_ok]
      refine KI.i fun h11 e11 => ⟨t, ins, s2, rfl, z2.trans e11.symm, z3, z4, (z5.wk (by omega) fun _ h => h).imp fun γ u => ⟨?_, ?_⟩, ⟨hil, hrw.uf (z6 qa (Or.inr rfl))⟩, ⟨?_, ?_⟩, fun γ τs o ⟨ν, h1, _⟩ => hZ γ τs ν h1⟩
      · rintro ⟨u1, v, ν, rfl, ⟨u0, τs, rfl, h1, h2⟩, h3⟩
        exact ⟨u0, τs, v, rfl, h1, ν, h2, h3⟩
      · rintro ⟨u0, τs, v, rfl, h1, ν, h2, h3⟩
        exact ⟨_, v, ν, rfl, ⟨u0, τs, rfl, h1, h2⟩, h3⟩
      · have := hsl.1
        have := z7.1
        show pot s2.h s2.cap + (u + 0) ≤ _
        omega
      · have := hsl.2
        have := z7.2
        show s2.ws.length + (wl + 0) ≤ _
        omega
  | cons p ps2 IH =>
    intro ps1 b u wl s1 ins vs pd L Zf he r hil hrw hZ hrc hs hb hf hpd hsl
    have hj : ps[ps1.length]? = some p := by rw [he, List.getElem?_append_right (Nat.le_refl _), Nat.sub_self]; rfl
    have hjl := (List.getElem?_eq_some_iff.mp hj).1
    have hx := List.mem_of_getElem? hj
    obtain ⟨bp, fp, op⟩ := tg _ p hj
    have ub := r.uf k hWb
    have ua := r.uf k eA'.2.2
    have x1 := r.xs
    have hp := hps p hx
    have ebp := bT_p 30 p hp
    have hn := sPt_nw 30 p hp
    have ew : nw (ls (p :: ps2)) = nw p + nw (ls ps2) := rfl
    rw [ew] at hb ⊢
    have eL : L ++ (bT (ls (p :: ps2)) ++ bT e) = (L ++ pNm 30 p) ++ (bT (ls ps2) ++ bT e) := by
      show L ++ ((bT p ++ bT (ls ps2)) ++ bT e) = _
      rw [ebp, List.append_assoc, List.append_assoc]
    rw [eL] at hf ⊢
    have eb : b + 2 * (nw p + nw (ls ps2)) + (2 * nw e - 1) = (b + 2 * nw p) + 2 * nw (ls ps2) + (2 * nw e - 1) := by omega
    rw [eb]
    refine bX11_clause_8 G D s1.h _ _ _ _ _ (x1.sA.at (by decide)) ⟨ub.1.trans hk, arr, (ub.2.2.2.2.2 317).2.2.trans eA'.1, ua.1.trans eA'.2.1, ?_⟩
    rw [ua.2.1, hla, show Int32.ofNat ps.length = nI ps.length from rfl, nI_leI (by omega) (by omega)]
    obtain ⟨k2, ν2, v1, v2, v3⟩ := r.pat (D := D) k (by rw [hrc]; exact hp) (hTl p hx) hhi op (hb.le (by omega)) (by rw [r.2.2.2.1.1]; exact hf.l.nx2 r.1 k.bd hpd) (by omega)
    refine ⟨fun z => by omega, fun _ => ⟨arr, (ub.2.2.2.2.2 317).2.2.trans eA'.1, ua.1.trans eA'.2.1, by rw [ua.2.1, hla]; exact vp_i hjl (by omega), bp, by rw [nI_cn (by omega), ua.2.2.2.2.1]; exact fp, k2, ν2, v1, v2, C.mono v3 ?_⟩⟩
    intro o h22 z
    have law : (bE (tPf c.N c.Ct c.Dt 30 (p :: ps2) Zf) fun Z => bE (eX (tW c.N c.Ct c.Dt (Vl c.ts) c.kn n) e fun γ' => ∃ γ ins ν, Z γ ins ν ∧ γ' = updL γ ν) fun R => (.ok fun γ ins o => ∃ ν, Z γ ins ν ∧ R (updL γ ν) o : Except Fa Mq)) = bE (tPa c.N c.Ct c.Dt 30 p) fun P => bE (tPf c.N c.Ct c.Dt 30 ps2 fun γ ins ν => ∃ ins' τ ν1 ν2, ins = ins' ++ [τ] ∧ ν = ν1 ++ ν2 ∧ Zf γ ins' ν1 ∧ P τ ν2) fun Z => bE (eX (tW c.N c.Ct c.Dt (Vl c.ts) c.kn n) e fun γ' => ∃ γ ins ν, Z γ ins ν ∧ γ' = updL γ ν) fun R => (.ok fun γ ins o => ∃ ν, Z γ ins ν ∧ R (updL γ ν) o : Except Fa Mq) := bE_as
    rw [law]
    cases hr : tPa c.N c.Ct c.Dt 30 p with
    | error f =>
      rw [hr] at z
      obtain ⟨z1, y, rfl, z3, z4⟩ := z
      rw [bE_er]
      exact KI.t ⟨z1.wk fun t ht => List.mem_append_left _ ht, y, rfl, z3, by omega⟩
    | ok Pp =>
      rw [hr] at z
      obtain ⟨t, vs2, s2, rfl, rfl, w2, c2, q2, q3, q4, q5⟩ := z
      rw [bE_ok]
      have x2 := q2.xs
      obtain ⟨pv1, pv2, pv3⟩ := x2.2.2.2.2.2.2.1 qa (Or.inr rfl)
      have rw2 := hrw.uf (q3 qa (Or.inr rfl))
      refine KI.i ⟨pv2, by rw [rw2.1]; exact vp_i hjl (by omega), ?_⟩
      rw [nI_cn (by omega), rw2.2.2 ps1.length (by omega) hjl]
      refine ⟨fun z => absurd z (by decide), fun _ => ⟨pv3, by rw [rw2.1]; exact vp_i hjl (by omega), ?_⟩⟩
      rintro h40 e40 _ rfl
      rw [nI_1]
      have q6 := (q2.wk (b' := b + 2 * nw p) (by omega) fun _ h => h).wr (i := ps1.length) (v := nI t) k (Or.inr rfl) hqa
      rw [← e40, List.append_assoc us] at q6
      have q7 := q6.imp (Z' := ZfS S0 fun γ ins ν => ∃ ins' τ ν1 ν2, ins = ins' ++ [τ] ∧ ν = ν1 ++ ν2 ∧ Zf γ ins' ν1 ∧ Pp τ ν2) fun γ u ν => ⟨by
        rintro ⟨u1, v, ν1, ν2, rfl, rfl, ⟨u0, τs, rfl, h1, h2⟩, h3⟩
        exact ⟨u0, τs ++ [v], List.append_assoc .., h1, τs, v, ν1, ν2, rfl, rfl, h2, h3⟩, by
        rintro ⟨u0, _, rfl, h1, τs, v, ν1, ν2, rfl, rfl, h2, h3⟩
        exact ⟨u0 ++ τs, v, ν1, ν2, (List.append_assoc ..).symm, rfl, ⟨u0, τs, rfl, h1, h2⟩, h3⟩⟩
      have ih := IH (ps1 ++ [p]) (b + 2 * nw p) (u + 6 * (nw p - 1)) (wl + 1) _ (ins ++ [t]) (vs ++ vs2) (pd ++ pNm 30 p) (L ++ pNm 30 p) _ (by rw [he, List.append_assoc]; rfl) q7 (by rw [List.length_append, List.length_append, hil]; rfl) (by show Rw1 h40 qa ps.length _; rw [e40, ← hil]; exact rw2.wr) (fun γ τs ν ⟨τs', τ, ν1, ν2, _, _, h1, _⟩ => hZ γ τs' ν1 h1) (c2.trans hrc) (by
        have : pd ++ pNm 30 p ++ (ps2.map (pNm 30)).flatten = pd ++ ((p :: ps2).map (pNm 30)).flatten := by rw [List.append_assoc]; rfl
        rw [this]
        exact hs) (hb.le (by omega)) hf (fun t ht => by
        rcases List.mem_append.mp ht with w | w
        · exact List.mem_append_left _ (hpd t w)
        · exact List.mem_append_right _ w) ⟨by
        have := hsl.1
        have e1 : pot h40 s2.cap = pot s2.h s2.cap := by unfold pot; rw [e40, un_sI]
        show pot h40 s2.cap + _ ≤ _
        omega, by
        have := hsl.2
        show s2.ws.length + _ ≤ _
        rw [w2]
        omega⟩
      rw [List.length_append] at ih
      have eu : u + uq (p :: ps2) = u + 6 * (nw p - 1) + uq ps2 := by show u + (6 * (nw p - 1) + uq ps2) = _; omega
      have ewl : wl + (p :: ps2).length = wl + 1 + ps2.length := by rw [List.length_cons]; omega
      rw [eu, ewl, ← w2]
      exact ih
end
