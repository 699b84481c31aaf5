/-! THE COMPONENT'S TYPER: names that became general are in sight -/
section
variable {G : Gh} {c : Cx} {P P0 : Nat → Prop} {s s1 : Sx} {us vs pd L : List Nat} {b : Nat} {Z : En → List Tr → Nu → Prop} {h' : AH} {ρg : Nat → Tr}
theorem Rpn.gen (k : XS G c P0 s) (r : Rpn G c P s (fun t => t ∈ L) s1 us vs pd b Z) (hf : Frs s.h c.Z c.D s.E L) (hpd : ∀ t, t ∈ pd → t ∈ L) (W : RwG G c s1 s.E vs pd h') (l : Lm (gW G) (mM mX11_declared) s1.h h' none) (hρg : Sl s1.M s1.t ρg) (hle : ∀ v, v ∈ vs → gsz (ρg v) ≤ 60) : ∃ s2, Sx.h s2 = h' ∧ Sx.ws s2 = s1.ws ∧ Sx.rc s2 = s1.rc ∧ pot (Sx.h s2) (Sx.cap s2) = pot s1.h s1.cap ∧ Dn G c P s (fun t => t ∈ L) s2 (b + 1) (fun γ γ' => (∃ u ν, Z γ u ν) ∧ γ' = updS γ (gnS pd fun ν => ∃ u, Z γ u ν)) ∧ (∀ t, t ∈ pd → ∃ σ, (t, σ) ∈ Sx.E s2) ∧ ∀ a, P a → Uf s1.h h' a := by
  obtain ⟨fs, rt, dp, m, h2, V, em, ⟨ty, sf, mk, hpS, fl, b3⟩, T, h3, ⟨T3, ar3⟩, I, e38, hdn, hmn⟩ := W
  obtain ⟨⟨ty2, T2, e382⟩, t2, t3, t4, t5, t6⟩ := id T
  obtain ⟨⟨tyf, nmf, TF⟩, i2, i3, i4⟩ := id I
  obtain ⟨r1, r2, r3, ⟨r4, r4'⟩, r5, r6, r7⟩ := id r
  obtain ⟨a1, a2, a3, a4, a5, a6, a7, a8, a9⟩ := s128_r (c := c) pd h3
  have kc := ty.kc
  have sA := r3.sA
  have lm := l.weak (m' := MI) (by decide +kernel)
  have T13 := T2.tr T3
  have mk3 : ∀ j z, mkd G h3 j z ↔ mkd G h2 j z := fun j z => by unfold mkd; rw [ar3]
  have mkB : ∀ j z, mkd G (s128 c h3 pd) j z ↔ mkd G h2 j z := fun j z => by unfold mkd; rw [a3, ar3]
  have kE : ∀ t, t ∈ pd → hK s1.h (c.Z.1 t) = 13 := fun t ht => ((r3.bd.1 t (hf.2 t (hpd t ht)).1)).1
  -- what stays but for binders
  have U1 : ∀ a, (∀ i, i ∈ TyC → a ≠ gW G i) → (∀ t, t ∈ pd → a ≠ c.Z.1 t) → Uf s1.h h' a := fun a h1 h2' => by
    have u1 := T13.1 a h1
    have u3 := TF.1 a h1
    have u2 : Uf h3 (s128 c h3 pd) a := ⟨by rw [a1], by rw [a2], by rw [a3], by rw [a4], by rw [a5], fun g => ⟨(s128_fI pd h3 a g).2 h2', by rw [a6], by rw [a7]⟩⟩
    exact (u1.tr u2).tr u3
  have kn : ∀ a, (hK s1.h a = 10 ∨ hK s1.h a = 1007 ∨ hK s1.h a = 13) → ∀ i, i ∈ TyC → a ≠ gW G i := fun a h0 i hi e => by
    obtain ⟨-, c2, c3, c4⟩ := tyc_k2 sA i hi
    rw [e] at h0
    rcases h0 with w | w | w
    · exact c2 w
    · exact c3 w
    · exact c4 w
  have nb : ∀ a n, hK s1.h a = n → n ≠ 13 → ∀ t, t ∈ pd → a ≠ c.Z.1 t := fun a n h0 hn t ht e => hn (by rw [← h0, e]; exact kE t ht)
  have Fn : FIn G c.Z (fun t => t ∈ L) s1.rc c.Ct.length s1.h h' := by
    have k6 : hK s1.h (gW G 6) = 10 := (sA.at (i := 6) (by decide)).1
    refine ⟨lm, fun a ha => U1 a (fun i hi => ha.2.2.1 i (List.mem_append_left _ hi)) (nb a _ rfl fun w => ha.2.1 (by rw [w]; decide)), fun a ha _ _ => (U1 a (kn a (Or.inr (Or.inl ha))) (nb a _ ha (by decide))).2.2.2.2.1, fun a ha hp => ?_, fun a ha _ => ?_, Or.inl ((U1 (gW G 6) (kn _ (Or.inl k6)) (nb _ _ k6 (by decide))).2.2.2.2.2 111).2.2⟩
    · have u := (U1 a (kn a (Or.inr (Or.inr ha))) (fun t ht => hp t (hpd t ht))).2.2.2.2.2
      exact ⟨(u 127).1, (u 128).1⟩
    · have u := (U1 a (fun i hi e => by
        have w := tyc_k2 sA i hi
        have kk : hK s1.h (gW G i) = 3 ∨ hK s1.h (gW G i) = 1000 := by
          have s2 := sA.at (i := 2) (by decide)
          unfold TyC at hi
          simp only [List.mem_cons, List.not_mem_nil, or_false] at hi
          rcases hi with rfl | rfl | rfl | rfl | rfl | rfl | rfl | rfl | rfl
          · exact Or.inl s2.1
          · exact Or.inr (kw1030 s2)
          · exact Or.inr (kw1031 s2)
          · exact Or.inr (kw1032 s2)
          · exact Or.inr (kw1033 s2)
          · exact Or.inr (kw1034 s2)
          · exact Or.inr (kw1035 s2)
          · exact Or.inr (kw1039 s2)
          · exact Or.inr (kw1046 s2)
        rw [← e, ha] at kk
        rcases kk with w | w <;> cases w) (nb a _ ha (by decide))).2.2.2.2.2
      exact ⟨(u 372).2.2, (u 373).2.2⟩
  -- the maths
  have hcv : ∀ v, v ∈ vs → cln s1.M s1.t v := fun v hv => r2.2.2.1 v (List.mem_append_right _ hv)
  have g : GenH s1.M s1.t rt (fun z => z < s1.M ∧ mkd G h2 (m + 1) z) V vs := by
    refine ⟨fun z hz h p hp => ?_, fun z hz => ?_, fun v hv => ⟨hcv v hv, ?_⟩, hmn⟩
    · have hpM : p < s1.M := by
        unfold pc at hp
        split at hp
        · exact (kc z hz).2.2 (by assumption) p hp
        · cases hp
      exact ⟨(sf.1 p hpM).1, t5 z hz h.2 p hp⟩
    · obtain ⟨⟨g1, g2, g3⟩, -, g4⟩ := i4 z hz
      refine ⟨⟨g1, g2, fun w => g3 ((mkB _ _).mpr w.2)⟩, fun p hp => (g4 p hp).imp id fun w => ?_⟩
      have hpM : p < s1.M := by
        unfold pc at hp
        split at hp
        · exact (kc z g2).2.2 (by assumption) p hp
        · cases hp
      exact ⟨(sf.1 p hpM).1, (mkB _ _).mp w⟩
    · exact (hdn v hv).imp id fun w => ⟨(sf.1 v (hcv v hv).lt).1, (mk3 _ _).mp w⟩
  have gE' := g.1
  have nodes : ∀ y, y ∈ s.E → (ndT c s1.h y.1 < s.M ∧ ndT c s1.h y.1 < s1.M) ∧ mkd G h2 (m + 1) (rt (ndT c s1.h y.1)) ∧ ((y.2 = .var (ndT c s1.h y.1)) ∨ SE s1.M s1.t (ndT c s1.h y.1) y.2) := fun y hy => by
    obtain ⟨i, hi⟩ := List.getElem?_of_mem hy
    have hil := (List.getElem?_eq_some_iff.mp hi).1
    obtain ⟨-, -, -, -, -, q5, q6, q7, -⟩ := k.nodG hi
    obtain ⟨-, -, -, -, -, p5, p6, p7, p8⟩ := r3.nodG (i := i) (y := y) (by rw [r4, List.getElem?_append_left hil]; exact hi)
    have e1 := (r1.2.2.2.1 (c.Z.1 y.1) q5 fun t ht' e => by
      have d1 := k.1.2.2.2.2.2.1 y hy
      have := k.bd.2.1 y.1 t d1 (hf.2 t ht').1 e
      exact (hf.2 t ht').2.2 y hy this).1
    have e2 : ndT c s1.h y.1 = ndT c s.h y.1 := by unfold ndT; rw [e1]
    refine ⟨⟨by rw [e2]; exact q7, p7⟩, t4 _ (List.mem_map_of_mem (f := fun y : Nat × Tr => ndT c s1.h y.1) hy), ?_⟩
    rcases p8 with w | w
    · exact Or.inl w.2.1
    · exact Or.inr w.2.1
  have hγ : ∀ ρ ρ', Sl s1.M s1.t ρ → Sl s1.M s1.t ρ' → (∀ z, Cls s1.M rt (fun z => z < s1.M ∧ mkd G h2 (m + 1) z) z → ρ z = ρ' z) → gE s.E ρ = gE s.E ρ' := by
    intro ρ ρ' h1 h2' he
    have key : ∀ y, y ∈ s.E → sg y.2 ρ = sg y.2 ρ' := fun y hy => by
      obtain ⟨⟨n1, n2⟩, n3, n4⟩ := nodes y hy
      have cl : Cls s1.M rt (fun z => z < s1.M ∧ mkd G h2 (m + 1) z) (ndT c s1.h y.1) := ⟨n2, (sf.1 _ n2).1, n3⟩
      refine sg_cg fun x hx => he x ?_
      rcases n4 with w | w
      · rw [w] at hx
        have : ndT c s1.h y.1 = x := hx
        rw [← this]
        exact cl
      · obtain ⟨f, hff⟩ := w.use sf.1 kc
        rw [← hff f (Nat.le_refl _)] at hx
        exact sc_in sf.1 (Cls.kc sf kc gE') f _ cl x hx
    funext t u
    refine propext ⟨?_, ?_⟩
    · rintro ⟨sc, g1, g2⟩
      exact ⟨sc, g1, by rw [← key _ g1]; exact g2⟩
    · rintro ⟨sc, g1, g2⟩
      exact ⟨sc, g1, by rw [key _ g1]; exact g2⟩
  have H1 : ∀ ρ, Sl s1.M s1.t ρ → (fun (γ : En) (w : List Tr) => ∃ u ν, Z γ u ν ∧ ν.map (·.2) = w) (gE s.E ρ) (vs.map ρ) := fun ρ hρ => ⟨_, _, r.sol hρ, List.map_snd_zip (by rw [List.length_map, r4']; exact Nat.le_refl _)⟩
  have H2 : ∀ ρ, Sl s1.M s1.t ρ → ∀ w, (fun (γ : En) (w : List Tr) => ∃ u ν, Z γ u ν ∧ ν.map (·.2) = w) (gE s.E ρ) w → ∃ ρ', Sl s1.M s1.t ρ' ∧ (∀ x, x < s.M → ρ' x = ρ x) ∧ vs.map ρ' = w := by
    rintro ρ hρ _ ⟨u, ν, h1, rfl⟩
    obtain ⟨-, f2, f3⟩ := r7 _ _ _ h1
    obtain ⟨ρ', g1, g2, g3⟩ := r2.2.2.2.2.2 ρ (r2.1.2.1 ρ hρ) _ ⟨u, ν, rfl, h1⟩
    rw [List.map_append] at g3
    exact ⟨ρ', g1, g2, (app_inj g3 (by rw [List.length_map, f2])).2⟩
  have hd : ∀ z, Det s1.M s1.t s.M z → ¬ (z ∈ V ∧ uN s1.t z < 0) := fun z hz => gen_det (R := fun (γ : En) (w : List Tr) => ∃ u ν, Z γ u ν ∧ ν.map (·.2) = w) sf kc g hγ H1 H2 hz
  have dt : ∀ x, x < s.M → Det s1.M s1.t s.M x := fun x hx ρ ρ' _ _ he => he x hx
  have hE0 : ∀ ρ ρ', Sl s1.M s1.t ρ → Sl s1.M s1.t ρ' → (∀ x, x < s.M → ρ x = ρ' x) → ∀ z, (z < s1.M ∧ mkd G h2 (m + 1) z) → ρ z = ρ' z := fun ρ ρ' h1 h2' he z hz => by
    refine (t6 _ (Sl.agr h1 h2' kc) (fun x hx => ?_) z hz.1 hz.2).2
    obtain ⟨y, hy, rfl⟩ := List.mem_map.mp hx
    obtain ⟨⟨n1, n2⟩, -⟩ := nodes y hy
    exact ⟨n2, he _ n1⟩
  have gr' := g.gr fl.2
  have fl1 : ∀ z, z < s1.M → uS s1.t z = none → (z ∈ V → (aI h' (gW G 1032) z = -2 ↔ ¬ cln s1.M (gnT s1.t V) z)) ∧ (z ∉ V → aI h' (gW G 1032) z = aI s1.h (gW G 1032) z) := fun z hz hn => by
    obtain ⟨g1, g2⟩ := i3 z hz hn
    exact ⟨g1, fun w => by rw [g2 w, a3, ar3, t2]⟩
  have tt' : TT G h' s1.M s1.Pn (gnT s1.t V) (m + 2) := by
    refine ⟨fs, rt, dp, tyf, nmf, gn_sf sf, ⟨e38, fun z hz => ?_⟩, hpS, ⟨fun x hx hn e => ?_, gr'⟩, ?_⟩
    · rw [i2 z hz]
      split
      · exact ⟨m + 2, Nat.le_refl _, rfl⟩
      · rw [a3, ar3]
        rcases t3 z with w | w
        · exact ⟨m + 1, by omega, w⟩
        · obtain ⟨j, hj, e⟩ := mk.2 z hz
          exact ⟨j, by omega, w.trans e⟩
    · have hn' : uS s1.t x = none := hn
      obtain ⟨g1, g2⟩ := fl1 x hx hn'
      by_cases q : x ∈ V
      · exact (g1 q).mp e
      · rw [g2 q] at e
        exact fun w => fl.1 x hx hn' e (cln_gn w)
    · obtain ⟨z1, ⟨z2, z3, z4⟩, z5⟩ := b3
      exact ⟨z1, ⟨(gn_eq (by omega)).trans z2, (gn_eq (by omega)).trans z3, (gn_eq (by omega)).trans z4⟩, z5⟩
  have ev : Ev G s.h s.M s.t h' s1.M (gnT s1.t V) := by
    refine ⟨r2.1.1, fun ρ hρ => r2.1.2.1 ρ (gn_sl.mp hρ), fun x hx => gen_cln kc hd (dt x hx.lt) (r2.1.2.2.1 x hx), fun x sc h1 h2' => ?_⟩
    obtain ⟨g1, g2⟩ := r2.1.2.2.2 x sc h1 h2'
    exact ⟨gen_se sf kc hd (dt x h1.1) g1, gen_fl2 kc hd (dt x h1.1) fl1 g2⟩
  -- schemes
  have hsc : ∀ v, ∃ sc, v ∈ vs → SE s1.M (gnT s1.t V) v sc := fun v => by
    by_cases q : v ∈ vs
    · obtain ⟨sc, h1⟩ := SE.mk (gn_sf (V := V) sf) (gn_kc.mpr kc) (hcv v q).lt
      exact ⟨sc, fun _ => h1⟩
    · exact ⟨.num 0, fun w => absurd w q⟩
  obtain ⟨scf, hscf⟩ := Classical.axiomOfChoice hsc
  have gsc : ∀ (i v : Nat), vs[i]? = some v → ∀ ρ, Sl s1.M s1.t ρ → ∀ u, sg (scf v) ρ u ↔ ∃ w, (∃ u1 ν, Z (gE s.E ρ) u1 ν ∧ ν.map (·.2) = w) ∧ w[i]? = some u := fun i v hv ρ hρ u => gen_sc (R := fun (γ : En) (w : List Tr) => ∃ u ν, Z γ u ν ∧ ν.map (·.2) = w) sf kc fl.2 g hγ hE0 H1 H2 hv (hscf v (List.mem_of_getElem? hv)) hρ u
  have F0 : FIn G c.Z (fun t => t ∈ L) s.rc c.Ct.length s.h h' := r1.tr k.sA (Fn.rc_le r5)
  have hun : un h' = un s1.h := by rw [TF.2.1, a8, T13.2.1]
  have nd := r3.1.2.2.2.2.2.2.2
  rw [r4, List.map_append, List.map_fst_zip (by rw [List.length_map, r4']; exact Nat.le_refl _)] at nd
  have hzl : (vs.map scf).length = pd.length := by rw [List.length_map, r4']
  have gd := r3.1.2.2.2.2.2.1
  have gzip : ∀ (i : Nat) (y : Nat × Tr), (pd.zip (vs.map scf))[i]? = some y → ∃ v, vs[i]? = some v ∧ pd[i]? = some y.1 ∧ y.2 = scf v := fun i y hy => by
    rw [List.getElem?_zip_eq_some] at hy
    obtain ⟨h1, h2'⟩ := hy
    rw [List.getElem?_map] at h2'
    cases hv : vs[i]? with
    | none => rw [hv] at h2'; cases h2'
    | some v =>
      rw [hv] at h2'
      exact ⟨v, rfl, h1, (Option.some.inj h2').symm⟩
  have x2 : XS G c P (h', s1.M, s1.Pn, gnT s1.t V, m + 2, s.E ++ pd.zip (vs.map scf), s1.cap, s1.rc, s1.ws) := by
    obtain ⟨⟨w0, tt, ⟨ba, g1, g2, g5, g8, g9⟩, fx, bd, gd, pi, nd0⟩, b2, ⟨pa, b3'⟩, b4, b5, b6, b7⟩ := id r3
    have k6 : hK s1.h (gW G 6) = 10 := (sA.at (i := 6) (by decide)).1
    have u6 := U1 (gW G 6) (kn _ (Or.inl k6)) (nb _ _ k6 (by decide))
    have ub := U1 ba (kn _ (Or.inr (Or.inl g2.1))) (nb _ _ g2.1 (by decide))
    have hlen : (s.E ++ pd.zip (vs.map scf)).length = s1.E.length := by rw [r4, List.length_append, List.length_append, List.length_zip, List.length_zip, List.length_map, List.length_map]
    refine ⟨⟨w0.mv Fn, tt', ⟨ba, ((u6.2.2.2.2.2 111).2.2).trans g1, ⟨ub.1.trans g2.1, g2.2.1, ub.2.1.trans g2.2.2⟩, ⟨g5.1, g5.2.1, by show (s.E ++ pd.zip (vs.map scf)).length ≤ _; rw [hlen]; exact g5.2.2⟩, by show _ = nI (s.E ++ pd.zip (vs.map scf)).length; rw [hlen]; exact ((u6.2.2.2.2.2 112).1).trans g8, fun i x hx => ?_⟩, fun a ha => (fx a ha).mv sA lm, bd.mv lm, fun x hx => ?_, pi.mv sA lm, ?_⟩, b2.ml lm, ⟨pa, b3'.ml lm⟩, b4.ml l sA r3.hD (by decide +kernel) (by decide +kernel) (by decide +kernel), b5, b6, b7.mv (s1 := (h', s1.M, s1.Pn, gnT s1.t V, m + 2, s.E ++ pd.zip (vs.map scf), s1.cap, s1.rc, s1.ws)) w0 Fn rfl⟩
    · have hx' : (s.E ++ pd.zip (vs.map scf))[i]? = some x := hx
      by_cases q : i < s.E.length
      · rw [List.getElem?_append_left q] at hx'
        obtain ⟨y1, -⟩ := g9 i x (by rw [r4, List.getElem?_append_left q]; exact hx')
        obtain ⟨ba0, -, -, -, -, h9⟩ := k.1.2.2.1
        refine ⟨by rw [ub.2.2.2.2.1]; exact y1, (h9 i x hx').2.mv F0 (fun t ht' e => ?_) ev⟩
        have hxE := List.mem_of_getElem? hx'
        have := k.bd.2.1 x.1 t (k.1.2.2.2.2.2.1 x hxE) (hf.2 t ht').1 e
        exact (hf.2 t ht').2.2 x hxE this
      · rw [List.getElem?_append_right (by omega)] at hx'
        obtain ⟨v, hv, hpv, ex2⟩ := gzip _ x hx'
        obtain ⟨y1, e1, e2, z, e3, e4, e5⟩ := g9 i (x.1, .var v) (by
          rw [r4, List.getElem?_append_right (by omega), List.getElem?_zip_eq_some]
          exact ⟨hpv, by rw [List.getElem?_map, hv]; rfl⟩)
        have ez : z = v := by
          rcases e5 with ⟨-, q2, -⟩ | ⟨-, q2, -⟩
          · cases q2; rfl
          · exact se_var q2
        have hpm := List.mem_of_getElem? hpv
        have hvm := List.mem_of_getElem? hv
        have ux3 := T13.1 (c.Z.1 x.1) (kn _ (Or.inr (Or.inr e1)))
        have uxf := TF.1 (c.Z.1 x.1) (kn _ (Or.inr (Or.inr e1)))
        have efI : ∀ g, g ≠ 128 → fI h' (c.Z.1 x.1) g = fI s1.h (c.Z.1 x.1) g := fun g hg => by rw [(uxf.2.2.2.2.2 g).1, (s128_fI _ _ _ _).1 hg, (ux3.2.2.2.2.2 g).1]
        refine ⟨by rw [ub.2.2.2.2.1]; exact y1, by rw [uxf.1, a1, ux3.1]; exact e1, by rw [efI 129 (by decide)]; exact e2, v, by rw [efI 127 (by decide), e3, ez], (hcv v hvm).lt, Or.inr ⟨by rw [(uxf.2.2.2.2.2 128).1]; exact s128_1 pd h3 x.1 hpm, by rw [ex2]; exact hscf v hvm, gen_fl2n sf kc g hvm (fun z hz => (fl1 z (g.2.1 z hz).1.2.1 (g.2.1 z hz).1.1).1 hz), ?_⟩⟩
        rw [ex2]
        obtain ⟨θ, hθ⟩ := (gsc _ v hv ρg hρg (ρg v)).mpr ⟨_, H1 ρg hρg, by rw [List.getElem?_map, hv]; rfl⟩
        have h1 := gzz_ins (θ := θ) (ρ := ρg) (scf v) false
        rw [← hθ] at h1
        exact Nat.le_trans h1 (hle v hvm)
    · have hx' : x ∈ s.E ++ pd.zip (vs.map scf) := hx
      rcases List.mem_append.mp hx' with w | w
      · exact gd x (by rw [r4]; exact List.mem_append_left _ w)
      · exact (hf.2 _ (hpd _ (List.of_mem_zip (show (x.1, x.2) ∈ _ from w)).1)).1
    · show ((s.E ++ pd.zip (vs.map scf)).map (·.1)).Nodup
      rw [List.map_append, List.map_fst_zip (by rw [hzl]; exact Nat.le_refl _)]
      exact nd
  have env : ∀ ρ, Sl s1.M s1.t ρ → gE (s.E ++ pd.zip (vs.map scf)) ρ = updS (gE s.E ρ) (gnS pd fun ν => ∃ u, Z (gE s.E ρ) u ν) := fun ρ hρ => by
    have nd' := List.nodup_append.mp nd
    rw [gE_aps pd (vs.map scf) s.E nd'.2.1 (fun t ht y hy e => nd'.2.2 y.1 (List.mem_map_of_mem hy) t ht e) hzl]
    congr 1
    refine List.ext_getElem? fun i => ?_
    unfold gnS
    rw [List.getElem?_map]
    by_cases q : i < pd.length
    · obtain ⟨v, hv⟩ : ∃ v, vs[i]? = some v := ⟨_, List.getElem?_eq_getElem (by omega)⟩
      rw [List.getElem?_range q, Option.map_some]
      refine List.getElem?_zip_eq_some.mpr ⟨?_, ?_⟩
      · rw [List.getD, List.getElem?_eq_getElem q]
        rfl
      · rw [List.getElem?_map, List.getElem?_map, hv]
        show some (sg (scf v) ρ) = _
        congr 1
        funext u
        refine propext ((gsc i v hv ρ hρ u).trans ⟨?_, ?_⟩)
        · rintro ⟨w, ⟨u1, ν, h1, rfl⟩, h2'⟩
          exact ⟨ν, ⟨u1, h1⟩, by rw [List.getElem?_map] at h2'; exact h2'⟩
        · rintro ⟨ν, ⟨u1, h1⟩, h2'⟩
          exact ⟨_, ⟨u1, ν, h1, rfl⟩, by rw [List.getElem?_map]; exact h2'⟩
    · rw [List.getElem?_eq_none (by rw [List.length_zip, List.length_map]; omega), List.getElem?_eq_none (by rw [List.length_range]; omega)]
      rfl
  obtain ⟨c1, c2, c3⟩ := r2.2.2.2.1
  refine ⟨(h', s1.M, s1.Pn, gnT s1.t V, m + 2, s.E ++ pd.zip (vs.map scf), s1.cap, s1.rc, s1.ws), rfl, rfl, rfl, by show pot h' s1.cap = _; unfold pot; rw [hun], ⟨F0, ⟨ev, by show s1.M ≤ _; omega, by show s1.Pn ≤ _; omega, by show m + 2 ≤ _; omega⟩, x2, ⟨_, rfl, fun x hx => hpd _ (List.of_mem_zip (show (x.1, x.2) ∈ _ from hx)).1⟩, r5, ⟨?_, ?_⟩, fun γ γ' ⟨⟨u, ν, h1⟩, _⟩ => (r7 γ u ν h1).1, fun ρ hρ => ⟨⟨_, _, r.sol (gn_sl.mp hρ)⟩, env ρ (gn_sl.mp hρ)⟩, ?_⟩, fun t ht => ?_, fun a ha => Fn.2.1 a (r3.2.2.2.2.2.2.1 a ha).1⟩
  · have : pot h' s1.cap = pot s1.h s1.cap := by unfold pot; rw [hun]
    show pot h' s1.cap ≤ _
    omega
  · show s1.ws.length ≤ _
    omega
  · rintro ρ hρ γ' ⟨⟨u, ν, h1⟩, rfl⟩
    obtain ⟨ρ', g1, g2, -⟩ := r2.2.2.2.2.2 ρ hρ _ ⟨u, ν, rfl, h1⟩
    refine ⟨ρ', gn_sl.mpr g1, g2, ?_⟩
    show gE (s.E ++ pd.zip (vs.map scf)) ρ' = _
    rw [env ρ' g1, k.ge g2]
  · obtain ⟨i, hi⟩ := List.getElem?_of_mem ht
    have hil := (List.getElem?_eq_some_iff.mp hi).1
    obtain ⟨v, hv⟩ : ∃ v, vs[i]? = some v := ⟨_, List.getElem?_eq_getElem (by omega)⟩
    refine ⟨scf v, List.mem_append_right _ (List.mem_of_getElem? (i := i) ?_)⟩
    rw [List.getElem?_zip_eq_some]
    exact ⟨hi, by rw [List.getElem?_map, hv]; rfl⟩
end
