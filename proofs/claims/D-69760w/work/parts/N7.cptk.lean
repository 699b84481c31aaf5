/-! THE COMPONENT'S TYPER: patterns with constructors -/
section
variable {G : Gh} {M Pn m M1 Pn1 m1 M2 Pn2 m2 b b' a c : Nat} {h h1 h2 : AH} {τ τ1 τ2 : Tb} {ts : List Nat} {S : (Nat → Tr) → List Tr → Prop} {s s2 : Tr}
theorem RsV.eqn2 (k : RsV G h M Pn τ m h1 M1 Pn1 τ1 m1 ts b S) (k2 : TT G h2 M1 Pn1 τ2 (m1 + 2)) (ev : Ev G h1 M1 τ1 h2 M1 τ2) (hs : ∀ ρ, Sl M1 τ2 ρ ↔ Sl M1 τ1 ρ ∧ ρ a = ρ c) (E : List Tr → Prop) (hE : ∀ ρ, Sl M1 τ1 ρ → (ρ a = ρ c ↔ E (ts.map ρ))) (hm : m1 + 2 ≤ m + 10 * b) : RsV G h M Pn τ m h2 M1 Pn1 τ2 (m1 + 2) ts b (fun ρ u => S ρ u ∧ E u) := by
  have r := k.eqn k2 ev hs (E := E) hE
  obtain ⟨q1, q2, q3, ⟨q4, q5, q6⟩, q7⟩ := r
  exact ⟨q1, q2, q3, ⟨k.2.2.2.1.1, k.2.2.2.1.2.1, hm⟩, q7⟩
theorem sOK_gv : ∀ n s, sOK G h n s → ∀ k, gV s k → ∃ j : Nat, k = j := by
  intro n
  induction n with
  | zero => intro s hs; exact hs.elim
  | succ n ih =>
    rintro s (⟨j, rfl, -⟩ | ⟨m, l, rfl, -, h2⟩) k hk
    · exact ⟨j, hk.symm⟩
    · obtain ⟨x, h3, h4⟩ := (gV_ls l k).mp hk
      exact ih x (h2 x h3) k h4
/-- a type was read -/
theorem RsV.rd1 (k0 : TT G h M Pn τ m) {t : Nat} {mv' : Nat → Option Nat} (g : TGr G h h1 M τ M1 Pn1 τ1 m) (ct : cln M1 τ1 t) (hl : (enc s).length ≤ 8 * b) (hb : M1 ≤ M + (enc s).length ∧ Pn1 ≤ Pn + (enc s).length) (hg : ∀ k, gV s k → ∃ j : Nat, k = j) (hm : ∀ k, gV s k → mv' k.toNat ≠ none) (val : ∀ ρ, Sl M1 τ1 ρ → ρ t = ins (fun k => ρ ((mv' k.toNat).getD 0)) (fun _ => gt 9 []) s) (ext : ∀ ρ, Sl M τ ρ → ∀ θ : Nat → Tr, (∀ k x, (fun _ => none : Nat → Option Nat) k = some x → ρ x = θ k) → ∃ ρ', Sl M1 τ1 ρ' ∧ (∀ x, x < M → ρ' x = ρ x) ∧ ∀ k x, mv' k = some x → ρ' x = θ k) : RsV G h M Pn τ m h1 M1 Pn1 τ1 m [t] b (fun _ u => ∃ θ, u = [gi θ s]) := by
  refine ⟨TGr.ev k0 g, g.2.1, fun x hx => by rw [(List.mem_cons.mp hx).resolve_right fun w => by cases w]; exact ct, ⟨by omega, by omega, by omega⟩, fun ρ hρ => ⟨_, by show [ρ t] = [_]; rw [val ρ hρ]; rfl⟩, fun ρ hρ u hu => ?_⟩
  obtain ⟨θ, rfl⟩ := hu
  obtain ⟨ρ', e1, e2, e3⟩ := ext ρ hρ (fun n => θ n) (fun k x hx => (by cases hx))
  refine ⟨ρ', e1, e2, ?_⟩
  show [ρ' t] = _
  rw [val ρ' e1]
  congr 1
  refine ins_ck s fun k hk => ?_
  obtain ⟨j, rfl⟩ := hg k hk
  cases e : mv' (j : Int).toNat with
  | none => exact absurd e (hm _ hk)
  | some y =>
    show ρ' ((some y).getD 0) = _
    rw [Int.toNat_natCast] at e
    exact e3 j y e
/-- and another one, with the same variables -/
theorem RsV.rd2 (k0 : TT G h M Pn τ m) {t t2 : Nat} {mv' mv2 : Nat → Option Nat} (g : TGr G h h1 M τ M1 Pn1 τ1 m) (ct : cln M1 τ1 t) (hb : M1 ≤ M + (enc s).length ∧ Pn1 ≤ Pn + (enc s).length) (hg : ∀ k, gV s k → ∃ j : Nat, k = j) (hm : ∀ k, gV s k → mv' k.toNat ≠ none) (val : ∀ ρ, Sl M1 τ1 ρ → ρ t = ins (fun k => ρ ((mv' k.toNat).getD 0)) (fun _ => gt 9 []) s) (ext : ∀ ρ, Sl M τ ρ → ∀ θ : Nat → Tr, (∀ k x, (fun _ => none : Nat → Option Nat) k = some x → ρ x = θ k) → ∃ ρ', Sl M1 τ1 ρ' ∧ (∀ x, x < M → ρ' x = ρ x) ∧ ∀ k x, mv' k = some x → ρ' x = θ k)
    (g2 : TGr G h1 h2 M1 τ1 M2 Pn2 τ2 m) (ct2 : cln M2 τ2 t2) (hl : (enc s).length + (enc s2).length ≤ 8 * b) (hb2 : M2 ≤ M1 + (enc s2).length ∧ Pn2 ≤ Pn1 + (enc s2).length) (hg2 : ∀ k, gV s2 k → ∃ j : Nat, k = j) (hm2 : ∀ k, gV s2 k → mv2 k.toNat ≠ none) (hx : ∀ k x, mv' k = some x → mv2 k = some x) (val2 : ∀ ρ, Sl M2 τ2 ρ → ρ t2 = ins (fun k => ρ ((mv2 k.toNat).getD 0)) (fun _ => gt 9 []) s2) (ext2 : ∀ ρ, Sl M1 τ1 ρ → ∀ θ : Nat → Tr, (∀ k x, mv' k = some x → ρ x = θ k) → ∃ ρ', Sl M2 τ2 ρ' ∧ (∀ x, x < M1 → ρ' x = ρ x) ∧ ∀ k x, mv2 k = some x → ρ' x = θ k) : RsV G h M Pn τ m h2 M2 Pn2 τ2 m [t, t2] b (fun _ u => ∃ θ, u = [gi θ s, gi θ s2]) := by
  have ev2 := TGr.ev g.2.1 g2
  have htM := ct.lt
  refine ⟨(TGr.ev k0 g).tr ev2, g2.2.1, fun x hx => ?_, ⟨by omega, by omega, by omega⟩, fun ρ hρ => ⟨fun k => ρ ((mv2 k.toNat).getD 0), ?_⟩, fun ρ hρ u hu => ?_⟩
  · simp only [List.mem_cons, List.not_mem_nil, or_false] at hx
    rcases hx with e | e
    · rw [e]; exact ev2.2.2.1 t ct
    · rw [e]; exact ct2
  · show [ρ t, ρ t2] = _
    rw [val2 ρ hρ, val ρ (ev2.2.1 ρ hρ)]
    congr 1
    refine ins_ck s fun k hk => ?_
    cases e : mv' k.toNat with
    | none => exact absurd e (hm k hk)
    | some y => rw [hx _ y e]
  · obtain ⟨θ, rfl⟩ := hu
    obtain ⟨ρ1, e1, e2, e3⟩ := ext ρ hρ (fun n => θ n) (fun k x hx => (by cases hx))
    obtain ⟨ρ2, f1, f2, f3⟩ := ext2 ρ1 e1 (fun n => θ n) e3
    refine ⟨ρ2, f1, fun x hx => by rw [f2 x (Nat.lt_of_lt_of_le hx g.2.2.1.1), e2 x hx], ?_⟩
    show [ρ2 t, ρ2 t2] = _
    rw [f2 t htM, val ρ1 e1, val2 ρ2 f1]
    have w1 : ins (fun k => ρ1 ((mv' k.toNat).getD 0)) (fun _ => gt 9 []) s = gi θ s := by
      refine ins_ck s fun k hk => ?_
      obtain ⟨j, rfl⟩ := hg k hk
      cases e : mv' (j : Int).toNat with
      | none => exact absurd e (hm _ hk)
      | some y =>
        show ρ1 ((some y).getD 0) = _
        rw [Int.toNat_natCast] at e
        exact e3 j y e
    have w2 : ins (fun k => ρ2 ((mv2 k.toNat).getD 0)) (fun _ => gt 9 []) s2 = gi θ s2 := by
      refine ins_ck s2 fun k hk => ?_
      obtain ⟨j, rfl⟩ := hg2 k hk
      cases e : mv2 (j : Int).toNat with
      | none => exact absurd e (hm2 _ hk)
      | some y =>
        show ρ2 ((some y).getD 0) = _
        rw [Int.toNat_natCast] at e
        exact f3 j y e
    rw [w1, w2]
end
section
variable {G : Gh} {W : Nat → Prop} {ts : List (Nat × Nat × Nat)} {O : List (Nat × Nat) × List (Nat × Nat)} {Z : Zt} {D : Dm} {d n N rc M M' Pn Pn' m m' t c cap q lo hi : Nat} {Ct : Ctb} {Dt : Dtb} {kn : Nat → TS} {h h1 h2 h' : AH} {τ τ' : Tb} {s x y : Tr} {Γ : List (Nat × Tr)}
theorem WrR.har {ar : Nat} (w : WrR G h ar s) (sA : SoA G h) : ∀ i, i ∈ TyC → ar ≠ gW G i := fun i hi e => (FIx.row w.1.1 w.2.1 w.1.2 sA).2.2.1 i (List.mem_append_left _ hi) e
/-- a constructor in a pattern -/
theorem pt_con (hP : PtI G W ts O Z D N Ct Dt kn rc n (d + 70)) (hc : c < rc) (hy : (y = .num 0 ∧ cH N Ct c = none) ∨ ((cH N Ct c).isSome = true ∧ sPt N Ct rc n y)) (hT : TR lo hi (n2 33 t (.num c) y)) (hhi : hi ≤ ts.length) (ot : OTG (XA ts W O Z D h) W h (n2 33 t (.num c) y) 0 0 q) (k : ISt G W ts O Z D N Ct Dt kn rc h M Pn τ m Γ cap) (hb : Bud M Pn m h cap Γ.length (2 * nw (n2 33 t (.num c) y))) (hf : Frs h Z D Γ (pNm (n + 1) (n2 33 t (.num c) y))) : C G mX20_infer (d + 71) [.ref q, .ref (gW G 6)] h (PtQ G W ts O Z D N Ct Dt kn rc h M Pn τ m Γ cap (fun x => x ∈ pNm (n + 1) (n2 33 t (.num c) y)) (2 * nw (n2 33 t (.num c) y) - 1) (pNm (n + 1) (n2 33 t (.num c) y)) (tPa N Ct Dt (n + 1) (n2 33 t (.num c) y))) ∧ hK h q = 19 := by
  obtain ⟨hWq, hkq, ⟨-, an⟩, oy⟩ := (OTG_nd (k := 33) (by decide)).mp ot
  have hk : hK h q = 19 := by simpa [kc] using hkq
  rw [OTG_c2 (by decide) (by decide)] at oy
  have oy5 := (OTG_ef (m' := 5) (i' := 303) (by decide) (by decide)).mp oy.2
  refine ⟨?_, hk⟩
  have sA := k.1.1.1
  have hD := k.1.1.2
  have w := k.1
  obtain ⟨id', w', ez, hid⟩ := (an _ _ rfl).2.2.2.1 rfl
  cases ez
  obtain ⟨hcD, hr304⟩ := hid (by omega)
  rw [Int.toNat_natCast] at hcD hr304
  obtain ⟨hcl, ⟨arG, rG, wG⟩, hH⟩ := w.2.2.2.2.2.1 c hc
  obtain ⟨cx, hcx⟩ : ∃ x, Ct[c]? = some x := ⟨_, List.getElem?_eq_getElem hcl⟩
  have hk54 := (w.2.2.2.2.1 c cx hcx).1
  obtain ⟨u1, u2, u3, u4, u5⟩ := id hb
  have ew : nw (n2 33 t (.num c) y) = nw y + 10 := by show 0 + (0 + nw y) + 10 = _; omega
  rw [ew] at u1 u2 u3 u4
  have ep : pNm (n + 1) (n2 33 t (.num c) y) = if isN y = true then [] else pNm n y := rfl
  have el : tPa N Ct Dt (n + 1) (n2 33 t (.num c) y) = (if isN y = true then .ok fun τ ν => ν = [] ∧ ∃ θ, τ = gi θ (cG Ct Dt (c : Int).toNat) else bE (tPa N Ct Dt n y) fun P => eqE (tkN y) (∃ θ ν, P (gi θ ((cH N Ct (c : Int).toNat).getD (.num 0))) ν) fun τ ν => ∃ θ, τ = gi θ (cG Ct Dt (c : Int).toNat) ∧ P (gi θ ((cH N Ct (c : Int).toNat).getD (.num 0))) ν) := rfl
  rw [Int.toNat_natCast] at el
  rw [ep] at hf
  rw [ep, el, ew]
  have lG := wG.2.2.2.1
  refine bX20_infer G (d + 70) h _ _ (sA.at (by decide)) (sA.at (by decide)) ⟨hk, fun z => (by rw [hr304] at z; cases z), fun b2 z => ?_⟩
  cases hr304.symm.trans z
  refine ⟨hk54, arG, rG, C.use (o_read (n := 64) hD (wG.har sA) k.2.1 wG.2.2.2.2.2 (by omega) w.2.2.1 wG.1.1 (by rw [wG.2.2.1]; exact Nat.le_refl _) (by rw [wG.2.2.1]; omega) wG.2.2.2.2.1 (by omega) (by omega)) (by decide) ?_⟩
  rintro _ h7 ⟨t1, M1, Pn1, τ1, mv1, rfl, g1, ct1, ⟨bd1, bd2⟩, ⟨md1, cm1, -, gv1⟩, val1, ext1⟩ l7 -
  have lm7 : Lm (gW G) MI h h7 none := l7.weak (by decide +kernel)
  have F7 : ∀ {B : Nat → Prop}, FIn G Z B rc Ct.length h h7 := g1.1.fin sA lm7
  have s7 := k.mt g1.1 lm7 g1.2.1 (TGr.ev k.2.1 g1)
  have uq7 := (F7 (B := fun _ => False)).2.1 q (k.2.2.2.1 q hWq)
  have gvG := sOK_gv (G := G) (h := h) 64 _ wG.2.2.2.2.2
  refine KI.i ⟨fun z303 => ?_, fun b10 z303 => ?_⟩
  · -- without anything
    have h303 : fR h q 303 = none := by rw [← (uq7.2.2.2.2.2 303).2.2]; exact z303
    have hy0 : y = .num 0 := by
      rcases OTG_5.mp oy5 with ⟨e, -⟩ | ⟨b, e, -⟩
      · exact e
      · rw [h303] at e; cases e
    rw [hy0, if_pos (by rfl), if_pos (by rfl)]
    refine ⟨F7, t1, [], M1, Pn1, τ1, m, cap, rfl, rfl, ?_, by rw [List.zip_nil_left, List.append_nil]; exact s7, by unfold pot; rw [g1.1.2.1]; omega⟩
    refine (RsV.rd1 (b := 8) k.2.1 g1 ct1 (by omega) ⟨bd1, bd2⟩ gvG gv1 val1 ext1 |>.wk (by omega)).imp fun ρ hρ u => ⟨?_, ?_⟩
    · rintro ⟨θ, rfl⟩
      exact ⟨_, [], rfl, rfl, rfl, θ, rfl⟩
    · rintro ⟨v, ν, rfl, -, rfl, θ, rfl⟩
      exact ⟨θ, rfl⟩
  · have h303 : fR h q 303 = some b10 := by rw [← (uq7.2.2.2.2.2 303).2.2]; exact z303
    obtain ⟨oyb, hyN⟩ : OTG (XA ts W O Z D h) W h y 0 0 b10 ∧ ((cH N Ct c).isSome = true ∧ sPt N Ct rc n y) := by
      rcases OTG_5.mp oy5 with ⟨-, e⟩ | ⟨b, e, o⟩
      · rw [h303] at e; cases e
      · cases h303.symm.trans e
        refine ⟨o, hy.resolve_left fun z => ?_⟩
        obtain ⟨kk, zz, e2⟩ := OTG_0 o
        rw [z.1] at e2
        cases e2
    have isn : isN y = false := by
      obtain ⟨kk, zz, e2⟩ := OTG_0 oyb
      rw [e2]; rfl
    rw [isn, if_neg (by decide), if_neg (by decide)]
    rw [isn, if_neg (by decide)] at hf
    obtain ⟨sH, esH⟩ := Option.isSome_iff_exists.mp hyN.1
    obtain ⟨arH, rH, wH⟩ := hH sH esH
    have lH := wH.2.2.2.1
    have w7 := s7.1
    obtain ⟨-, -, hH7⟩ := w7.2.2.2.2.2.1 c hc
    obtain ⟨arH7, rH7, wH7⟩ := hH7 sH esH
    have hT2 : TR lo hi y := hT.2.2.2.2
    refine ⟨fun z => (by rw [(uq7.2.2.2.2.2 304).2.2, hr304] at z; cases z), fun b12 z12 => ?_⟩
    rw [(uq7.2.2.2.2.2 304).2.2, hr304] at z12
    cases z12
    refine ⟨((lm7.1.2 _ (by rw [hk54]; decide)).1).trans hk54, arH7, rH7, C.use (o_readOn (n := 64) hD (wH7.har w7.1.1) s7.2.1 wH7.2.2.2.2.2 (by omega) w7.2.2.1 wH7.1.1 (by rw [wH7.2.2.1]; exact Nat.le_refl _) (by rw [wH7.2.2.1]; omega) wH7.2.2.2.2.1 md1 cm1 (by omega) (by omega)) (by decide) ?_⟩
    rintro _ h17 ⟨t2, M2, Pn2, τ2, mv2, rfl, g2, ct2, ⟨bd3, bd4⟩, ⟨md2, cm2, hx2, gv2⟩, val2, ext2⟩ l17 -
    have lm17 : Lm (gW G) MI h7 h17 none := l17.weak (by decide +kernel)
    have F17 : ∀ {B : Nat → Prop}, FIn G Z B rc Ct.length h h17 := FIn.tr sA F7 (g2.1.fin w7.1.1 lm17)
    have s17 := s7.mt g2.1 lm17 g2.2.1 (TGr.ev s7.2.1 g2)
    have uq17 := (F17 (B := fun _ => False)).2.1 q (k.2.2.2.1 q hWq)
    have gvH := sOK_gv (G := G) (h := h) 64 _ wH.2.2.2.2.2
    have r2 := RsV.rd2 (b := 16) k.2.1 g1 ct1 ⟨bd1, bd2⟩ gvG gv1 val1 ext1 g2 ct2 (by omega) ⟨bd3, bd4⟩ gvH gv2 hx2 val2 ext2
    refine KI.i ⟨fun z => (by rw [(uq17.2.2.2.2.2 303).2.2, h303] at z; cases z), fun b20 z20 => ?_⟩
    rw [(uq17.2.2.2.2.2 303).2.2, h303] at z20
    cases z20
    have ny := sPt_nw n y hyN.2
    have un17 : un h17 = un h := by rw [g2.1.2.1, g1.1.2.1]
    have p17 : pot h17 cap = pot h cap := by unfold pot; rw [un17]
    have hb2 : Bud M Pn m h cap Γ.length (16 + 2 * nw y) := ⟨by omega, by omega, by omega, by omega, by omega⟩
    obtain ⟨kk, ν, v1, v2, v3⟩ := hP y b10 lo hi h17 M2 Pn2 τ2 m Γ cap hyN.2 hT2 hhi (k.ot (F17 (B := fun _ => False)) hT2 oyb) s17 (Bud.nx hb2 r2 (by omega) (by omega)) ⟨hf.1, fun t' ht' => by
      obtain ⟨f1, f2, f3⟩ := hf.2 t' ht'
      exact ⟨f1, by rw [((F17 (B := fun _ => False)).2.2.2.1 (Z.1 t') (k.2.2.2.2.1.1 t' f1).1 fun _ w => w.elim).2]; exact f2, f3⟩⟩
    refine ⟨kk, ν, v1, v2, C.mono v3 ?_⟩
    rintro o h22 ⟨F22, q22⟩
    have F022 : FIn G Z (fun x => x ∈ pNm n y) rc Ct.length h h22 := FIn.tr sA F17 F22
    cases hr : tPa N Ct Dt n y with
    | error f =>
      rw [hr] at q22
      obtain ⟨e, rfl, q2, q3⟩ := q22
      exact KI.t ⟨F022, e, rfl, q2, by omega⟩
    | ok P =>
      rw [hr] at q22
      obtain ⟨t3, us, M3, Pn3, τ3, m3, cap3, rfl, hl3, r3, s3, p3⟩ := q22
      have rr := r2.seq0 r3
      obtain ⟨-, -, -, ⟨bq1, bq2, bq3⟩, -⟩ := id rr
      obtain ⟨-, -, -, ⟨-, -, bm3⟩, -⟩ := id r3
      have uq22 := F022.2.1 q (k.2.2.2.1 q hWq)
      obtain ⟨hF, hT302⟩ := pt_tok hyN.2 (k.ot F022 hT2 oyb)
      have htk := TR.tk hT2 (OTG_0 oyb)
      have c2 : cln M3 τ3 t2 := rr.2.2.1 t2 (List.mem_append_left _ (List.mem_cons_of_mem _ (List.mem_cons_self ..)))
      have c3 : cln M3 τ3 t3 := rr.2.2.1 t3 (List.mem_append_right _ (List.mem_cons_self ..))
      have hpot : un h22 ≤ pot h22 cap3 := by unfold pot; omega
      refine KI.i ⟨fun z => (by rw [(uq22.2.2.2.2.2 303).2.2, h303] at z; cases z), fun b25 z25 => ?_⟩
      rw [(uq22.2.2.2.2.2 303).2.2, h303] at z25
      cases z25
      refine ⟨hF, ?_⟩
      rw [hT302]
      refine C.mono (c_ysm (d := d + 64) (nC := Ct.length) s3.1 s3.2.1 (by omega) (by omega) c3 c2 (by omega) (by omega)) ?_
      have hE : ∀ ρ : Nat → Tr, Sl M3 τ3 ρ → (ρ t3 = ρ t2 ↔ (fun u : List Tr => u[2]? = u[1]?) (([t1, t2] ++ t3 :: us).map ρ)) := fun ρ _ => by
        show _ ↔ some (ρ t3) = some (ρ t2)
        exact ⟨fun e => by rw [e], fun e => Option.some.inj e⟩
      have can := rr.can (a := t3) (c := t2) (E := fun u => u[2]? = u[1]?) hE
      have gd : (cH N Ct c).getD (.num 0) = sH := by rw [esH]; rfl
      rw [gd]
      have law : (∃ ρ, Sl M3 τ3 ρ ∧ ρ t3 = ρ t2) ↔ ∃ θ ν, P (gi θ sH) ν := by
        rw [can]
        constructor
        · rintro ⟨ρ, u, -, ⟨w1, w2, rfl, ⟨θ, rfl⟩, ⟨v, ν, rfl, g3, g4⟩⟩, he⟩
          have he' : some v = some (gi θ sH) := he
          rw [Option.some.inj he'] at g4
          exact ⟨θ, ν, g4⟩
        · rintro ⟨θ, ν, g4⟩
          obtain ⟨ρ, hρ⟩ := k.2.1.sol
          exact ⟨ρ, _, hρ, ⟨_, _, rfl, ⟨θ, rfl⟩, ⟨gi θ sH, ν, rfl, tPa_nm n y hyN.2 P hr _ _ g4, g4⟩⟩, rfl⟩
      rintro o h28 ⟨F28, q28⟩
      have F028 : FIn G Z (fun x => x ∈ pNm n y) rc Ct.length h h28 := FIn.tr sA F022 (F28.wk fun _ w => w.elim)
      rcases q28 with ⟨ex, rfl, T28, τ4, k4, ev4, hs4⟩ | ⟨no, e, rfl, ft, hu⟩
      · refine KV.i ?_
        show PtQ G W ts O Z D N Ct Dt kn rc h M Pn τ m Γ cap _ _ _ (eqE (tkN y) (∃ θ ν, P (gi θ sH) ν) fun τ ν => ∃ θ, τ = gi θ (cG Ct Dt c) ∧ P (gi θ sH) ν) _ _
        unfold eqE
        rw [tIf_pos (law.mp ex)]
        have r4 := rr.eqn2 k4 ev4 hs4 (fun u => u[2]? = u[1]?) hE (by omega)
        have r5 := r4.prj (ts' := t1 :: us) (fun u => u.take 1 ++ u.drop 3) (fun x hx => r4.2.2.1 x (by
          rcases List.mem_cons.mp hx with e | e
          · rw [e]; exact List.mem_cons_self ..
          · exact List.mem_append_right _ (List.mem_cons_of_mem _ e))) (fun ρ _ => rfl)
        refine ⟨F028, t1, us, M3, Pn3, τ4, m3 + 2, cap3, rfl, hl3, ?_, s3.mt T28 F28.1 k4 ev4, ?_⟩
        · refine (r5.wk (by omega)).imp fun ρ hρ u => ⟨?_, ?_⟩
          · rintro ⟨v, ⟨⟨w1, w2, rfl, ⟨θ, rfl⟩, ⟨v', ν, rfl, g3, g4⟩⟩, he⟩, rfl⟩
            have he' : some v' = some (gi θ sH) := he
            rw [Option.some.inj he'] at g4
            exact ⟨gi θ (cG Ct Dt c), ν, rfl, g3, θ, rfl, g4⟩
          · rintro ⟨v, ν, rfl, g3, θ, rfl, g4⟩
            exact ⟨_, ⟨⟨_, _, rfl, ⟨θ, rfl⟩, ⟨gi θ sH, ν, rfl, g3, g4⟩⟩, rfl⟩, rfl⟩
        · have : pot h28 cap3 = pot h22 cap3 := by unfold pot; rw [T28.2.1]
          omega
      · show KV (PtQ G W ts O Z D N Ct Dt kn rc h M Pn τ m Γ cap _ _ _ (eqE (tkN y) (∃ θ ν, P (gi θ sH) ν) _)) _ _ _
        unfold eqE
        rw [tIf_neg fun w => (law.mpr w).elim fun ρ hρ => no ρ hρ.1 hρ.2]
        exact KV.t ⟨F028, e, rfl, ft, by omega⟩
end
