/-! THE COMPONENT'S TYPER: names that are declared, whole -/
/-- what is left when names became general -/
def RwG (G : Gh) (c : Cx) (s1 : Sx) (E0 : List (Nat × Tr)) (vs pd : List Nat) (h' : AH) : Prop := ∃ (fs rt dp : Nat → Nat) (m : Nat) (h2 : AH) (V : List Nat), s1.m = m ∧ (TyS G s1.h s1.M s1.Pn s1.t fs ∧ SF s1.M s1.t rt dp ∧ MK G s1.h s1.M m ∧ pS (uP s1.t) s1.M ≤ s1.Pn ∧ FLs G s1.h s1.M s1.t ∧ B3 s1.M s1.t) ∧ T78 G s1.h h2 s1.M s1.Pn s1.t fs rt (m + 1) (E0.map fun y => ndT c s1.h y.1) ∧ ∃ h3, (FTy G h2 h3 ∧ ∀ i j, aI h3 i j = aI h2 i j) ∧ GI G (s128 c h3 pd) h' s1.M s1.Pn s1.t fs rt (m + 1) (m + 2) V [] ∧ fI h' (gW G 2) 38 = nI (m + 2) ∧ (∀ v, v ∈ vs → rt v ∈ V ∨ mkd G h3 (m + 1) (rt v)) ∧ ∀ K : Nat → Prop, KC s1.M s1.t K → (∀ v, v ∈ vs → K v) → ∀ z, z ∈ V → K z
section
variable {G : Gh} {c : Cx} {P : Nat → Prop} {s1 : Sx} {tok D : Nat} {E0 : List (Nat × Tr)} {vs pd : List Nat} {Q : Outcome → AH → Prop}
theorem c_decl0 (k : XS G c P s1) (hE : s1.E = E0 ++ pd.zip (vs.map fun x => Int.Internal.Linear.Expr.var x)) (hl : vs.length = pd.length) (hcv : ∀ v, v ∈ vs → cln s1.M s1.t v) (ht : tok < c.ts.length) (hu : un s1.h + 24 ≤ UB) (hm : s1.m + 2 < 2147483648) (hD5 : 70 ≤ D)
    (hft : ∀ (i v : Nat), vs[i]? = some v → (∀ ρ, Sl s1.M s1.t ρ → 60 < gsz (ρ v)) → ∀ q h', FIe G c.Z (fun _ => False) s1.rc c.Ct.length s1.h h' → FtA h' c.ts q 6 tok → un h' = un s1.h + 24 → Q (.threw q) h')
    (hgo : ∀ ρ h', Sl s1.M s1.t ρ → (∀ v, v ∈ vs → gsz (ρ v) ≤ 60) → RwG G c s1 E0 vs pd h' → Q (.returned none) h') :
    C G mX11_declared (D + 1) [.ref (gW G 6), .int (nI E0.length), .int (nI tok), .int 1] s1.h Q := by
  refine c_dec3 k hE hl ht hu hD5 hft fun ρ hρ hle => ⟨fun z => absurd z (by decide), fun _ => ?_⟩
  obtain ⟨fs, rt, dp, ty, nm, sf, mk, hp, fl, b3⟩ := k.tt
  obtain ⟨sz, hz, hz1, ρ0, hρ0, -, hz2⟩ := sf.szx ty.kc
  obtain ⟨km, k1, k2⟩ := sf.kmx
  refine C.mono (c_mk ty mk) ?_
  rintro _ h1 ⟨rfl, ty1, T1, e38, ar1⟩
  refine KI.i ?_
  have mkE : ∀ z, z < s1.M → ∀ j, s1.m < j → j < 2147483648 → ¬ mkd G s1.h j z := fun z hz' j hj hj2 e => by
    obtain ⟨j', hj', e'⟩ := mk.2 z hz'
    unfold mkd at e
    rw [e'] at e
    have := (nI_eq (by omega) (by omega)).mp e
    omega
  refine dec_78 (fs := fs) (rt := rt) (dp := dp) (m := s1.m) k hE nm sf.1 (by omega) hD5 ?_ (E0.length + 1) 0 h1 (by omega) (by omega) ⟨⟨ty1, T1, e38⟩, fun z => ar1 _ _, fun z => Or.inr (ar1 _ _), fun x hx => (by cases hx), fun z hz' e => absurd (by unfold mkd at e ⊢; rw [← ar1]; exact e) (mkE z hz' (s1.m + 1) (by omega) (by omega)), fun K hK _ z hz' e => absurd (by unfold mkd at e ⊢; rw [← ar1]; exact e) (mkE z hz' (s1.m + 1) (by omega) (by omega))⟩
  intro h2 T
  obtain ⟨⟨ty2, T2, e382⟩, t2, t3, t4, t5, t6⟩ := id T
  have mk2 : MK G h2 s1.M (s1.m + 1) := ⟨e382, fun z hz' => by
    rcases t3 z with w | w
    · exact ⟨s1.m + 1, Nat.le_refl _, w⟩
    · obtain ⟨j, hj, e⟩ := mk.2 z hz'
      exact ⟨j, by omega, w.trans e⟩⟩
  refine C.mono (c_mk ty2 mk2) ?_
  rintro _ h3 ⟨rfl, ty3, T3, e383, ar3⟩
  refine KI.i ?_
  have nm3 : NmS G h3 s1.M s1.t := (nm.mv T2 k.sA k.hD).mv T3 ty2.1 k.hD
  have mk3 : ∀ j z, mkd G h3 j z ↔ mkd G h2 j z := fun j z => by unfold mkd; rw [ar3]
  have := dec_121 (m1 := s1.m + 1) (m2 := s1.m + 2) (fs := fs) (Q := Q) k hE hl (T2.tr T3) sf ty.kc fl.2 hz k1 k2 (fun z hz' e p hp => (mk3 _ _).mpr (t5 z hz' ((mk3 _ _).mp e) p hp)) (fun z hz' e => by
    obtain ⟨j, hj, e'⟩ := mk2.2 z hz'
    have e := (mk3 _ _).mp e
    unfold mkd at e
    rw [e'] at e
    have := (nI_eq (by omega) (by omega)).mp e
    omega) (fun x hx hn e => fl.1 x hx hn (by rw [← t2, ← ar3]; exact e)) (by omega) (by omega) (fun v hv => ⟨hcv v hv, by have := hz1 ρ hρ v (hcv v hv).lt; have := hle v hv; omega⟩) hD5 (fun h V I e38 hdn hmn => hgo ρ h hρ hle ⟨fs, rt, dp, s1.m, h2, V, rfl, ⟨ty, sf, mk, hp, fl, b3⟩, T, h3, ⟨T3, ar3⟩, I, e38, hdn, hmn⟩) (vs.length + 1) 0 h3 [] (by omega) (by omega) (by
      show GI G h3 h3 _ _ _ _ _ _ _ [] []
      refine ⟨⟨by rw [gn_nil]; exact ty3, by rw [gn_nil]; exact nm3, FTy.rf⟩, fun z _ => by rw [if_neg fun w => w.elim (fun w => (by cases w)) fun w => by cases w], fun z _ _ => ⟨fun w => (by cases w), fun _ => rfl⟩, fun z w => (by cases w)⟩) e383 (fun v hv => (by cases hv)) (fun K _ _ z w => (by cases w))
  rw [Nat.add_zero] at this
  exact this
end
