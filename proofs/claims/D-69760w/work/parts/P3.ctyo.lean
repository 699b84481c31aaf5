/-! THE COMPONENT'S TYPER: the type of a name -/
/-- a type was found: its values at each solution -/
def TpQ (G : Gh) (h : AH) (M Pn : Nat) (τ : Tb) (m : Nat) (S : (Nat → Tr) → Tr → Prop) : Outcome → AH → Prop := fun o h' => ∃ t M' Pn' τ' m', o = .returned (some (.int (nI t))) ∧ FTy G h h' ∧ RsV G h M Pn τ m h' M' Pn' τ' m' [t] 8 (fun ρ u => ∃ v, u = [v] ∧ S ρ v)
section
variable {G : Gh} {W : Nat → Prop} {ts : List (Nat × Nat × Nat)} {O : List (Nat × Nat) × List (Nat × Nat)} {Z : Zt} {D : Dm} {d N rc M Pn m b t cap v : Nat} {Ct : Ctb} {Dt : Dtb} {kn : Nat → TS} {h : AH} {τ : Tb} {Γ : List (Nat × Tr)} {s s' : Tr}
theorem EnE.un (k0 : TT G h M Pn τ m) (e : EnE G h M τ b s) (e' : EnE G h M τ b s') : s = s' := by
  have kc := k0.kc
  obtain ⟨fs, rt, dp, k1, nm, sf, mk, hp, fl, b3⟩ := k0
  have hM : M ≤ 150000 := k1.2.2.2.1
  obtain ⟨-, -, x, x1, x2, x3⟩ := e
  obtain ⟨-, -, y, y1, y2, y3⟩ := e'
  have exy : x = y := (nI_eq (by omega) (by omega)).mp (x1.symm.trans y1)
  rw [← exy] at y3
  rcases x3 with ⟨a1, a2, -⟩ | ⟨a1, a2, -⟩ <;> rcases y3 with ⟨c1, c2, -⟩ | ⟨c1, c2, -⟩
  · rw [a2, c2]
  · rw [a1] at c1; exact absurd c1 (by decide)
  · rw [a1] at c1; exact absurd c1 (by decide)
  · obtain ⟨f, hf⟩ := a2.use sf.1 kc
    obtain ⟨f', hf'⟩ := c2.use sf.1 kc
    rw [← hf (max f f') (Nat.le_max_left ..), ← hf' (max f f') (Nat.le_max_right ..)]
/-- a name in sight -/
theorem c_tyo (k : ISt G W ts O Z D N Ct Dt kn rc h M Pn τ m Γ cap) (hx : (t, s) ∈ Γ) (hb : Bud M Pn m h cap Γ.length 8) : C G mX11_typeOf (d + 70) [.ref (gW G 6), .ref (Z.1 t)] h (TpQ G h M Pn τ m fun ρ => gE Γ ρ t) := by
  have sA := k.1.1.1
  have hD := k.1.1.2
  obtain ⟨ba, -, -, -, -, en⟩ := k.2.2.1
  have at' : ∀ s', (t, s') ∈ Γ → EnE G h M τ (Z.1 t) s' := fun s' hs' => by
    obtain ⟨i, hi⟩ := List.getElem?_of_mem hs'
    exact (en i _ hi).2
  have e := at' s hx
  have hg : ∀ ρ u, gE Γ ρ t u ↔ sg s ρ u := fun ρ u => ⟨fun ⟨s', h1, h2⟩ => by rw [e.un k.2.1 (at' s' h1)]; exact h2, fun h2 => ⟨s, hx, h2⟩⟩
  obtain ⟨u1, u2, u3, u4, u5⟩ := hb
  obtain ⟨e1, e2, x, e3, e4, e5⟩ := e
  refine bX11_typeOf G (d + 69) h _ _ (sA.at (by decide)) (sA.at (by decide)) ⟨e1, fun _ => ⟨fun h0 => ?_, fun h0 => ?_⟩, fun z => absurd (show (0 : Int32) ≤ _ by rw [Int32.le_iff_toInt_le]; exact e2) z⟩
  · rcases e5 with ⟨-, rfl, c⟩ | ⟨a, -⟩
    · refine ⟨x, M, Pn, τ, m, by rw [e3], FTy.rf, ?_⟩
      refine ⟨Ev.rf, k.2.1, fun y hy => by rw [(List.mem_cons.mp hy).resolve_right fun w => by cases w]; exact c, ⟨by omega, by omega, by omega⟩, fun ρ hρ => ⟨ρ x, rfl, (hg ρ _).mpr (by rw [sg_var])⟩, fun ρ hρ u hu => ⟨ρ, hρ, fun _ _ => rfl, ?_⟩⟩
      obtain ⟨w, rfl, w2⟩ := hu
      have w3 := (hg ρ w).mp w2
      rw [sg_var] at w3
      show [ρ x] = [w]
      rw [w3]
    · rw [h0] at a; exact absurd a (by decide)
  · rcases e5 with ⟨a, -⟩ | ⟨-, se, f2, sz⟩
    · exact absurd a h0
    · refine C.mono (o_cpd (D := d + 69) hD k.2.1 (by omega) se f2 (by omega) (by omega) (by omega)) ?_
      rintro _ h4 ⟨rfl, c⟩
      refine KI.i ?_
      rw [e3]
      refine C.mono c ?_
      rintro _ h7 ⟨t', rfl, M', Pn', τ', m', ⟨ev, T⟩, tt, cl, ⟨b1, b2, b3⟩, r1, r2⟩
      refine KI.i ⟨t', M', Pn', τ', m', rfl, T, ev, tt, cl, ⟨by omega, by omega, by omega⟩, fun ρ hρ => ?_, fun ρ hρ u hu => ?_⟩
      · obtain ⟨w, w1, w2⟩ := r1 ρ hρ
        exact ⟨w, w1, (hg ρ w).mpr w2⟩
      · obtain ⟨w, w1, w2⟩ := hu
        exact r2 ρ hρ u ⟨w, w1, (hg ρ w).mp w2⟩
/-- a name of the session -/
theorem c_tyo2 {B : Nat} (k : ISt G W ts O Z D N Ct Dt kn rc h M Pn τ m Γ cap) (hx : (lk O.1 v).or (lk O.2 v) = some B) (hb : Bud M Pn m h cap Γ.length 8) : C G mX11_typeOf (d + 70) [.ref (gW G 6), .ref B] h (TpQ G h M Pn τ m fun _ => kn v) := by
  have sA := k.1.1.1
  have hD := k.1.1.2
  obtain ⟨u1, u2, u3, u4, u5⟩ := hb
  obtain ⟨e1, e2, ar, s, e3, w, e4⟩ := k.1.2.2.2.2.2.2.2 v B hx
  refine bX11_typeOf G (d + 69) h _ _ (sA.at (by decide)) (sA.at (by decide)) ⟨e1, fun z => (by rw [e2] at z; exact absurd z (by decide)), fun _ => ⟨ar, e3, ?_⟩⟩
  have lw := w.2.2.2.1
  refine C.mono (o_read (n := 64) hD (w.har sA) k.2.1 w.2.2.2.2.2 (by omega) k.1.2.2.1 w.1.1 (by rw [w.2.2.1]; exact Nat.le_refl _) (by rw [w.2.2.1]; omega) w.2.2.2.2.1 (by omega) (by omega)) ?_
  rintro _ h7 ⟨t1, M1, Pn1, τ1, mv1, rfl, g1, ct1, ⟨bd1, bd2⟩, ⟨md1, cm1, -, gv1⟩, val1, ext1⟩
  refine KI.i ⟨t1, M1, Pn1, τ1, m, rfl, g1.1, ?_⟩
  refine (RsV.rd1 (b := 8) k.2.1 g1 ct1 (by omega) ⟨bd1, bd2⟩ (sOK_gv (G := G) (h := h) 64 _ w.2.2.2.2.2) gv1 val1 ext1).imp fun ρ hρ u => ⟨?_, ?_⟩
  · rintro ⟨θ, rfl⟩
    exact ⟨_, rfl, (e4 _).mpr ⟨θ, rfl⟩⟩
  · rintro ⟨w, rfl, hw⟩
    obtain ⟨θ, rfl⟩ := (e4 w).mp hw
    exact ⟨θ, rfl⟩
end
