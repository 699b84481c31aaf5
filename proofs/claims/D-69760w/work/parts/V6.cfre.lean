/-! THE COMPONENT'S TYPER: a datatype's variables -/
section
variable {G : Gh} {c : Cx} {P P0 : Nat → Prop} {s s1 : Sx} {B : Nat → Prop} {us : List Nat} {b i : Nat} {v : Int32} {S : En → List Tr → Prop}
/-- the row of variables is written -/
theorem XS.w13 (k : XS G c P s) : XS G c P (sI s.h (gW G 1113) i v, s.M, s.Pn, s.t, s.m, s.E, s.cap, s.rc, s.ws) ∧ Ev G s.h s.M s.t (sI s.h (gW G 1113) i v) s.M s.t ∧ FIn G c.Z B s.rc c.Ct.length s.h (sI s.h (gW G 1113) i v) := by
  obtain ⟨⟨⟨⟨sA, hD⟩, b1, b2, b3, b4, b5, b6, b7⟩, tt, ⟨ba, g1, ⟨g2, g3, g4⟩, g5, g8, g9⟩, fx, bd, gd, pi, nd⟩, a2, ⟨pa, p1, p2, p3, p4, p5⟩, a4, a5, a6, a7, a8, a9⟩ := id k
  have qk : hK s.h (gW G 1113) = 1000 := kw1113 (sA.at (i := 6) (by decide))
  have A : ∀ a j, a ≠ gW G 1113 → aI (sI s.h (gW G 1113) i v) a j = aI s.h a j := fun a j ha => by rw [aI_sI, if_neg fun z => ha z.1]
  have U : ∀ a, hK s.h a ≠ 0 → a ≠ gW G 1113 → Uf s.h (sI s.h (gW G 1113) i v) a := fun a _ ha => ⟨rfl, rfl, by funext j; exact A a j ha, rfl, rfl, fun g => ⟨rfl, rfl, rfl⟩⟩
  have wne : ∀ j, IW.testBit j = true → j ≠ 1113 → gW G j ≠ gW G 1113 := fun j hj hn e => hn (hD j 1113 hj (by decide +kernel) e)
  have tyw : ∀ j, j ∈ TyC → IW.testBit j = true ∧ j ≠ 1113 := by decide +kernel
  obtain ⟨t1, ev⟩ := tt.unq U sI_le (Or.inr qk) fun j hj e => wne j (tyw j hj).1 (tyw j hj).2 e.symm
  have ns : ∀ ar, Ns (gW G) ar → ar ≠ gW G 1113 := fun ar h e => h 113 (by decide +kernel) e
  have lm : Lm (gW G) MI s.h (sI s.h (gW G 1113) i v) none := sI_lm (t := 0) qk (Or.inl ⟨113, by decide +kernel, rfl, by decide +kernel⟩)
  have Fn : ∀ {B : Nat → Prop}, FIn G c.Z B s.rc c.Ct.length s.h (sI s.h (gW G 1113) i v) := fun {B} => ⟨lm, fun a ha => U a ha.1 fun e => ha.2.2.1 1113 (by decide) e, fun a _ _ _ => rfl, fun a _ _ => ⟨rfl, rfl⟩, fun a _ _ => ⟨rfl, rfl⟩, Or.inl rfl⟩
  refine ⟨⟨⟨⟨⟨sA.le sI_le, hD⟩, b1, b2, ⟨b3.1, fun t ht => ?_⟩, b4, fun j hj => ?_, b6, fun v' B hB => ?_⟩, t1, ⟨ba, g1, ⟨g2, g3, g4⟩, g5, g8, fun i' x hx => ?_⟩, fx, bd, gd, pi, nd⟩, a2, ⟨pa, p1.le sI_le, p2, p3, p4, p5⟩, ?_, a5, a6, a7, a8, a9⟩, ev, Fn⟩
  · rw [A _ _ (wne 1025 (by decide +kernel) (by decide))]
    exact b3.2 t ht
  · obtain ⟨c1, ⟨ar, c2, c3⟩, c4⟩ := b5 j hj
    refine ⟨c1, ⟨ar, c2, c3.wr (ns ar c3.2.1)⟩, fun σ hσ => ?_⟩
    obtain ⟨ar2, c5, c6⟩ := c4 σ hσ
    exact ⟨ar2, c5, c6.wr (ns ar2 c6.2.1)⟩
  · obtain ⟨c1, c2, ar, σ, c3, c4, c5⟩ := b7 v' B hB
    exact ⟨c1, c2, ar, σ, c3, c4.wr (ns ar c4.2.1), c5⟩
  · obtain ⟨y1, y2⟩ := g9 i' x hx
    refine ⟨y1, ?_⟩
    obtain ⟨e1, e2, z, e3, e4, e5⟩ := y2
    refine ⟨e1, e2, z, e3, e4, ?_⟩
    rcases e5 with ⟨q1, q2, q3⟩ | ⟨q1, q2, q3, q4⟩
    · exact Or.inl ⟨q1, q2, q3⟩
    · obtain ⟨r1, r2⟩ := ev.2.2.2 z _ q2 q3
      exact Or.inr ⟨q1, r1, r2, q4⟩
  · obtain ⟨k1, k2, k3, k4⟩ := a4
    exact ⟨k1, k2, k3, fun i' x hx => by
      show aI (sI s.h (gW G 1113) i v) (gW G 1104) i' = _ ∧ aI (sI s.h (gW G 1113) i v) (gW G 1105) i' = _
      rw [A _ _ (wne 1104 (by decide +kernel) (by decide)), A _ _ (wne 1105 (by decide +kernel) (by decide))]
      exact k4 i' x hx⟩
theorem Rn.w13 (k : XS G c P0 s) (r : Rn G c P s B s1 us b S) : Rn G c P s B (sI s1.h (gW G 1113) i v, s1.M, s1.Pn, s1.t, s1.m, s1.E, s1.cap, s1.rc, s1.ws) us b S := by
  obtain ⟨r1, r2, r3, r4, r5, r6, r7⟩ := r
  obtain ⟨x1, ev, F⟩ := r3.w13 (i := i) (v := v) (B := B)
  exact ⟨r1.tr k.sA (F.rc_le r5), r2.mv x1.tt ev, x1, r4, r5, r6, r7⟩
end
