/-! THE COMPONENT'S TYPER: arrays that a method holds -/
section
variable {G : Gh} {c : Cx} {P P0 P' : Nat → Prop} {s s1 s2 : Sx} {B : Nat → Prop} {us : List Nat} {b b' q i k0 : Nat} {v : Int32} {S : En → List Tr → Prop} {h h' : AH}
theorem XS.pm (k : XS G c P' s) (hP : ∀ a, P a → P' a) : XS G c P s := by
  obtain ⟨a1, a2, a3, a4, a5, a6, a7, a8, a9⟩ := k
  exact ⟨a1, a2, a3, a4, a5, a6, fun a ha => a7 a (hP a ha), fun j ar h1 h2 h3 => a8 j ar h1 h2 (hP _ h3), fun v B ar h1 h2 h3 => a9 v B ar h1 h2 (hP _ h3)⟩
theorem Rn.pm (r : Rn G c P' s B s1 us b S) (hP : ∀ a, P a → P' a) : Rn G c P s B s1 us b S := by
  obtain ⟨r1, r2, r3, r4⟩ := r
  exact ⟨r1, r2, r3.pm hP, r4⟩
theorem sOK.wr : ∀ n σ, sOK G h n σ → sOK G (sI h q i v) n σ := by
  intro n
  induction n with
  | zero => intro σ hs; exact hs.elim
  | succ n ih =>
    rintro σ (hs | ⟨m, l', e, h1, h2⟩)
    · exact Or.inl hs
    · exact Or.inr ⟨m, l', e, h1, fun x hx => ih x (h2 x hx)⟩
theorem WrR.wr {ar : Nat} {σ : Tr} (w : WrR G h ar σ) (hne : ar ≠ q) : WrR G (sI h q i v) ar σ := by
  obtain ⟨w1, w2, w3, w4, w5, w6⟩ := w
  refine ⟨w1, w2, w3, w4, fun j x hx => ?_, ?_⟩
  · rw [aI_sI, if_neg fun z => hne z.1]
    exact w5 j x hx
  · exact sOK.wr _ _ w6
/-- an array that is held is written -/
theorem XS.wr (k : XS G c P s) (hq : P q) : XS G c P (sI s.h q i v, s.M, s.Pn, s.t, s.m, s.E, s.cap, s.rc, s.ws) ∧ Ev G s.h s.M s.t (sI s.h q i v) s.M s.t := by
  obtain ⟨⟨⟨⟨sA, hD⟩, b1, b2, b3, b4, b5, b6, b7⟩, tt, ⟨ba, g1, ⟨g2, g3, g4⟩, g5, g8, g9⟩, fx, bd, gd, pi, nd⟩, a2, ⟨pa, p1, p2, p3, p4, p5⟩, a4, a5, a6, a7, a8, a9⟩ := id k
  obtain ⟨qf, qk, qn⟩ := a7 q hq
  have A : ∀ a j, a ≠ q → aI (sI s.h q i v) a j = aI s.h a j := fun a j ha => by rw [aI_sI, if_neg fun z => ha z.1]
  have U : ∀ a, hK s.h a ≠ 0 → a ≠ q → Uf s.h (sI s.h q i v) a := fun a _ ha => ⟨rfl, rfl, by funext j; exact A a j ha, rfl, rfl, fun g => ⟨rfl, rfl, rfl⟩⟩
  obtain ⟨t1, ev⟩ := tt.unq U sI_le (Or.inr qk) fun i hi => qf.2.2.1 i (List.mem_append_left _ hi)
  have s5 := sA.at (i := 5) (by decide)
  refine ⟨⟨⟨⟨⟨sA.le sI_le, hD⟩, b1, b2, ⟨b3.1, fun t ht => ?_⟩, b4, fun j hj => ?_, b6, fun v' B hB => ?_⟩, t1, ⟨ba, g1, ⟨g2, g3, g4⟩, g5, g8, fun i' x hx => ?_⟩, fx, bd, gd, pi, nd⟩, a2, ⟨pa, p1.le sI_le, p2, p3, p4, p5⟩, ?_, a5, a6, a7, a8, a9⟩, ev⟩
  · rw [A _ _ fun e => qn 25 (by decide +kernel) e.symm]
    exact b3.2 t ht
  · obtain ⟨c1, ⟨ar, c2, c3⟩, c4⟩ := b5 j hj
    refine ⟨c1, ⟨ar, c2, c3.wr fun e => a8 j ar hj (Or.inl c2) (by rw [e]; exact hq)⟩, fun σ hσ => ?_⟩
    obtain ⟨ar2, c5, c6⟩ := c4 σ hσ
    exact ⟨ar2, c5, c6.wr fun e => a8 j ar2 hj (Or.inr ⟨by rw [hσ]; rfl, c5⟩) (by rw [e]; exact hq)⟩
  · obtain ⟨c1, c2, ar, σ, c3, c4, c5⟩ := b7 v' B hB
    exact ⟨c1, c2, ar, σ, c3, c4.wr fun e => a9 v' B ar hB c3 (by rw [e]; exact hq), c5⟩
  · obtain ⟨y1, y2⟩ := g9 i' x hx
    refine ⟨y1, ?_⟩
    obtain ⟨e1, e2, z, e3, e4, e5⟩ := y2
    refine ⟨e1, e2, z, e3, e4, ?_⟩
    rcases e5 with ⟨q1, q2, q3⟩ | ⟨q1, q2, q3, q4⟩
    · exact Or.inl ⟨q1, q2, q3⟩
    · obtain ⟨r1, r2⟩ := ev.2.2.2 z _ q2 q3
      exact Or.inr ⟨q1, r1, r2, q4⟩
  · obtain ⟨k1, k2, k3, k4⟩ := a4
    exact ⟨k1, k2, k3, fun i' x hx => by
      show aI (sI s.h q i v) (gW G 1104) i' = _ ∧ aI (sI s.h q i v) (gW G 1105) i' = _
      rw [A _ _ fun e => qn 104 (by decide +kernel) e.symm, A _ _ fun e => qn 105 (by decide +kernel) e.symm]
      exact k4 i' x hx⟩
/-- a new array is held -/
theorem XS.nA {n : Nat} (k : XS G c P s) (hq : hK s.h q = 0) : XS G c (fun a => P a ∨ a = q) (nA s.h q 0 n, s.M, s.Pn, s.t, s.m, s.E, s.cap, s.rc, s.ws) ∧ Ev G s.h s.M s.t (nA s.h q 0 n) s.M s.t ∧ FIn G c.Z B s.rc c.Ct.length s.h (nA s.h q 0 n) := by
  have ne : ∀ a, hK s.h a ≠ 0 → a ≠ q := fun a ha e => ha (by rw [e]; exact hq)
  have U : ∀ a, hK s.h a ≠ 0 → Uf s.h (Jvm.Pilot.@@N@@.nA s.h q 0 n) a := fun a h0 => by
    have ha := ne a h0
    exact ⟨by rw [hK_nA, if_neg ha], by rw [hL_nA, if_neg ha], by funext j; rw [aI_nA, if_neg ha], by funext j; rw [aJ_nA, if_neg ha], by funext j; rw [aR_nA, if_neg ha], fun g => ⟨by rw [fI_nA], by rw [fJ_nA], by rw [fR_nA]⟩⟩
  have sA := k.sA
  have k6 : hK s.h (gW G 6) = 10 := (sA.at (i := 6) (by decide)).1
  have lm : Lm (gW G) MI s.h (Jvm.Pilot.@@N@@.nA s.h q 0 n) none := nA_lm (by decide +kernel) hq
  have F : ∀ {B : Nat → Prop}, FIn G c.Z B s.rc c.Ct.length s.h (Jvm.Pilot.@@N@@.nA s.h q 0 n) := fun {B} => by
    refine ⟨lm, fun a ha => U a ha.1, fun a ha _ _ => (U a (by rw [ha]; decide)).2.2.2.2.1, fun b hb' _ => ?_, fun c hc _ => ?_, Or.inl ((U (gW G 6) (by rw [k6]; decide)).2.2.2.2.2 111).2.2⟩
    · have v := (U b (by rw [hb']; decide)).2.2.2.2.2
      exact ⟨(v 127).1, (v 128).1⟩
    · have v := (U c (by rw [hc]; decide)).2.2.2.2.2
      exact ⟨(v 372).2.2, (v 373).2.2⟩
  obtain ⟨s7, ev7⟩ := k.1.unq k.1 (F (B := fun _ => False)) (fun a h0 _ => U a h0) (nA_le hq) hq (Or.inl hq)
  obtain ⟨a1, a2, ⟨pa, a3⟩, a4, a5, a6, a7⟩ := id k
  have a7' := a7.mv (s1 := (Jvm.Pilot.@@N@@.nA s.h q 0 n, s.M, s.Pn, s.t, s.m, s.E, s.cap, s.rc, s.ws)) a1.1 (F (B := fun _ => False)) rfl
  have s5 := sA.at (i := 5) (by decide)
  refine ⟨⟨s7, a2.ml lm, ⟨pa, a3.ml lm⟩, ?_, a5, a6, fun a ha => ?_, fun j ar hj h1 h2 => ?_, fun v' B ar hB h1 h2 => ?_⟩, ev7, F⟩
  · obtain ⟨k1, k2, k3, k4⟩ := a4
    have u5 := U (gW G 5) (by rw [s5.1]; decide)
    have u6 := U (gW G 1104) (by rw [kw1104 s5]; decide)
    have u7 := U (gW G 1105) (by rw [kw1105 s5]; decide)
    exact ⟨by rw [(u5.2.2.2.2.2 106).1]; exact k1, k2, k3, fun i x hx => by rw [u6.2.2.1, u7.2.2.1]; exact k4 i x hx⟩
  · rcases ha with ha | rfl
    · exact a7'.1 a ha
    · have hns : Ns (gW G) a := sA.ns hq
      have hk1 : hK (Jvm.Pilot.@@N@@.nA s.h a 0 n) a = 1000 := by rw [hK_nA, if_pos rfl]
      refine ⟨FIx.row hk1 hns ?_ (sA.le (nA_le hq)), hk1, hns⟩
      rw [fR_nA, a3.2.1]
      intro e
      cases e
      rw [a3.2.2.1] at hq
      cases hq
  · rcases h2 with h2 | rfl
    · exact a7'.2.1 j ar hj h1 h2
    · obtain ⟨hcl, ⟨ar1, d1, d2⟩, d3⟩ := a1.1.2.2.2.2.2.1 j hj
      obtain ⟨cx, hcx⟩ : ∃ x, c.Ct[j]? = some x := ⟨_, List.getElem?_eq_getElem hcl⟩
      have v := (U (c.Z.2.1 j) (by rw [(a1.1.2.2.2.2.1 j cx hcx).1]; decide)).2.2.2.2.2
      rcases h1 with h1 | ⟨h0, h1⟩
      · rw [(v 373).2.2, d1] at h1
        cases h1
        have := d2.1.1
        rw [hq] at this
        cases this
      · obtain ⟨σ, hσ⟩ := Option.isSome_iff_exists.mp h0
        obtain ⟨ar2, d4, d5⟩ := d3 σ hσ
        rw [(v 372).2.2, d4] at h1
        cases h1
        have := d5.1.1
        rw [hq] at this
        cases this
  · rcases h2 with h2 | rfl
    · exact a7'.2.2 v' B ar hB h1 h2
    · obtain ⟨d1, d2, ar1, σ, d3, d4, d5⟩ := a1.1.2.2.2.2.2.2.2 v' B hB
      have v := (U B (by rw [d1]; decide)).2.2.2.2.2
      rw [(v 130).2.2, d3] at h1
      cases h1
      have := d4.1.1
      rw [hq] at this
      cases this
/-- a new array is held, behind what was done -/
theorem Rn.nA {n m : Nat} (k : XS G c P0 s) (r : Rn G c P s B s1 us b S) (hq : hK s1.h q = 0) (hn : 16 + n ≤ 8 * m) : Rn G c (fun a => P a ∨ a = q) s B (Jvm.Pilot.@@N@@.nA s1.h q 0 n, s1.M, s1.Pn, s1.t, s1.m, s1.E, s1.cap, s1.rc, s1.ws) us (b + m) S := by
  obtain ⟨r1, r2, r3, r4, r5, r6, r7⟩ := r
  obtain ⟨x1, ev, F⟩ := r3.nA (n := n) (B := B) hq
  refine ⟨r1.tr k.sA (F.rc_le r5), (r2.mv x1.tt ev).wk (Nat.le_add_right ..), x1, r4, r5, ⟨?_, ?_⟩, r7⟩
  · show pot (Jvm.Pilot.@@N@@.nA s1.h q 0 n) s1.cap ≤ _
    have : pot (Jvm.Pilot.@@N@@.nA s1.h q 0 n) s1.cap = pot s1.h s1.cap + 16 + n := by unfold pot; rw [un_nA]; omega
    omega
  · show s1.ws.length ≤ _
    omega
/-- an array that is held is written, behind what was done -/
theorem Rn.wr (k : XS G c P0 s) (r : Rn G c P s B s1 us b S) (hP : P q) (hq : hK s.h q = 0) : Rn G c P s B (sI s1.h q i v, s1.M, s1.Pn, s1.t, s1.m, s1.E, s1.cap, s1.rc, s1.ws) us b S := by
  obtain ⟨r1, r2, r3, r4, r5, r6, r7⟩ := r
  obtain ⟨x1, ev⟩ := r3.wr (i := i) (v := v) hP
  exact ⟨FIn.sI0 r1 hq (k.sA.at (i := 6) (by decide)).1, r2.mv x1.tt ev, x1, r4, r5, r6, r7⟩
/-- what an array that is held has stays -/
theorem Rn.ph {s0 : Sx} (r : Rn G c P s0 B s1 us b S) (k0 : XS G c P s0) (hP : P q) : Uf s0.h s1.h q := r.1.2.1 q (k0.2.2.2.2.2.2.1 q hP).1
end
