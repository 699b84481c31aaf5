/-! THE COMPONENT'S TYPER: patterns of tuples -/
section
variable {G : Gh} {W : Nat → Prop} {ts : List (Nat × Nat × Nat)} {O : List (Nat × Nat) × List (Nat × Nat)} {Z : Zt} {D : Dm} {N rc M M2 Pn Pn2 m m2 cap cap2 q : Nat} {Ct : Ctb} {Dt : Dtb} {kn : Nat → TS} {h h9 h' : AH} {τ τ2 : Tb} {Γ Γ2 : List (Nat × Tr)} {B : Nat → Prop}
/-- but for an array of ints all stays -/
theorem TT.unq (k0 : TT G h M Pn τ m) (u : ∀ a, hK h a ≠ 0 → a ≠ q → Uf h h' a) (le : Le h h' none) (hq : hK h q = 0 ∨ hK h q = 1000) (hn : ∀ i, i ∈ TyC → q ≠ gW G i) : TT G h' M Pn τ m ∧ Ev G h M τ h' M τ := by
  obtain ⟨fs, rt, dp, k, nm, sf, mk, hp, fl, b3⟩ := k0
  have sA := k.1
  have U : ∀ i, i ∈ TyC → Uf h h' (gW G i) := fun i hi => by
    obtain ⟨c1, -⟩ := tyc_k2 sA i hi
    exact u _ c1 fun e => hn i hi e.symm
  have A : ∀ i, i ∈ TyC → ∀ j, aI h' (gW G i) j = aI h (gW G i) j := fun i hi j => by rw [(U i hi).2.2.1]
  have F : ∀ g, fI h' (gW G 2) g = fI h (gW G 2) g := fun g => ((U 2 (by decide)).2.2.2.2.2 g).1
  have s2 := sA.at (i := 2) (by decide)
  have nq : ∀ a k, hK h a = k → k ≠ 0 → k ≠ 1000 → a ≠ q := fun a k h1 h2 h3 e => by
    rw [e] at h1
    rcases hq with w | w <;> rw [w] at h1
    · exact h2 h1.symm
    · exact h3 h1.symm
  have u40 : Uf h h' (gW G 1040) := u _ (by rw [kw1040 s2]; decide) (nq _ _ (kw1040 s2) (by decide) (by decide))
  obtain ⟨-, e36, e37, hM, hPn, hA⟩ := id k
  refine ⟨⟨fs, rt, dp, ⟨sA.le le, (F 36).trans e36, (F 37).trans e37, hM, hPn, fun x hx => ?_⟩, fun x hx hn => ?_, sf, ⟨(F 38).trans mk.1, fun z hz => by rw [A 1033 (by decide)]; exact mk.2 z hz⟩, hp, ⟨fun x hx hn e => fl.1 x hx hn (by rw [← A 1032 (by decide)]; exact e), fl.2⟩, b3⟩, Nat.le_refl _, fun _ q => q, fun _ q => q, fun y s q ⟨K, g1, g2, g3⟩ => ⟨q, K, g1, g2, fun z hz hn c => by rw [A 1032 (by decide)]; exact g3 z hz hn c⟩⟩
  · obtain ⟨b1, b2, b3, b4, b5, b6⟩ := hA x hx
    rw [A 1030 (by decide), A 1031 (by decide), A 1032 (by decide)]
    exact ⟨b1, b2, b3, b4, b5, fun k p hp => by rw [A 1035 (by decide)]; exact b6 k p hp⟩
  · obtain ⟨n1, b, n3, n4, n5⟩ := nm x hx hn
    have ub := u b (by rw [n4]; decide) (nq _ _ n4 (by decide) (by decide))
    exact ⟨n1, b, by rw [u40.2.2.2.2.1]; exact n3, ub.1.trans n4, (ub.2.2.2.2.2 51).1.trans n5⟩
/-- the typer's state, when a new array of ints was changed -/
theorem ISt.unq (k : ISt G W ts O Z D N Ct Dt kn rc h M Pn τ m Γ cap) (s : ISt G W ts O Z D N Ct Dt kn rc h9 M2 Pn2 τ2 m2 Γ2 cap2) (F : FIn G Z B rc Ct.length h h') (u : ∀ a, hK h9 a ≠ 0 → a ≠ q → Uf h9 h' a) (le : Le h9 h' none) (hq : hK h q = 0) (hq9 : hK h9 q = 0 ∨ hK h9 q = 1000) : ISt G W ts O Z D N Ct Dt kn rc h' M2 Pn2 τ2 m2 Γ2 cap2 ∧ Ev G h9 M2 τ2 h' M2 τ2 := by
  have sA := k.1.1.1
  have sA9 := s.1.1.1
  have hn : ∀ i, i ∈ TyC → q ≠ gW G i := fun i hi e => (tyc_k2 sA i hi).1 (by rw [← e]; exact hq)
  have nq : ∀ a k, hK h9 a = k → k ≠ 0 → k ≠ 1000 → a ≠ q := fun a k h1 h2 h3 e => by
    rw [e] at h1
    rcases hq9 with w | w <;> rw [w] at h1
    · exact h2 h1.symm
    · exact h3 h1.symm
  obtain ⟨t1, ev⟩ := s.2.1.unq u le hq9 hn
  obtain ⟨ba, g1, ⟨g2, g3, g4⟩, g5, g8, g9⟩ := s.2.2.1
  have k6 : hK h9 (gW G 6) = 10 := (sA9.at (i := 6) (by decide)).1
  have u6 := u (gW G 6) (by rw [k6]; decide) (nq _ _ k6 (by decide) (by decide))
  have ub := u ba (by rw [g2]; decide) (nq _ _ g2 (by decide) (by decide))
  refine ⟨⟨k.1.mv F, t1, ⟨ba, ((u6.2.2.2.2.2 111).2.2).trans g1, ⟨ub.1.trans g2, g3, ub.2.1.trans g4⟩, g5, ((u6.2.2.2.2.2 112).1).trans g8, fun i x hx => ?_⟩, fun a ha => (k.2.2.2.1 a ha).mv sA F.1, k.2.2.2.2.1.mv F.1, s.2.2.2.2.2.1, k.2.2.2.2.2.2.1.mv sA F.1, s.2.2.2.2.2.2.2⟩, ev⟩
  obtain ⟨y1, y2⟩ := g9 i x hx
  refine ⟨by rw [ub.2.2.2.2.1]; exact y1, ?_⟩
  obtain ⟨e1, e2, z, e3, e4, e5⟩ := y2
  have ux := u (Z.1 x.1) (by rw [e1]; decide) (nq _ _ e1 (by decide) (by decide))
  refine ⟨ux.1.trans e1, by rw [(ux.2.2.2.2.2 129).1]; exact e2, z, (ux.2.2.2.2.2 127).1.trans e3, e4, ?_⟩
  rcases e5 with ⟨q1, q2, q3⟩ | ⟨q1, q2, q3, q4⟩
  · exact Or.inl ⟨(ux.2.2.2.2.2 128).1.trans q1, q2, q3⟩
  · obtain ⟨r1, r2⟩ := ev.2.2.2 z _ q2 q3
    exact Or.inr ⟨(ux.2.2.2.2.2 128).1.trans q1, r1, r2, q4⟩
/-- a cell that wasn't there is changed -/
theorem FIn.sI0 {i : Nat} {v : Int32} {nC : Nat} (F : FIn G Z B rc nC h h9) (hq : hK h q = 0) (h6 : hK h (gW G 6) = 10) : FIn G Z B rc nC h (sI h9 q i v) := by
  obtain ⟨F1, F2, F3, F4, F5, F6⟩ := F
  have ne : ∀ a, hK h a ≠ 0 → a ≠ q := fun a ha e => ha (by rw [e]; exact hq)
  have e1 : ∀ a, a ≠ q → aI (sI h9 q i v) a = aI h9 a := fun a ha => by funext j; rw [aI_sI, if_neg fun z => ha z.1]
  refine ⟨⟨F1.1.tr sI_le, F1.2.1, fun a ha => ⟨(F1.2.2 a ha).1, ?_⟩⟩, fun a ha => ?_, F3, F4, F5, F6⟩
  · rcases (F1.2.2 a ha).2 with w | w
    · exact Or.inl w
    · exact Or.inr ⟨by rw [e1 a (ne a ha)]; exact w.1, w.2⟩
  · obtain ⟨u1, u2, u3, u4⟩ := F2 a ha
    exact ⟨u1, u2, by rw [e1 a (ne a ha.1)]; exact u3, u4⟩
end
