/-! THE COMPONENT'S TYPER: checks of clauses, behind what was done -/
section
variable {G : Gh} {c : Cx} {P P0 : Nat → Prop} {s s1 : Sx} {B : Nat → Prop} {us : List Nat} {b b' d n lo hi tok r0 M Pn m cols : Nat} {S : En → List Tr → Prop} {h h' : AH} {ws ws' : List (Nat × Nat)} {cs : List Tr} {τ : Tb} {pa : Nat}
theorem TT.gn (k0 : TT G h M Pn τ m) (U : ∀ i, i ∈ TyC → Uf h h' (gW G i)) (uo : ∀ a, hK h a ≠ 0 → hK h a ≠ 9 → hK h a ≠ 1000 → Uf h h' a) (le : Le h h' none) : TT G h' M Pn τ m ∧ Ev G h M τ h' M τ := by
  obtain ⟨fs, rt, dp, k, nm, sf, mk, hp, fl, b3⟩ := k0
  have sA := k.1
  have A : ∀ i, i ∈ TyC → ∀ j, aI h' (gW G i) j = aI h (gW G i) j := fun i hi j => by rw [(U i hi).2.2.1]
  have F : ∀ g, fI h' (gW G 2) g = fI h (gW G 2) g := fun g => ((U 2 (by decide)).2.2.2.2.2 g).1
  have s2 := sA.at (i := 2) (by decide)
  have u40 : Uf h h' (gW G 1040) := uo _ (by rw [kw1040 s2]; decide) (by rw [kw1040 s2]; decide) (by rw [kw1040 s2]; decide)
  obtain ⟨-, e36, e37, hM, hPn, hA⟩ := id k
  refine ⟨⟨fs, rt, dp, ⟨sA.le le, (F 36).trans e36, (F 37).trans e37, hM, hPn, fun x hx => ?_⟩, fun x hx hn => ?_, sf, ⟨(F 38).trans mk.1, fun z hz => by rw [A 1033 (by decide)]; exact mk.2 z hz⟩, hp, ⟨fun x hx hn e => fl.1 x hx hn (by rw [← A 1032 (by decide)]; exact e), fl.2⟩, b3⟩, Nat.le_refl _, fun _ q => q, fun _ q => q, fun y s q ⟨K, g1, g2, g3⟩ => ⟨q, K, g1, g2, fun z hz hn c => by rw [A 1032 (by decide)]; exact g3 z hz hn c⟩⟩
  · obtain ⟨b1, b2, b3, b4, b5, b6⟩ := hA x hx
    rw [A 1030 (by decide), A 1031 (by decide), A 1032 (by decide)]
    exact ⟨b1, b2, b3, b4, b5, fun k p hp => by rw [A 1035 (by decide)]; exact b6 k p hp⟩
  · obtain ⟨n1, b, n3, n4, n5⟩ := nm x hx hn
    have ub := uo b (by rw [n4]; decide) (by rw [n4]; decide) (by rw [n4]; decide)
    exact ⟨n1, b, by rw [u40.2.2.2.2.1]; exact n3, ub.1.trans n4, (ub.2.2.2.2.2 51).1.trans n5⟩
/-- the checker alone has worked -/
theorem XS.fm (k : XS G c P s) (F : FMa G s.h h') (l : Lm (gW G) MI s.h h' none) (hw : MsW G h' ws') : XS G c P (h', s.M, s.Pn, s.t, s.m, s.E, s.cap, s.rc, ws') ∧ Ev G s.h s.M s.t h' s.M s.t ∧ FIn G c.Z B s.rc c.Ct.length s.h h' := by
  have sA := k.sA
  have hD := k.hD
  obtain ⟨⟨w0, tt, ⟨ba, g1, g2, g5, g8, g9⟩, fx, bd, gd, pi, nd⟩, a2, ⟨pa, a3⟩, a4, a5, a6, a7⟩ := id k
  have hp : ∀ x, fR s.h (gW G 5) 103 = some x → hK s.h x = 1000 := fun x e => by
    cases a3.2.1.symm.trans e
    exact a3.2.2.1
  have uo : ∀ a, hK s.h a ≠ 0 → hK s.h a ≠ 9 → hK s.h a ≠ 1000 → Uf s.h h' a := fun a h0 h9 h10 => F.uo sA hp h0 h9 h10
  have U : ∀ i, i ∈ TyC → Uf s.h h' (gW G i) := fun i hi => by
    have wt : ∀ i, i ∈ TyC → IW.testBit i = true ∧ ∀ j, j ∈ MaD → IW.testBit j = true ∧ i ≠ j := by decide +kernel
    have ws : ∀ i, i ∈ TyC → i = 2 ∨ (SA.testBit (i - 1000) = true ∧ i = 1000 + (i - 1000)) := by decide +kernel
    refine F.1 _ (tyc_k sA i hi) (fun j hj e => ((wt i hi).2 j hj).2 (hD i j (wt i hi).1 ((wt i hi).2 j hj).1 e)) fun e => ?_
    rcases ws i hi with e2 | ⟨e2, e3⟩
    · have := hp _ e
      rw [e2, (sA.at (i := 2) (by decide)).1] at this
      cases this
    · cases a3.2.1.symm.trans e
      exact a3.2.2.2.1 _ e2 (by rw [← e3])
  have Fn : ∀ {B : Nat → Prop}, FIn G c.Z B s.rc c.Ct.length s.h h' := fun {B} => by
    refine ⟨l, fun a ha => F.uw ha, fun a ha _ _ => (uo a (by rw [ha]; decide) (by rw [ha]; decide) (by rw [ha]; decide)).2.2.2.2.1, fun b hb _ => ?_, fun b hb _ => ?_, Or.inl ?_⟩
    · have u := (uo b (by rw [hb]; decide) (by rw [hb]; decide) (by rw [hb]; decide)).2.2.2.2.2
      exact ⟨(u 127).1, (u 128).1⟩
    · have u := (uo b (by rw [hb]; decide) (by rw [hb]; decide) (by rw [hb]; decide)).2.2.2.2.2
      exact ⟨(u 372).2.2, (u 373).2.2⟩
    · have k6 : hK s.h (gW G 6) = 10 := (sA.at (i := 6) (by decide)).1
      exact ((uo (gW G 6) (by rw [k6]; decide) (by rw [k6]; decide) (by rw [k6]; decide)).2.2.2.2.2 111).2.2
  obtain ⟨t1, ev⟩ := tt.gn U uo F.2.2
  have k6 : hK s.h (gW G 6) = 10 := (sA.at (i := 6) (by decide)).1
  have u6 := uo (gW G 6) (by rw [k6]; decide) (by rw [k6]; decide) (by rw [k6]; decide)
  have ub := uo ba (by rw [g2.1]; decide) (by rw [g2.1]; decide) (by rw [g2.1]; decide)
  refine ⟨⟨⟨w0.mv (Fn (B := fun _ => False)), t1, ⟨ba, ((u6.2.2.2.2.2 111).2.2).trans g1, ⟨ub.1.trans g2.1, g2.2.1, ub.2.1.trans g2.2.2⟩, g5, ((u6.2.2.2.2.2 112).1).trans g8, fun i x hx => ?_⟩, fun x hx => (fx x hx).mv sA l, bd.mv l, gd, pi.mv sA l, nd⟩, a2.ml l, ⟨pa, a3.ml l⟩, hw, a5, a6, a7.mv (s1 := (h', s.M, s.Pn, s.t, s.m, s.E, s.cap, s.rc, ws')) w0 (Fn (B := fun _ => False)) rfl⟩, ev, Fn⟩
  obtain ⟨y1, y2⟩ := g9 i x hx
  refine ⟨by rw [ub.2.2.2.2.1]; exact y1, ?_⟩
  obtain ⟨e1, e2, z, e3, e4, e5⟩ := y2
  have ux := uo (c.Z.1 x.1) (by rw [e1]; decide) (by rw [e1]; decide) (by rw [e1]; decide)
  refine ⟨ux.1.trans e1, by rw [(ux.2.2.2.2.2 129).1]; exact e2, z, (ux.2.2.2.2.2 127).1.trans e3, e4, ?_⟩
  rcases e5 with ⟨q1, q2, q3⟩ | ⟨q1, q2, q3, q4⟩
  · exact Or.inl ⟨(ux.2.2.2.2.2 128).1.trans q1, q2, q3⟩
  · obtain ⟨r1, r2⟩ := ev.2.2.2 z _ q2 q3
    exact Or.inr ⟨(ux.2.2.2.2.2 128).1.trans q1, r1, r2, q4⟩
theorem Rn.fm (k : XS G c P0 s) (r : Rn G c P s B s1 us b S) (F : FMa G s1.h h') (l : Lm (gW G) MI s1.h h' none) (hw : MsW G h' ws') (hb : b ≤ b') (hu : pot h' s1.cap ≤ pot s.h s.cap + 8 * b') (hws : ws'.length ≤ s.ws.length + b') : Rn G c P s B (h', s1.M, s1.Pn, s1.t, s1.m, s1.E, s1.cap, s1.rc, ws') us b' S := by
  obtain ⟨r1, r2, r3, r4, r5, r6, r7⟩ := r
  obtain ⟨x1, ev, F1⟩ := r3.fm (B := B) F l hw
  exact ⟨r1.tr k.sA (F1.rc_le r5), (r2.mv x1.tt ev).wk hb, x1, r4, r5, ⟨hu, hws⟩, r7⟩
theorem ckU_len (pl : Nat → Nat) : ∀ (x : List (Nat × List Tr)) (rows : List (List Tr)), (ckU pl rows x).length ≤ x.length := by
  intro x
  induction x with
  | nil => intro rows; exact Nat.le_refl _
  | cons y x ih =>
    intro rows
    show ((if us 217 rows y.2 = true then [] else [(pl y.1, 1)]) ++ ckU pl (rows ++ [y.2]) x).length ≤ _
    have := ih (rows ++ [y.2])
    rw [List.length_append, List.length_cons]
    split
    · show 0 + _ ≤ _; omega
    · show 1 + _ ≤ _; omega
end
