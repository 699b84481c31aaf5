/-! THE COMPONENT'S TYPER: its state, what stays -/
/-- what inference may write -/
def MI : Nat := mM mX17_infer
def MaC : List Nat := [5, 1096, 1097, 1098, 1099, 1100, 1104, 1105, 1107, 1113]
/-- cells that inference leaves as they are -/
def FIx (G : Gh) (h : AH) (a : Nat) : Prop := hK h a ≠ 0 ∧ hK h a ∉ [9, 10, 13, 54, 1007] ∧ (∀ i, i ∈ TyC ++ MaC → a ≠ gW G i) ∧ fR h (gW G 5) 103 ≠ some a
/-- binders of B get types; constructors from rc on get theirs -/
def FIn (G : Gh) (Z : Zt) (B : Nat → Prop) (rc nC : Nat) (h h' : AH) : Prop := Lm (gW G) MI h h' none ∧ (∀ a, FIx G h a → Uf h h' a) ∧ (∀ a, hK h a = 1007 → Ns (gW G) a → fR h (gW G 6) 111 ≠ some a → aR h' a = aR h a) ∧ (∀ b, hK h b = 13 → (∀ t, B t → b ≠ Z.1 t) → fI h' b 127 = fI h b 127 ∧ fI h' b 128 = fI h b 128) ∧ (∀ c, hK h c = 54 → (∀ i, rc ≤ i → i < nC → c ≠ Z.2.1 i) → fR h' c 372 = fR h c 372 ∧ fR h' c 373 = fR h c 373) ∧ (fR h' (gW G 6) 111 = fR h (gW G 6) 111 ∨ ∃ b, fR h' (gW G 6) 111 = some b ∧ hK h b = 0)
/-- a written type -/
def WrR (G : Gh) (h : AH) (ar : Nat) (s : Tr) : Prop := (hK h ar = 1000 ∧ fR h (gW G 5) 103 ≠ some ar) ∧ Ns (gW G) ar ∧ hL h ar = (enc s).length ∧ (enc s).length ≤ 64 ∧ RwA h ar 0 (enc s) ∧ sOK G h 64 s
/-- what inference looks at: names of types, places of tokens, constructors (those before rc have their types), names of the session with their types -/
def IWd (G : Gh) (ts : List (Nat × Nat × Nat)) (O : List (Nat × Nat) × List (Nat × Nat)) (Z : Zt) (N : Nat) (Ct : Ctb) (Dt : Dtb) (kn : Nat → TS) (rc : Nat) (h : AH) : Prop :=
  (SoA G h ∧ DW (gW G)) ∧ (NmT G h 0 2 ∧ (∀ k : Nat, 2 ≤ k → k ≤ 6 → NmT G h k k) ∧ NmT G h 10 1 ∧ NmT G h 11 1 ∧ ∀ (d : Nat) x, Dt[d]? = some x → d < 205 → NmT G h ((d : Int) + 7) x.2.1) ∧ (fI h (gW G 2) 42 = nI 0 ∧ fI h (gW G 2) 43 = nI 1 ∧ fI h (gW G 2) 44 = nI 2) ∧ (ts.length ≤ 1300 ∧ ∀ t, t < ts.length → aI h (gW G 1025) t = nI (Pl ts t)) ∧
  (∀ (c : Nat) x, Ct[c]? = some x → hK h (Z.2.1 c) = 54 ∧ fI h (Z.2.1 c) 371 = if isN x.2.2.2 = true then 0 else 1) ∧ (∀ c, c < rc → c < Ct.length ∧ (∃ ar, fR h (Z.2.1 c) 373 = some ar ∧ WrR G h ar (cG Ct Dt c)) ∧ ∀ s, cH N Ct c = some s → ∃ ar, fR h (Z.2.1 c) 372 = some ar ∧ WrR G h ar s) ∧
  (∀ c c', c < Ct.length → c' < Ct.length → Z.2.1 c = Z.2.1 c' → c = c') ∧ ∀ v B, (lk O.1 v).or (lk O.2 v) = some B → hK h B = 13 ∧ fI h B 129 = -1 ∧ ∃ ar s, fR h B 130 = some ar ∧ WrR G h ar s ∧ ∀ τ, kn v τ ↔ ∃ θ, τ = gi θ s
section
variable {G : Gh} {ts : List (Nat × Nat × Nat)} {O : List (Nat × Nat) × List (Nat × Nat)} {Z : Zt} {N rc nC M Pn m : Nat} {B B' : Nat → Prop} {Ct : Ctb} {Dt : Dtb} {kn : Nat → TS} {h h1 h2 h' : AH} {τ : Tb} {n : Int} {k : Nat} {s : Tr}
theorem FIn.rf : FIn G Z B rc nC h h := ⟨Lm.rf, fun _ _ => Uf.rf, fun _ _ _ _ => rfl, fun _ _ _ => ⟨rfl, rfl⟩, fun _ _ _ => ⟨rfl, rfl⟩, Or.inl rfl⟩
theorem FIx.mv {x : Nat} (q : FIx G h x) (sA : SoA G h) (l : Lm (gW G) MI h h' none) : FIx G h' x := by
  obtain ⟨q1, q2, q3, q4⟩ := q
  have e := (l.1.2 x q1).1
  exact ⟨by rw [e]; exact q1, by rw [e]; exact q2, q3, by rw [l.fr (sA.at (i := 5) (by decide)).1 (by decide) (by decide +kernel)]; exact q4⟩
theorem FIx.row {x : Nat} (h1 : hK h x = 1000) (hn : Ns (gW G) x) (hp : fR h (gW G 5) 103 ≠ some x) (sA : SoA G h) : FIx G h x := by
  have ks : ∀ i, i ∈ TyC ++ MaC → (i ≠ 2 ∧ i ≠ 5) → SA.testBit (i - 1000) = true ∧ i = 1000 + (i - 1000) := by decide
  refine ⟨by rw [h1]; decide, by rw [h1]; decide, fun i hi e => ?_, hp⟩
  by_cases c : i ≠ 2 ∧ i ≠ 5
  · obtain ⟨q1, q2⟩ := ks i hi c
    exact hn _ q1 (by rw [← q2]; exact e)
  · have : i = 2 ∨ i = 5 := by omega
    rcases this with c | c
    · rw [e, c, (sA.at (i := 2) (by decide)).1] at h1
      exact absurd h1 (by decide)
    · rw [e, c, (sA.at (i := 5) (by decide)).1] at h1
      exact absurd h1 (by decide)
theorem FIn.tr (sA : SoA G h) (a : FIn G Z B rc nC h h1) (b : FIn G Z B rc nC h1 h2) : FIn G Z B rc nC h h2 := by
  obtain ⟨a1, a2, a3, a4, a5, a6⟩ := a
  obtain ⟨b1, b2, b3, b4, b5, b6⟩ := b
  have hk : ∀ x, hK h x ≠ 0 → hK h1 x = hK h x := fun x hx => (a1.1.2 x hx).1
  refine ⟨a1.tr b1, fun x hx => (a2 x hx).tr (b2 x (hx.mv sA a1)), fun x hx hn hne => ?_, fun x hx hp => ?_, fun x hx hp => ?_, ?_⟩
  · rw [b3 x (by rw [hk x (by rw [hx]; decide)]; exact hx) hn ?_, a3 x hx hn hne]
    rcases a6 with e | ⟨q, e, hq⟩
    · rw [e]; exact hne
    · rw [e]
      intro w
      cases w
      rw [hx] at hq
      exact absurd hq (by decide)
  · obtain ⟨c1, c2⟩ := a4 x hx hp
    obtain ⟨d1, d2⟩ := b4 x (by rw [hk x (by rw [hx]; decide)]; exact hx) hp
    exact ⟨d1.trans c1, d2.trans c2⟩
  · obtain ⟨c1, c2⟩ := a5 x hx hp
    obtain ⟨d1, d2⟩ := b5 x (by rw [hk x (by rw [hx]; decide)]; exact hx) hp
    exact ⟨d1.trans c1, d2.trans c2⟩
  · rcases b6 with e | ⟨q, e, hq⟩
    · rw [e]
      exact a6
    · exact Or.inr ⟨q, e, a1.fresh hq⟩
theorem FIn.wk (a : FIn G Z B rc nC h h') (h1 : ∀ t, B t → B' t) : FIn G Z B' rc nC h h' := ⟨a.1, a.2.1, a.2.2.1, fun b hb hp => a.2.2.2.1 b hb fun t c1 => hp t (h1 t c1), a.2.2.2.2⟩
/-- the table alone was changed -/
theorem FTy.fin (T : FTy G h h') (sA : SoA G h) (l : Lm (gW G) MI h h' none) : FIn G Z B rc nC h h' := by
  have s2 := sA.at (i := 2) (by decide)
  have ks : ∀ i, i ∈ TyC → i ≠ 2 → SA.testBit (i - 1000) = true ∧ i = 1000 + (i - 1000) := by decide
  have kk : ∀ i, i ∈ TyC → hK h (gW G i) = 3 ∨ hK h (gW G i) = 1000 := fun i hi => by
    unfold TyC at hi
    simp only [List.mem_cons, List.not_mem_nil, or_false] at hi
    rcases hi with rfl | rfl | rfl | rfl | rfl | rfl | rfl | rfl | rfl
    · exact Or.inl s2.1
    · exact Or.inr (kw1030 s2)
    · exact Or.inr (kw1031 s2)
    · exact Or.inr (kw1032 s2)
    · exact Or.inr (kw1033 s2)
    · exact Or.inr (kw1034 s2)
    · exact Or.inr (kw1035 s2)
    · exact Or.inr (kw1039 s2)
    · exact Or.inr (kw1046 s2)
  have out : ∀ a, (hK h a ≠ 3 ∧ (hK h a = 1000 → Ns (gW G) a)) → ∀ i, i ∈ TyC → a ≠ gW G i := fun a ha i hi e => by
    by_cases c : i = 2
    · rw [e, c, s2.1] at ha
      exact ha.1 rfl
    · obtain ⟨q1, q2⟩ := ks i hi c
      have h10 : hK h a = 1000 := by
        rw [e]
        rcases kk i hi with w | w
        · rw [← e] at w; exact absurd w ha.1
        · exact w
      exact ha.2 h10 _ q1 (by rw [← q2]; exact e)
  have s6 := sA.at (i := 6) (by decide)
  refine ⟨l, fun a ha => T.1 a fun i hi => ha.2.2.1 i (List.mem_append_left _ hi), fun a ha hn _ => (T.1 a (out a ⟨by rw [ha]; decide, fun w => by rw [ha] at w; exact absurd w (by decide)⟩)).2.2.2.2.1, fun b hb _ => ?_, fun c hc _ => ?_, Or.inl ?_⟩
  · have u := (T.1 b (out b ⟨by rw [hb]; decide, fun w => by rw [hb] at w; exact absurd w (by decide)⟩)).2.2.2.2.2
    exact ⟨(u 127).1, (u 128).1⟩
  · have u := (T.1 c (out c ⟨by rw [hc]; decide, fun w => by rw [hc] at w; exact absurd w (by decide)⟩)).2.2.2.2.2
    exact ⟨(u 372).2.2, (u 373).2.2⟩
  · exact ((T.1 (gW G 6) (out _ ⟨by rw [s6.1]; decide, fun w => by rw [s6.1] at w; exact absurd w (by decide)⟩)).2.2.2.2.2 111).2.2
theorem NmT.ml (q : NmT G h n k) (l : Lm (gW G) MI h h' none) (sA : SoA G h) (hD : DW (gW G)) : NmT G h' n k := by
  obtain ⟨q1, b, q2, q3, q4⟩ := q
  have s2 := sA.at (i := 2) (by decide)
  have e := (l.a hD (kw1040 s2) (by decide) (by decide) (by decide) (by decide) (by decide +kernel)).2.2
  exact ⟨q1, b, by rw [e]; exact q2, ((l.1.2 b (by rw [q3]; decide)).1).trans q3, (l.fi q3 (by decide) (by decide +kernel)).trans q4⟩
theorem sOK.ml (l : Lm (gW G) MI h h' none) (sA : SoA G h) (hD : DW (gW G)) : ∀ n s, sOK G h n s → sOK G h' n s := by
  intro n
  induction n with
  | zero => intro s hs; exact hs.elim
  | succ n ih =>
    rintro s (hs | ⟨m, l', e, h1, h2⟩)
    · exact Or.inl hs
    · exact Or.inr ⟨m, l', e, h1.ml l sA hD, fun x hx => ih x (h2 x hx)⟩
theorem WrR.mv {ar : Nat} (w : WrR G h ar s) (F : FIn G Z B rc nC h h') (sA : SoA G h) (hD : DW (gW G)) : WrR G h' ar s := by
  obtain ⟨⟨w1, w0⟩, w2, w3, w4, w5, w6⟩ := w
  obtain ⟨e1, e2, -⟩ := F.1.1.2 ar (by rw [w1]; decide)
  exact ⟨⟨e1.trans w1, by rw [F.1.fr (sA.at (i := 5) (by decide)).1 (by decide) (by decide +kernel)]; exact w0⟩, w2, e2.trans w3, w4, fun j v hv => by rw [(F.2.1 ar (FIx.row w1 w2 w0 sA)).2.2.1]; exact w5 j v hv, sOK.ml F.1 sA hD _ s w6⟩
theorem IWd.mv (w : IWd G ts O Z N Ct Dt kn rc h) (F : FIn G Z B rc Ct.length h h') : IWd G ts O Z N Ct Dt kn rc h' := by
  obtain ⟨⟨sA, hD⟩, ⟨n1, n2, n3, n4, n5⟩, ⟨f1, f2, f3⟩, ⟨t1, t2⟩, c1, c2, c3, o1⟩ := w
  have l := F.1
  have s2 := sA.at (i := 2) (by decide)
  have s1 := sA.at (i := 1) (by decide)
  have kk : ∀ {a k : Nat}, hK h a = k → k ≠ 0 → hK h' a = k := fun {a k} ha hk => ((l.1.2 a (by rw [ha]; exact hk)).1).trans ha
  refine ⟨⟨sA.le l.1, hD⟩, ⟨n1.ml l sA hD, fun k h1 h2 => (n2 k h1 h2).ml l sA hD, n3.ml l sA hD, n4.ml l sA hD, fun d x hx hd => (n5 d x hx hd).ml l sA hD⟩, ⟨?_, ?_, ?_⟩, ⟨t1, fun t ht => ?_⟩, fun c x hx => ?_, fun c hc => ?_, c3, fun v B hv => ?_⟩
  · rw [l.fi s2.1 (by decide) (by decide +kernel)]; exact f1
  · rw [l.fi s2.1 (by decide) (by decide +kernel)]; exact f2
  · rw [l.fi s2.1 (by decide) (by decide +kernel)]; exact f3
  · rw [(l.a hD (kw1025 s1) (by decide) (by decide) (by decide) (by decide) (by decide +kernel)).1]
    exact t2 t ht
  · obtain ⟨d1, d2⟩ := c1 c x hx
    exact ⟨kk d1 (by decide), (l.fi d1 (by decide) (by decide +kernel)).trans d2⟩
  · obtain ⟨d0, ⟨ar, d1, d2⟩, d3⟩ := c2 c hc
    obtain ⟨x, hx⟩ : ∃ x, Ct[c]? = some x := ⟨_, List.getElem?_eq_getElem d0⟩
    have hk := (c1 c x hx).1
    obtain ⟨g1, g2⟩ := F.2.2.2.2.1 (Z.2.1 c) hk (fun i hi hc2 e => by
      have := c3 c i d0 hc2 e
      omega)
    refine ⟨d0, ⟨ar, g2.trans d1, d2.mv F sA hD⟩, fun s hs => ?_⟩
    obtain ⟨ar2, e1, e2⟩ := d3 s hs
    exact ⟨ar2, g1.trans e1, e2.mv F sA hD⟩
  · obtain ⟨d1, d2, ar, s, d3, d4, d5⟩ := o1 v B hv
    exact ⟨kk d1 (by decide), (l.fi d1 (by decide) (by decide +kernel)).trans d2, ar, s, (l.fr d1 (by decide) (by decide +kernel)).trans d3, d4.mv F sA hD, d5⟩
end
