/-! FROM THE READER TO THE RESOLVER: the trees that were read, as trees to be resolved -/
section
variable {G : Gh} {ts : List (Nat × Nat × Nat)} {N W : Nat → Prop} {X X' : Nat → Nat → Tr → Prop} {h h' : AH} {k b a r m i q : Nat} {x y : Tr}
theorem RowL.wn (hW : ∀ a, N a → hK h a ≠ 0 → hK h a ≠ 53 → W a) (k : RowL N h r m) : RowL W h r m := by
  obtain ⟨l, n, e, kc, kN, kA⟩ := k
  refine ⟨l, n, e, kc, hW r kN (by rw [kc.1]; decide) (by rw [kc.1]; decide), fun arr ea => ?_⟩
  obtain ⟨q1, q2, q3, q7, q8, ar, q4, q5, q6, q9⟩ := kc
  cases q4.symm.trans ea
  obtain ⟨k1, k2⟩ := kA arr ea
  refine ⟨hW arr k1 (by rw [q5]; decide) (by rw [q5]; decide), fun i sp es => ?_⟩
  obtain ⟨s1, s2⟩ := k2 i sp es
  exact ⟨hW sp s1 (by rw [s2]; decide) (by rw [s2]; decide), s2⟩
theorem aK_53 (g : Nat) : aK g ≠ 53 := by
  unfold aK
  split <;> decide
theorem ArF.wn {g : Nat} (hW : ∀ a, N a → hK h a ≠ 0 → hK h a ≠ 53 → W a) (k : ArF N h a g b) : ArF W h a g b :=
  ⟨k.1, k.2.1, hW b k.2.2 (by rw [k.2.1]; exact aK_ne _) (by rw [k.2.1]; exact aK_53 _)⟩
theorem kc_53 (hk : hK h b ∈ kc k) : hK h b ≠ 0 ∧ (hK h b = 53 → k = 53) := by
  have h0 : ∀ c, c < 100 → 0 ∉ kc c := by decide +kernel
  have h1 : ∀ c, c < 100 → 53 ∈ kc c → c = 53 := by decide +kernel
  by_cases hc : k < 100
  · exact ⟨fun e => h0 k hc (by rw [e] at hk; exact hk), fun e => h1 k hc (by rw [e] at hk; exact hk)⟩
  · unfold kc at hk
    repeat' rw [if_neg (by omega)] at hk
    cases hk
/-- fewer cells: all but the declarations that are no part of the tree -/
theorem OTG.wn (hW : ∀ a, N a → hK h a ≠ 0 → hK h a ≠ 53 → W a) (hX : ∀ k b y, N b → hK h b ∈ kc k → X k b y → X' k b y ∧ (hK h b = 53 → W b) ∧ (k = 19 → ∃ t z, y = .add t z)) : ∀ (x : Tr) (m i a : Nat), OTG X N h x m i a → OTG X' W h x m i a := by
  intro x
  induction x with
  | num v =>
    intro m i a k
    unfold OTG at k ⊢
    split at k
    · rw [if_pos (by assumption)]; trivial
    next c1 =>
    rw [if_neg c1]
    split at k
    · next c => rw [if_pos c]; exact k
    next c2 =>
    rw [if_neg c2]
    split at k
    · next c => rw [if_pos c]; exact k
    next c3 =>
    rw [if_neg c3]
    split at k
    · next c => rw [if_pos c]; exact k
    next c4 =>
    rw [if_neg c4]
    split at k
    · next c =>
      rw [if_pos c]
      obtain ⟨v0, b, b1, b4⟩ := k
      exact ⟨v0, b, b1.wn hW, b4⟩
    next c5 =>
    rw [if_neg c5]
    split at k
    · next c =>
      rw [if_pos c]
      obtain ⟨v0, b, b1, b2⟩ := k
      exact ⟨v0, b, b1, b2.wn hW⟩
    · exact k.elim
  | mulL kk x ih =>
    intro m i a k
    unfold OTG at k ⊢
    obtain ⟨b, k1, k2, k3, k4, k5, k6, k7⟩ := k
    obtain ⟨x1, x2, x3⟩ := hX _ b x k2 k4 k5
    have i6 := ih _ 0 b k6
    refine ⟨b, k1, ?_, k3, k4, x1, i6, fun q => ?_⟩
    · by_cases e : hK h b = 53
      · exact x2 e
      · exact hW b k2 (kc_53 k4).1 e
    · obtain ⟨c, c1, c2, c3, c4⟩ := k7 q
      refine ⟨c, ?_, c2, c3, c4⟩
      obtain ⟨t, z, rfl⟩ := x3 q
      rw [q] at i6
      have i7 : OTG X' W h z 2152 0 b := by
        unfold OTG at i6
        rw [if_neg (by decide), if_pos (by decide)] at i6
        exact i6
      have i8 : OTG X' W h z 6 0 b := (OTG_ef (m' := 6) (i' := 0) (by decide) (by decide)).mp i7
      obtain ⟨b', e1, e2⟩ := OTG_6.mp i8
      cases c3.symm.trans e1
      obtain ⟨k', y', rfl⟩ := OTG_0 e2
      unfold OTG at e2
      obtain ⟨b2, f1, f2, -⟩ := e2
      change some c = some b2 at f1
      cases f1
      exact f2
  | add x y ihx ihy =>
    intro m i a k
    unfold OTG at k ⊢
    split at k
    · rw [if_pos (by assumption)]; trivial
    next c1 =>
    rw [if_neg c1]
    split at k
    · next c => rw [if_pos c]; exact ihy _ _ _ k
    next c2 =>
    rw [if_neg c2]
    split at k
    · next c => rw [if_pos c]; exact ⟨ihx _ _ _ k.1, ihy _ _ _ k.2⟩
    next c3 =>
    rw [if_neg c3]
    split at k
    · next c => rw [if_pos c]; exact ⟨ihx _ _ _ k.1, ihy _ _ _ k.2⟩
    next c4 =>
    rw [if_neg c4]
    split at k
    · next c => rw [if_pos c]; exact ⟨ihx _ _ _ k.1, ihy _ _ _ k.2⟩
    next c5 =>
    rw [if_neg c5]
    split at k
    · next c => rw [if_pos c]; exact ⟨ihx _ _ _ k.1, ihy _ _ _ k.2⟩
    next c6 =>
    rw [if_neg c6]
    split at k
    · next c => rw [if_pos c]; exact ihy _ _ _ k
    next c7 =>
    rw [if_neg c7]
    split at k
    · next c =>
      rw [if_pos c]
      obtain ⟨b, b1, b2, b3⟩ := k
      exact ⟨b, b1.wn hW, ihx _ _ _ b2, ihy _ _ _ b3⟩
    next c8 =>
    rw [if_neg c8]
    split at k
    · next c =>
      rw [if_pos c]
      obtain ⟨b, b1, b2, b3⟩ := k
      exact ⟨b, b1.wn hW, ihx _ _ _ b2, ihy _ _ _ b3⟩
    next c9 =>
    rw [if_neg c9]
    split at k
    · next c =>
      rw [if_pos c]
      obtain ⟨b, b1, b2, b3, b4⟩ := k
      exact ⟨b, b1, b2.wn hW, ihx _ _ _ b3, ihy _ _ _ b4⟩
    · exact k.elim
  | var _ => intro m i a k; exact k.elim
  | sub _ _ _ _ => intro m i a k; exact k.elim
  | neg _ _ => intro m i a k; exact k.elim
  | mulR _ _ _ => intro m i a k; exact k.elim
/-- the tree's own cells -/
def W0 (N : Nat → Prop) (h : AH) (a : Nat) : Prop := N a ∧ hK h a ≠ 0 ∧ (hK h a = 53 → fI h a 365 = 0)
theorem EXs.wn (hW : ∀ a, N a → hK h a ≠ 0 → hK h a ≠ 53 → W a) (e : EXs N h k b x) : EXs W h k b x := by
  obtain ⟨e1, e2, e3, e4, e5, e6, e7, e8, e9⟩ := e
  refine ⟨e1, e2, e3, e4, e5, e6, e7, e8, fun t y hy => ?_⟩
  obtain ⟨f3, f4, f5, f6⟩ := e9 t y hy
  refine ⟨f3, f4, fun q => ?_, fun q => ?_⟩
  · obtain ⟨ee, r, so, g1, g2, g3, g4, g5, arr, g6, g7, g8, g9, g10⟩ := f5 q
    exact ⟨ee, r, so, g1, g2, g3, hW so g4 (by rw [g3]; decide) (by rw [g3]; decide), g5, arr, g6, g7, hW arr g8 (by rw [g7]; decide) (by rw [g7]; decide), g9, g10⟩
  · obtain ⟨v, vs, c, arr, g1, g2, g3, g4, g5, g6, g7, g8⟩ := f6 q
    exact ⟨v, vs, c, arr, g1, g2, g3, g4, hW arr g5 (by rw [g3]; decide) (by rw [g3]; decide), g6, g7, g8⟩
/-- a tree that was read is one to be resolved -/
theorem OT.start (k : OT ts N h x 0 0 q) : OTG (X0 ts (W0 N h) h) (W0 N h) h x 0 0 q := by
  rw [OT_G] at k
  have hW : ∀ a, N a → hK h a ≠ 0 → hK h a ≠ 53 → W0 N h a := fun a h1 h2 h3 => ⟨h1, h2, fun e => absurd e h3⟩
  refine OTG.wn hW (fun k b y h1 h2 h3 => ?_) x 0 0 q k
  obtain ⟨x1, x2⟩ := h3.x0
  refine ⟨⟨x1.wn hW, x2⟩, fun e => ⟨h1, (kc_53 h2).1, fun _ => h3.2.2.2.1.2.1 ((kc_53 h2).2 e)⟩, fun e => h3.2.2.2.1.2.2 e⟩
/-- before anything is resolved no declaration is marked -/
theorem W0.jd {Dt : Dtb} : JD (W0 N h) h Dt := fun _ ha => ⟨ha.2.1, fun e h0 => absurd (ha.2.2 e) h0⟩
end
