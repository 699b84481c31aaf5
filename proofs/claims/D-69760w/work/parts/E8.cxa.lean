/-! TREES IN THEIR PLACES; what the resolver leaves at their nodes -/
def fnC : Tr → Bool
  | .add _ (.add (.num v) _) => !(v == 0)
  | _ => false
/-- a datatype's name stands before its constructors -/
def dTk : Tr → Prop
  | .add (.num t) (.add _ (.add _ (.add (.mulL _ z) _))) => t < tkn z
  | _ => True
/-- the kinds of a node's token -/
def kdOK (K : Nat → Nat) (k : Int) (x : Tr) : Prop := ((k = 1 ∨ k = 32 ∨ k = 54 ∨ k = 55 ∨ k = 58 ∨ (k = 50 ∧ fnC x = true)) → K (tkn x).toNat = 280) ∧ ((k = 2 ∨ k = 33 ∨ k = 56) → K (tkn x).toNat = 281) ∧ (k = 57 → K (tkn x).toNat = 282) ∧ (k = 55 → dTk x)
/-- a tree from lo on, before hi: its parts one behind another -/
def wf (K : Nat → Nat) : Tr → Nat → Nat → Prop
  | .mulL k x, lo, hi => (lo : Int) ≤ tkn x ∧ tkn x < hi ∧ kdOK K k x ∧ (if k = 33 ∨ (k = 50 ∧ fnC x = true) ∨ k = 56 ∨ k = 53 then wf K x ((tkn x).toNat + 1) hi else if k = 58 then wf K x lo (tkn x).toNat else wf K x lo hi)
  | .add x y, lo, hi => ∃ m, lo ≤ m ∧ m ≤ hi ∧ wf K x lo m ∧ wf K y m hi
  | _, _, _ => True
theorem wf.mono {K : Nat → Nat} : ∀ (x : Tr) (lo hi lo' hi' : Nat), wf K x lo hi → lo' ≤ lo → hi ≤ hi' → wf K x lo' hi' := by
  intro x
  induction x with
  | num v => intro lo hi lo' hi' _ _ _; trivial
  | mulL k x ih =>
    intro lo hi lo' hi' k1 h1 h2
    unfold wf at k1 ⊢
    obtain ⟨a1, a2, a3, a4⟩ := k1
    refine ⟨by omega, by omega, a3, ?_⟩
    split
    · next c => rw [if_pos c] at a4; exact ih _ _ _ _ a4 (Nat.le_refl _) h2
    · next c =>
      rw [if_neg c] at a4
      split
      · next c2 => rw [if_pos c2] at a4; exact ih _ _ _ _ a4 h1 (Nat.le_refl _)
      · next c2 => rw [if_neg c2] at a4; exact ih _ _ _ _ a4 h1 h2
  | add x y ihx ihy =>
    intro lo hi lo' hi' k1 h1 h2
    unfold wf at k1 ⊢
    obtain ⟨m, m1, m2, m3, m4⟩ := k1
    exact ⟨m, by omega, by omega, ihx _ _ _ _ m3 h1 (Nat.le_refl _), ihy _ _ _ _ m4 (Nat.le_refl _) h2⟩
  | var _ => intro lo hi lo' hi' _ _ _; trivial
  | sub _ _ _ _ => intro lo hi lo' hi' _ _ _; trivial
  | neg _ _ => intro lo hi lo' hi' _ _ _; trivial
  | mulR _ _ _ => intro lo hi lo' hi' _ _ _; trivial
theorem TR.mono : ∀ (x : Tr) (lo hi lo' hi' : Nat), TR lo hi x → lo' ≤ lo → hi ≤ hi' → TR lo' hi' x := by
  intro x
  induction x with
  | num v => intro lo hi lo' hi' _ _ _; trivial
  | mulL k x ih =>
    intro lo hi lo' hi' k1 h1 h2
    unfold TR at k1 ⊢
    obtain ⟨a1, a2, a3⟩ := k1
    exact ⟨by omega, by omega, ih _ _ _ _ a3 h1 h2⟩
  | add x y ihx ihy =>
    intro lo hi lo' hi' k1 h1 h2
    unfold TR at k1 ⊢
    exact ⟨ihx _ _ _ _ k1.1 h1 h2, ihy _ _ _ _ k1.2 h1 h2⟩
  | var _ => intro lo hi lo' hi' _ _ _; trivial
  | sub _ _ _ _ => intro lo hi lo' hi' _ _ _; trivial
  | neg _ _ => intro lo hi lo' hi' _ _ _; trivial
  | mulR _ _ _ => intro lo hi lo' hi' _ _ _; trivial
theorem wf.tr {K : Nat → Nat} : ∀ (x : Tr) (lo hi : Nat), wf K x lo hi → TR lo hi x := by
  intro x
  induction x with
  | num v => intro lo hi _; trivial
  | mulL k x ih =>
    intro lo hi k1
    unfold wf at k1
    obtain ⟨a1, a2, a3, a4⟩ := k1
    refine ⟨a1, a2, ?_⟩
    split at a4
    · exact TR.mono _ _ _ _ _ (ih _ _ a4) (by omega) (Nat.le_refl _)
    · split at a4
      · exact TR.mono _ _ _ _ _ (ih _ _ a4) (Nat.le_refl _) (by omega)
      · exact ih _ _ a4
  | add x y ihx ihy =>
    intro lo hi k1
    unfold wf at k1
    obtain ⟨m, m1, m2, m3, m4⟩ := k1
    exact ⟨TR.mono _ _ _ _ _ (ihx _ _ m3) (Nat.le_refl _) m2, TR.mono _ _ _ _ _ (ihy _ _ m4) m1 (Nat.le_refl _)⟩
  | var _ => intro lo hi _; trivial
  | sub _ _ _ _ => intro lo hi _; trivial
  | neg _ _ => intro lo hi _; trivial
  | mulR _ _ _ => intro lo hi _; trivial
abbrev Zt : Type := (Nat → Nat) × (Nat → Nat) × (Nat → Nat)
/-- what is known: binders by their tokens, how many constructors, how many types -/
abbrev Dm : Type := (Nat → Prop) × Nat × Nat
def Ext (Z Z' : Zt) (D D' : Dm) : Prop := (∀ t, D.1 t → D'.1 t ∧ Z'.1 t = Z.1 t) ∧ (D.2.1 ≤ D'.2.1 ∧ ∀ c, c < D.2.1 → Z'.2.1 c = Z.2.1 c) ∧ (D.2.2 ≤ D'.2.2 ∧ ∀ c, c < D.2.2 → Z'.2.2 c = Z.2.2 c)
/-- what an object holds besides its children, whatever is resolved -/
def EXs (N : Nat → Prop) (h : AH) (k b : Nat) (x : Tr) : Prop :=
  0 ≤ tkn x ∧ tkn x < 5000 ∧ (fI h b (tf (hK h b))).toInt = tkn x ∧
  (k = 5 → fI h b 329 = 2 ∧ fI h b 330 = 0) ∧ (k = 6 → fI h b 331 = 2) ∧ (k = 7 → fI h b 331 = 3) ∧ (k = 17 → fI h b 336 = 286) ∧ (k = 18 → fI h b 336 = 64) ∧
  ∀ t y, x = .add t y →
    ((k = 3 ∨ k = 4) → ∃ v, y = .num v ∧ (fI h b 330).toInt = v ∧ fI h b 329 = (if k = 3 then 0 else 1)) ∧ ((k = 34 ∨ k = 35) → ∃ v, y = .num v ∧ (fI h b 306).toInt = v ∧ fI h b 307 = (if k = 34 then 0 else 1)) ∧
    (k = 16 → ∃ e r so, y = .add e r ∧ fR h b 342 = some so ∧ SgC N h so (sgs r)) ∧
    (k = 55 → ∃ v vs c arr, y = .add v (.add vs c) ∧ fR h b 350 = some arr ∧ hK h arr = 1000 ∧ hL h arr = 6 ∧ N arr ∧ fI h b 351 = nI (tks vs).length ∧ (tks vs).length ≤ 6 ∧ ∀ i u, (tks vs)[i]? = some u → aI h arr i = u)
/-- what the resolver leaves -/
def ANN (ts : List (Nat × Nat × Nat)) (O : List (Nat × Nat) × List (Nat × Nat)) (Z : Zt) (D : Dm) (h : AH) (k b : Nat) (x : Tr) : Prop := ∀ t z, x = .add (.num t) z →
  (k = 1 → ∃ rf up, z = .add (.num rf) (.num up) ∧ (0 ≤ rf → D.1 rf.toNat ∧ fR h b 326 = some (Z.1 rf.toNat) ∧ (fI h b 327).toInt = up) ∧ (rf < 0 → ∀ B, (lk O.1 (Vl ts t.toNat)).or (lk O.2 (Vl ts t.toNat)) = some B → fR h b 326 = some B)) ∧
  (k = 2 → ∃ id, z = .num id ∧ (0 ≤ id → id.toNat < D.2.1 ∧ fR h b 328 = some (Z.2.1 id.toNat))) ∧
  (k = 32 → D.1 t.toNat ∧ fR h b 305 = some (Z.1 t.toNat)) ∧
  (k = 33 → ∃ id w, z = .add (.num id) w ∧ (0 ≤ id → id.toNat < D.2.1 ∧ fR h b 304 = some (Z.2.1 id.toNat))) ∧
  (k = 54 → D.1 t.toNat ∧ fR h b 346 = some (Z.1 t.toNat)) ∧
  (k = 55 → ∃ id w, z = .add (.num id) w ∧ 0 ≤ id ∧ id.toNat < D.2.2 ∧ fR h b 353 = some (Z.2.2 id.toNat)) ∧
  (k = 56 → ∃ id w, z = .add (.num id) w ∧ 0 ≤ id ∧ id.toNat < D.2.1 ∧ fR h b 363 = some (Z.2.1 id.toNat)) ∧
  (k = 57 → ∃ id, z = .num id ∧ (0 ≤ id → (fI h b 357).toInt = id)) ∧
  (k = 58 → ∃ id w, z = .add (.num id) w ∧ (0 ≤ id → id.toNat < D.2.2 ∧ fR h b 356 = some (Z.2.2 id.toNat))) ∧
  (k = 53 → (fI h b 365 = 0 ↔ ∀ y, y ∈ unl z → nv1 y < 205))
def XA (ts : List (Nat × Nat × Nat)) (W : Nat → Prop) (O : List (Nat × Nat) × List (Nat × Nat)) (Z : Zt) (D : Dm) (h : AH) (k b : Nat) (x : Tr) : Prop := EXs W h k b x ∧ ANN ts O Z D h k b x
/-- the token of a cell -/
def tokA (h : AH) (a : Nat) : Int := (fI h a (tf (hK h a))).toInt
/-- the tree's cells stay, but for what the resolver writes at tokens from lo on, before hi -/
def KW (W : Nat → Prop) (lo hi : Nat) (h h' : AH) : Prop := (hc h ≤ hc h' ∧ hs h ≤ hs h') ∧ ∀ a, W a → Us h h' a ∧ ((tokA h a < lo ∨ (hi : Int) ≤ tokA h a) → Uf h h' a)
/-- the tree's cells are alive, and none of the scope's own -/
def WXs : List Nat := [2, 1040, 1059, 1085, 1086]
def WB (G : Gh) (W : Nat → Prop) (h : AH) : Prop := (∀ a, W a → hK h a ≠ 0) ∧ ¬ W (gW G 4) ∧ (∀ ba, fR h (gW G 4) 82 = some ba → ¬ W ba) ∧ ∀ a, W a → (hK h a ≠ 4 ∧ hK h a ≠ 54) ∧ ∀ i, i ∈ WXs → a ≠ gW G i
section
variable {G : Gh} {ts : List (Nat × Nat × Nat)} {W N : Nat → Prop} {O : List (Nat × Nat) × List (Nat × Nat)} {Z Z' Z2 : Zt} {D D' D2 : Dm} {h h1 h2 h' : AH} {k b lo hi lo1 hi1 q a : Nat} {x : Tr}
theorem tf_sf (c : Nat) : sf (tf c) = true := by
  unfold tf
  repeat' split
  all_goals decide
theorem Ext.rf : Ext Z Z D D := ⟨fun _ h => ⟨h, rfl⟩, ⟨Nat.le_refl _, fun _ _ => rfl⟩, ⟨Nat.le_refl _, fun _ _ => rfl⟩⟩
theorem Ext.tr (a : Ext Z Z' D D') (b : Ext Z' Z2 D' D2) : Ext Z Z2 D D2 :=
  ⟨fun t ht => ⟨(b.1 t (a.1 t ht).1).1, (b.1 t (a.1 t ht).1).2.trans (a.1 t ht).2⟩, ⟨Nat.le_trans a.2.1.1 b.2.1.1, fun c hc => (b.2.1.2 c (Nat.lt_of_lt_of_le hc a.2.1.1)).trans (a.2.1.2 c hc)⟩, ⟨Nat.le_trans a.2.2.1 b.2.2.1, fun c hc => (b.2.2.2 c (Nat.lt_of_lt_of_le hc a.2.2.1)).trans (a.2.2.2 c hc)⟩⟩
theorem Uf.us (u : Uf h h' a) : Us h h' a := ⟨u.1, u.2.1, u.2.2.1, u.2.2.2.1, u.2.2.2.2.1, fun g _ => u.2.2.2.2.2 g⟩
theorem Us.tr (u : Us h h1 a) (w : Us h1 h2 a) : Us h h2 a := ⟨w.1.trans u.1, w.2.1.trans u.2.1, w.2.2.1.trans u.2.2.1, w.2.2.2.1.trans u.2.2.2.1, w.2.2.2.2.1.trans u.2.2.2.2.1, fun g hg => ⟨(w.2.2.2.2.2 g hg).1.trans (u.2.2.2.2.2 g hg).1, (w.2.2.2.2.2 g hg).2.1.trans (u.2.2.2.2.2 g hg).2.1, (w.2.2.2.2.2 g hg).2.2.trans (u.2.2.2.2.2 g hg).2.2⟩⟩
theorem Us.tok (u : Us h h' a) : tokA h' a = tokA h a := by
  unfold tokA
  rw [u.1, (u.2.2.2.2.2 _ (tf_sf _)).1]
theorem KW.rf : KW W lo hi h h := ⟨⟨Nat.le_refl _, Nat.le_refl _⟩, fun _ _ => ⟨Uf.rf.us, fun _ => Uf.rf⟩⟩
theorem KW.tr (p : KW W lo hi h h1) (r : KW W lo hi h1 h2) : KW W lo hi h h2 := by
  refine ⟨⟨Nat.le_trans p.1.1 r.1.1, Nat.le_trans p.1.2 r.1.2⟩, fun a ha => ⟨(p.2 a ha).1.tr (r.2 a ha).1, fun ht => ((p.2 a ha).2 ht).tr ((r.2 a ha).2 ?_)⟩⟩
  rw [(p.2 a ha).1.tok]
  exact ht
theorem KW.wd (p : KW W lo hi h h') (h1 : lo1 ≤ lo) (h2 : hi ≤ hi1) : KW W lo1 hi1 h h' := ⟨p.1, fun a ha => ⟨(p.2 a ha).1, fun ht => (p.2 a ha).2 (by omega)⟩⟩
theorem KW.of (hm : hc h ≤ hc h' ∧ hs h ≤ hs h') (p : ∀ a, W a → Uf h h' a) : KW W lo hi h h' := ⟨hm, fun a ha => ⟨(p a ha).us, fun _ => p a ha⟩⟩
theorem EXs.mv (hN : ∀ a, N a → hK h a ≠ 0 → Us h h' a) (u : Us h h' b) (e : EXs N h k b x) : EXs N h' k b x := by
  obtain ⟨a1, a2, a3, a4, a5, a6⟩ := u
  obtain ⟨e1, e2, e3, e4, e5, e6, e7, e8, e9⟩ := e
  have fi : ∀ g, sf g = true → fI h' b g = fI h b g := fun g hg => (a6 g hg).1
  have fr : ∀ g, sf g = true → fR h' b g = fR h b g := fun g hg => (a6 g hg).2.2
  refine ⟨e1, e2, ?_, ?_, ?_, ?_, ?_, ?_, fun t y hy => ?_⟩
  · rw [a1, fi _ (tf_sf _)]; exact e3
  · rw [fi 329 (by decide), fi 330 (by decide)]; exact e4
  · rw [fi 331 (by decide)]; exact e5
  · rw [fi 331 (by decide)]; exact e6
  · rw [fi 336 (by decide)]; exact e7
  · rw [fi 336 (by decide)]; exact e8
  · obtain ⟨f3, f4, f5, f6⟩ := e9 t y hy
    refine ⟨?_, ?_, fun q => ?_, fun q => ?_⟩
    · rw [fi 329 (by decide), fi 330 (by decide)]; exact f3
    · rw [fi 306 (by decide), fi 307 (by decide)]; exact f4
    · obtain ⟨ee, r, so, g1, g2, g3, g4, g5, arr, g6, g7, g8, g9, g10⟩ := f5 q
      obtain ⟨c1, c2, c3, c4, c5, c6⟩ := hN so g4 (by rw [g3]; decide)
      obtain ⟨d1, d2, d3, d4, d5, d6⟩ := hN arr g8 (by rw [g7]; decide)
      exact ⟨ee, r, so, g1, (fr 342 (by decide)).trans g2, c1.trans g3, g4, ((c6 340 (by decide)).1).trans g5, arr, ((c6 339 (by decide)).2.2).trans g6, d1.trans g7, g8, by rw [d2]; exact g9, fun i x hx => by rw [d3]; exact g10 i x hx⟩
    · obtain ⟨v, vs, c, arr, g1, g2, g3, g4, g5, g6, g7, g8⟩ := f6 q
      obtain ⟨d1, d2, d3, d4, d5, d6⟩ := hN arr g5 (by rw [g3]; decide)
      exact ⟨v, vs, c, arr, g1, (fr 350 (by decide)).trans g2, d1.trans g3, d2.trans g4, g5, (fi 351 (by decide)).trans g6, g7, fun i u hu => by rw [d3]; exact g8 i u hu⟩
theorem EX.s (e : EX ts N h k b x) : EXs N h k b x := by
  obtain ⟨e1, e2, e3, e4, e5, e6, e7, e8, e9⟩ := e
  exact ⟨e1, e2, e3, e4.1, e5, e6, e7, e8, fun t y hy => (e9 t y hy).2.2⟩
/-- what is told of names -/
def EXn (ts : List (Nat × Nat × Nat)) (k : Nat) (x : Tr) : Prop := ∀ t y, x = .add t y → ((k = 1 ∨ k = 2 ∨ k = 32 ∨ k = 57) → y = .num (Vl ts (tkn x).toNat)) ∧ ((k = 33 ∨ k = 54 ∨ k = 55 ∨ k = 56 ∨ k = 58) → ∃ z, y = .add (.num (Vl ts (tkn x).toNat)) z)
def X0 (ts : List (Nat × Nat × Nat)) (N : Nat → Prop) (h : AH) (k b : Nat) (x : Tr) : Prop := EXs N h k b x ∧ EXn ts k x
theorem EX.x0 (e : EX ts N h k b x) : X0 ts N h k b x := ⟨e.s, fun t y hy => ⟨(e.2.2.2.2.2.2.2.2 t y hy).1, (e.2.2.2.2.2.2.2.2 t y hy).2.1⟩⟩
theorem ANN.mv (u : Uf h h' b) (e : Ext Z Z' D D') (a : ANN ts O Z D h k b x) : ANN ts O Z' D' h' k b x := by
  obtain ⟨-, -, -, -, -, u6⟩ := u
  intro t z hx
  obtain ⟨a1, a2, a3, a4, a5, a6, a7, a8, a9, a10⟩ := a t z hx
  refine ⟨fun q => ?_, fun q => ?_, fun q => ?_, fun q => ?_, fun q => ?_, fun q => ?_, fun q => ?_, fun q => ?_, fun q => ?_, fun q => by rw [(u6 365).1]; exact a10 q⟩
  · obtain ⟨rf, up, b1, b2, b3⟩ := a1 q
    refine ⟨rf, up, b1, fun h0 => ?_, fun h0 B hB => (u6 326).2.2.trans (b3 h0 B hB)⟩
    obtain ⟨c1, c2, c3⟩ := b2 h0
    exact ⟨(e.1 _ c1).1, (u6 326).2.2.trans (by rw [(e.1 _ c1).2]; exact c2), by rw [(u6 327).1]; exact c3⟩
  · obtain ⟨id, b1, b2⟩ := a2 q
    exact ⟨id, b1, fun h0 => ⟨Nat.lt_of_lt_of_le (b2 h0).1 e.2.1.1, (u6 328).2.2.trans (by rw [e.2.1.2 _ (b2 h0).1]; exact (b2 h0).2)⟩⟩
  · obtain ⟨b1, b2⟩ := a3 q
    exact ⟨(e.1 _ b1).1, (u6 305).2.2.trans (by rw [(e.1 _ b1).2]; exact b2)⟩
  · obtain ⟨id, w, b1, b2⟩ := a4 q
    exact ⟨id, w, b1, fun h0 => ⟨Nat.lt_of_lt_of_le (b2 h0).1 e.2.1.1, (u6 304).2.2.trans (by rw [e.2.1.2 _ (b2 h0).1]; exact (b2 h0).2)⟩⟩
  · obtain ⟨b1, b2⟩ := a5 q
    exact ⟨(e.1 _ b1).1, (u6 346).2.2.trans (by rw [(e.1 _ b1).2]; exact b2)⟩
  · obtain ⟨id, w, b1, b2, b3, b4⟩ := a6 q
    exact ⟨id, w, b1, b2, Nat.lt_of_lt_of_le b3 e.2.2.1, (u6 353).2.2.trans (by rw [e.2.2.2 _ b3]; exact b4)⟩
  · obtain ⟨id, w, b1, b2, b3, b4⟩ := a7 q
    exact ⟨id, w, b1, b2, Nat.lt_of_lt_of_le b3 e.2.1.1, (u6 363).2.2.trans (by rw [e.2.1.2 _ b3]; exact b4)⟩
  · obtain ⟨id, b1, b2⟩ := a8 q
    exact ⟨id, b1, fun h0 => by rw [(u6 357).1]; exact b2 h0⟩
  · obtain ⟨id, w, b1, b2⟩ := a9 q
    exact ⟨id, w, b1, fun h0 => ⟨Nat.lt_of_lt_of_le (b2 h0).1 e.2.2.1, (u6 356).2.2.trans (by rw [e.2.2.2 _ (b2 h0).1]; exact (b2 h0).2)⟩⟩
/-- a tree that isn't resolved yet stays -/
theorem OTG.k0 (kw : KW W lo hi h h') (hW : ∀ a, W a → hK h a ≠ 0) (hx : TR lo1 hi1 x) (k : OTG (X0 ts W h) W h x 0 0 q) : OTG (X0 ts W h') W h' x 0 0 q :=
  OTG.mv (fun a ha _ => ⟨(kw.2 a ha).1, ha⟩) (fun _ b _ _ _ hb _ e => ⟨e.1.mv (fun a ha _ => (kw.2 a ha).1) (kw.2 b hb).1, e.2⟩) x 0 0 q hx (Or.inl rfl) (fun q => by omega) (fun q => by omega) (fun q => by omega) k
/-- a resolved tree stays while another one is resolved -/
theorem OTG.k1 (kw : KW W lo hi h h') (e : Ext Z Z' D D') (hd : hi1 ≤ lo ∨ hi ≤ lo1) (hx : TR lo1 hi1 x) (k : OTG (XA ts W O Z D h) W h x 0 0 q) : OTG (XA ts W O Z' D' h') W h' x 0 0 q :=
  OTG.mv (fun a ha _ => ⟨(kw.2 a ha).1, ha⟩) (fun _ b _ t1 t2 hb _ e1 => ⟨e1.1.mv (fun a ha _ => (kw.2 a ha).1) (kw.2 b hb).1, e1.2.mv ((kw.2 b hb).2 (by
    have := e1.1.2.2.1
    unfold tokA
    rw [this]
    omega)) e⟩) x 0 0 q hx (Or.inl rfl) (fun q => by omega) (fun q => by omega) (fun q => by omega) k
end
