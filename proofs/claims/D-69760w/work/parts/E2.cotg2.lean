/-! TREES AS OBJECTS: node by node, both ways -/
section
variable {ts : List (Nat × Nat × Nat)} {N N' : Nat → Prop} {X X' : Nat → Nat → Tr → Prop} {h h' : AH} {k t i m g a q r arr : Nat} {x y : Tr} {l : List Tr} {bs : List Nat}
theorem OTG_ndg (hk2 : k < 1000) : OTG X N h (n1 k t y) 0 0 q ↔ N q ∧ hK h q ∈ kc k ∧ X k q (.add (.num t) y) ∧ OTG X N h y (2000 + 8 * k) 0 q ∧ G19 N h k q := by
  have e : ((k : Nat) : Int).toNat = k := by omega
  have e2 : OTG X N h (.add (.num t) y) (1000 + k) 0 q ↔ OTG X N h y (2000 + 8 * k) 0 q := by
    conv => lhs; unfold OTG
    rw [ef_lt (by omega), if_neg (show ¬ (1000 + k = 7) by omega), if_pos (show 1000 ≤ 1000 + k ∧ 1000 + k < 2000 by omega)]
    show OTG X N h y (2000 + 8 * (1000 + k - 1000)) 0 q ↔ _
    rw [show 1000 + k - 1000 = k by omega]
  have e3 : OTG X N h (n1 k t y) 0 0 q ↔ ∃ b, og h 0 0 q = some b ∧ N b ∧ 0 ≤ ((k : Nat) : Int) ∧ hK h b ∈ kc k ∧ X k b (.add (.num t) y) ∧ OTG X N h (.add (.num t) y) (1000 + k) 0 b ∧ G19 N h k b := by
    unfold n1
    conv => lhs; unfold OTG
    rw [ef_lt (by decide), e]
  rw [e3]
  constructor
  · rintro ⟨b, e1, f1, -, f2, f3, f4, f5⟩
    cases e1
    exact ⟨f1, f2, f3, e2.mp f4, f5⟩
  · rintro ⟨f1, f2, f3, f4, f5⟩
    exact ⟨q, rfl, f1, by omega, f2, f3, e2.mpr f4, f5⟩
theorem OTG_nd (hk2 : k < 1000) (h19 : k ≠ 19 := by decide) : OTG X N h (n1 k t y) 0 0 q ↔ N q ∧ hK h q ∈ kc k ∧ X k q (.add (.num t) y) ∧ OTG X N h y (2000 + 8 * k) 0 q := by
  rw [OTG_ndg hk2]
  exact ⟨fun ⟨a, b, c, d, _⟩ => ⟨a, b, c, d⟩, fun ⟨a, b, c, d⟩ => ⟨a, b, c, d, fun e => absurd e h19⟩⟩
theorem OTG_n0 (hk2 : k < 1000) (h19 : k ≠ 19 := by decide) : OTG X N h (n0 k t) 0 0 q ↔ N q ∧ hK h q ∈ kc k ∧ X k q (.num t) := by
  have e : ((k : Nat) : Int).toNat = k := by omega
  have e2 : OTG X N h (.num t) (1000 + k) 0 q := by
    unfold OTG
    rw [ef_lt (by omega)]
    simp only [show (1000 + k = 7 ∨ 1000 ≤ 1000 + k ∧ 1000 + k < 2000) by omega, if_true]
  have e3 : OTG X N h (n0 k t) 0 0 q ↔ ∃ b, og h 0 0 q = some b ∧ N b ∧ 0 ≤ ((k : Nat) : Int) ∧ hK h b ∈ kc k ∧ X k b (.num t) ∧ OTG X N h (.num t) (1000 + k) 0 b ∧ G19 N h k b := by
    unfold n0
    conv => lhs; unfold OTG
    rw [ef_lt (by decide), e]
  rw [e3]
  constructor
  · rintro ⟨b, e1, f1, -, f2, f3, f4, f5⟩
    cases e1
    exact ⟨f1, f2, f3⟩
  · rintro ⟨f1, f2, f3⟩
    exact ⟨q, rfl, f1, by omega, f2, f3, e2, fun e => absurd e h19⟩
theorem OTG_c2 (hm : 2000 ≤ m) (e : ef m 0 = (m, 0)) : OTG X N h (.add x y) m 0 a ↔ OTG X N h x ((cs ((m - 2000) / 8)).getD ((m - 2000) % 8) (7, 0)).1 ((cs ((m - 2000) / 8)).getD ((m - 2000) % 8) (7, 0)).2 a ∧ OTG X N h y (m + 1) 0 a := by
  conv => lhs; unfold OTG
  rw [e, if_neg (by omega), if_neg (by omega), if_pos hm]
theorem OTG_ef {m' i' : Nat} (e : ef m i = (m', i')) (hm : m' < 2000) : OTG X N h x m i a ↔ OTG X N h x m' i' a := by
  have e2 := ef_lt (i := i') hm
  cases x with
  | num v => unfold OTG; rw [e, e2]
  | mulL k y => unfold OTG; rw [e, e2]
  | add x y =>
    unfold OTG
    rw [e, e2]
    simp only [show ¬ (2000 ≤ m') by omega, if_false]
  | var _ => unfold OTG; exact Iff.rfl
  | sub _ _ => unfold OTG; exact Iff.rfl
  | neg _ => unfold OTG; exact Iff.rfl
  | mulR _ _ => unfold OTG; exact Iff.rfl
/-- only nodes stand by themselves -/
theorem OTG_0 (k : OTG X N h x 0 0 q) : ∃ kk y, x = .mulL kk y := by
  cases x with
  | mulL kk y => exact ⟨kk, y, rfl⟩
  | num v => unfold OTG at k; rw [ef_lt (by omega)] at k; simp at k
  | add _ _ => unfold OTG at k; rw [ef_lt (by omega)] at k; simp at k
  | var _ => unfold OTG at k; exact k.elim
  | sub _ _ => unfold OTG at k; exact k.elim
  | neg _ => unfold OTG at k; exact k.elim
  | mulR _ _ => unfold OTG at k; exact k.elim
theorem OTG_og (hm : m = 1 ∨ m = 2 ∨ m = 3 ∨ m = 6) : OTG X N h x m i a ↔ ∃ b, og h m i a = some b ∧ OTG X N h x 0 0 b := by
  constructor
  · intro k
    cases x with
    | mulL kk y =>
      unfold OTG at k
      rw [ef_lt (by omega)] at k
      obtain ⟨b, k1, k2⟩ := k
      refine ⟨b, k1, ?_⟩
      unfold OTG
      rw [ef_lt (by decide)]
      exact ⟨b, rfl, k2⟩
    | num v => unfold OTG at k; rw [ef_lt (by omega)] at k; rcases hm with rfl | rfl | rfl | rfl <;> simp at k
    | add _ _ => unfold OTG at k; rw [ef_lt (by omega)] at k; rcases hm with rfl | rfl | rfl | rfl <;> simp at k
    | var _ => unfold OTG at k; exact k.elim
    | sub _ _ => unfold OTG at k; exact k.elim
    | neg _ => unfold OTG at k; exact k.elim
    | mulR _ _ => unfold OTG at k; exact k.elim
  · rintro ⟨b, e, k⟩
    obtain ⟨kk, y, rfl⟩ := OTG_0 k
    unfold OTG at k ⊢
    obtain ⟨b', k1, k2⟩ := k
    rw [ef_lt (by omega)] at k1 ⊢
    cases k1
    exact ⟨b, e, k2⟩
theorem OTG_f : OTG X N h x 1 g a ↔ ∃ b, fR h a g = some b ∧ OTG X N h x 0 0 b := by
  rw [OTG_og (Or.inl rfl)]
  unfold og
  rw [if_neg (by decide), if_pos (Or.inl rfl)]
theorem OTG_a : OTG X N h x 2 i a ↔ ∃ b, aR h a i = some b ∧ OTG X N h x 0 0 b := by
  rw [OTG_og (Or.inr (Or.inl rfl))]
  unfold og
  rw [if_neg (by decide), if_neg (by decide), if_pos rfl]
theorem OTG_r : OTG X N h x 3 i a ↔ ∃ b, rowAt h a i = some b ∧ OTG X N h x 0 0 b := by
  rw [OTG_og (Or.inr (Or.inr (Or.inl rfl)))]
  unfold og
  rw [if_neg (by decide), if_neg (by decide), if_neg (by decide), if_pos rfl]
theorem OTG_6 : OTG X N h x 6 i a ↔ ∃ b, fR h a (if hK h a = 25 then 309 else 332) = some b ∧ OTG X N h x 0 0 b := by
  rw [OTG_og (Or.inr (Or.inr (Or.inr rfl)))]
  unfold og
  rw [if_neg (by decide), if_neg (by decide), if_neg (by decide), if_neg (by decide), if_pos rfl]
/-- a node or none -/
theorem OTG_5 : OTG X N h x 5 g a ↔ (x = .num 0 ∧ fR h a g = none) ∨ ∃ b, fR h a g = some b ∧ OTG X N h x 0 0 b := by
  constructor
  · intro k
    cases x with
    | mulL kk y =>
      unfold OTG at k
      rw [ef_lt (by omega)] at k
      obtain ⟨b, k1, k2⟩ := k
      unfold og at k1
      rw [if_neg (show ¬ (5 = 0) by decide), if_pos (Or.inr rfl)] at k1
      refine Or.inr ⟨b, k1, ?_⟩
      unfold OTG
      rw [ef_lt (by decide)]
      exact ⟨b, rfl, k2⟩
    | num v =>
      unfold OTG at k
      rw [ef_lt (by omega)] at k
      simp at k
      exact Or.inl ⟨by rw [k.1], k.2⟩
    | add _ _ => unfold OTG at k; rw [ef_lt (by omega)] at k; simp at k
    | var _ => unfold OTG at k; exact k.elim
    | sub _ _ => unfold OTG at k; exact k.elim
    | neg _ => unfold OTG at k; exact k.elim
    | mulR _ _ => unfold OTG at k; exact k.elim
  · rintro (⟨rfl, e⟩ | ⟨b, e, k⟩)
    · unfold OTG
      rw [ef_lt (by decide)]
      simpa using e
    · obtain ⟨kk, y, rfl⟩ := OTG_0 k
      unfold OTG at k ⊢
      obtain ⟨b', k1, k2⟩ := k
      rw [ef_lt (by omega)] at k1 ⊢
      cases k1
      exact ⟨b, by unfold og; rw [if_neg (show ¬ (5 = 0) by decide), if_pos (Or.inr rfl)]; exact e, k2⟩
theorem OTG_7 (hx : (∃ v, x = .num v) ∨ ∃ y z, x = .add y z) : OTG X N h x 7 i a := by
  rcases hx with ⟨v, rfl⟩ | ⟨y, z, rfl⟩
  · unfold OTG; rw [ef_lt (by decide)]; simp
  · unfold OTG; rw [ef_lt (by decide)]; simp
/-- the nodes of a list, and where they lie -/
def TG (X : Nat → Nat → Tr → Prop) (N : Nat → Prop) (h : AH) (at' : Nat → Option Nat) (l : List Tr) : Prop := ∀ (i : Nat) (x : Tr), l[i]? = some x → ∃ b, at' i = some b ∧ OTG X N h x 0 0 b
theorem TG_nil {f : Nat → Option Nat} : TG X N h f [] := fun i x hx => by simp at hx
theorem TG_cons {f : Nat → Option Nat} : TG X N h f (x :: l) ↔ (∃ b, f 0 = some b ∧ OTG X N h x 0 0 b) ∧ TG X N h (fun i => f (i + 1)) l := by
  constructor
  · intro k
    exact ⟨k 0 x rfl, fun i y hy => k (i + 1) y (by simpa using hy)⟩
  · rintro ⟨k1, k2⟩ i y hy
    cases i with
    | zero => cases hy; exact k1
    | succ i => exact k2 i y (by simpa using hy)
theorem OTG_11 : ∀ (l : List Tr) (i : Nat), OTG X N h (ls l) 11 i arr ↔ hL h arr = i + l.length ∧ TG X N h (fun j => aR h arr (i + j)) l := by
  intro l
  induction l with
  | nil =>
    intro i
    unfold ls OTG
    rw [ef_lt (by decide)]
    simp only [show ¬ (11 = 7 ∨ 1000 ≤ 11 ∧ 11 < 2000) by decide, show ¬ (11 = 5) by decide, show (11 = 11 ∨ 11 = 13) by decide, if_false, if_true, List.length_nil, Nat.add_zero, true_and]
    exact ⟨fun e => ⟨e, TG_nil⟩, fun e => e.1⟩
  | cons x l ih =>
    intro i
    unfold ls
    conv => lhs; unfold OTG
    rw [ef_lt (by decide)]
    simp only [show ¬ (11 = 7) by decide, show ¬ (1000 ≤ 11 ∧ 11 < 2000) by decide, show ¬ (2000 ≤ 11) by decide, if_false, if_true]
    rw [ih, OTG_a, TG_cons, List.length_cons]
    have e : (fun j => aR h arr (i + 1 + j)) = fun j => aR h arr (i + (j + 1)) := by funext j; rw [show i + 1 + j = i + (j + 1) by omega]
    rw [e]
    constructor
    · rintro ⟨a1, a2, a3⟩
      exact ⟨by omega, a1, a3⟩
    · rintro ⟨a1, a2, a3⟩
      exact ⟨a2, by omega, a3⟩
theorem OTG_arr : OTG X N h (ls l) 21 g a ↔ ∃ arr, ArF N h a g arr ∧ hL h arr = l.length ∧ TG X N h (aR h arr) l := by
  cases l with
  | nil =>
    unfold ls OTG
    rw [ef_lt (by decide)]
    simp only [show ¬ (21 = 7 ∨ 1000 ≤ 21 ∧ 21 < 2000) by decide, show ¬ (21 = 5) by decide, show ¬ (21 = 11 ∨ 21 = 13) by decide, show ¬ (21 = 12) by decide, show (21 = 21 ∨ 21 = 23) by decide, if_false, if_true, List.length_nil, true_and]
    exact ⟨fun ⟨b, b1, b2⟩ => ⟨b, b1, b2, TG_nil⟩, fun ⟨b, b1, b2, _⟩ => ⟨b, b1, b2⟩⟩
  | cons x l =>
    unfold ls
    conv => lhs; unfold OTG
    rw [ef_lt (by decide)]
    simp only [show ¬ (21 = 7) by decide, show ¬ (1000 ≤ 21 ∧ 21 < 2000) by decide, show ¬ (2000 ≤ 21) by decide, show ¬ (21 = 11) by decide, show ¬ (21 = 12) by decide, show ¬ (21 = 13) by decide, show ¬ (21 = 30) by decide, if_false, if_true]
    constructor
    · rintro ⟨b, b1, b2, b3⟩
      rw [OTG_11] at b3
      rw [OTG_a] at b2
      refine ⟨b, b1, by rw [b3.1, List.length_cons]; omega, TG_cons.mpr ⟨b2, ?_⟩⟩
      have e : (fun j => aR h b (1 + j)) = fun j => aR h b (j + 1) := by funext j; rw [Nat.add_comm]
      rw [← e]
      exact b3.2
    · rintro ⟨b, b1, b2, b3⟩
      obtain ⟨c1, c2⟩ := TG_cons.mp b3
      refine ⟨b, b1, OTG_a.mpr c1, (OTG_11 l 1).mpr ⟨by rw [b2, List.length_cons]; omega, ?_⟩⟩
      have e : (fun j => aR h b (1 + j)) = fun j => aR h b (j + 1) := by funext j; rw [Nat.add_comm]
      rw [e]
      exact c2
theorem OTG_12 : ∀ (l : List Tr) (i : Nat), OTG X N h (ls l) 12 i r ↔ fI h r 78 = nI (i + l.length) ∧ TG X N h (fun j => rowAt h r (i + j)) l := by
  intro l
  induction l with
  | nil =>
    intro i
    unfold ls OTG
    rw [ef_lt (by decide)]
    simp only [show ¬ (12 = 7 ∨ 1000 ≤ 12 ∧ 12 < 2000) by decide, show ¬ (12 = 5) by decide, show ¬ (12 = 11 ∨ 12 = 13) by decide, if_false, if_true, List.length_nil, Nat.add_zero, true_and]
    exact ⟨fun e => ⟨e, TG_nil⟩, fun e => e.1⟩
  | cons x l ih =>
    intro i
    unfold ls
    conv => lhs; unfold OTG
    rw [ef_lt (by decide)]
    simp only [show ¬ (12 = 7) by decide, show ¬ (1000 ≤ 12 ∧ 12 < 2000) by decide, show ¬ (2000 ≤ 12) by decide, show ¬ (12 = 11) by decide, if_false, if_true]
    rw [ih, OTG_r, TG_cons, List.length_cons]
    have e : (fun j => rowAt h r (i + 1 + j)) = fun j => rowAt h r (i + (j + 1)) := by funext j; rw [show i + 1 + j = i + (j + 1) by omega]
    rw [e, show i + 1 + l.length = i + (l.length + 1) by omega]
    exact ⟨fun ⟨a1, a2, a3⟩ => ⟨a2, a1, a3⟩, fun ⟨a1, a2, a3⟩ => ⟨a2, a1, a3⟩⟩
theorem OTG_row : OTG X N h (ls l) 22 g a ↔ ∃ r, fR h a g = some r ∧ RowL N h r l.length ∧ TG X N h (rowAt h r) l := by
  cases l with
  | nil =>
    unfold ls OTG
    rw [ef_lt (by decide)]
    simp only [show ¬ (22 = 7 ∨ 1000 ≤ 22 ∧ 22 < 2000) by decide, show ¬ (22 = 5) by decide, show ¬ (22 = 11 ∨ 22 = 13) by decide, show ¬ (22 = 12) by decide, show ¬ (22 = 21 ∨ 22 = 23) by decide, if_false, if_true, List.length_nil, true_and]
    exact ⟨fun ⟨b, b1, b2⟩ => ⟨b, b1, b2, TG_nil⟩, fun ⟨b, b1, b2, _⟩ => ⟨b, b1, b2⟩⟩
  | cons x l =>
    unfold ls
    conv => lhs; unfold OTG
    rw [ef_lt (by decide)]
    simp only [show ¬ (22 = 7) by decide, show ¬ (1000 ≤ 22 ∧ 22 < 2000) by decide, show ¬ (2000 ≤ 22) by decide, show ¬ (22 = 11) by decide, show ¬ (22 = 12) by decide, show ¬ (22 = 13) by decide, show ¬ (22 = 30) by decide, show ¬ (22 = 21) by decide, show ¬ (22 = 23) by decide, if_false, if_true]
    constructor
    · rintro ⟨b, b1, b2, b3, b4⟩
      rw [OTG_12] at b4
      rw [OTG_r] at b3
      rw [len_ls] at b2
      refine ⟨b, b1, b2, TG_cons.mpr ⟨b3, ?_⟩⟩
      have e : (fun j => rowAt h b (1 + j)) = fun j => rowAt h b (j + 1) := by funext j; rw [Nat.add_comm]
      rw [← e]
      exact b4.2
    · rintro ⟨b, b1, b2, b3⟩
      obtain ⟨c1, c2⟩ := TG_cons.mp b3
      refine ⟨b, b1, by rw [len_ls]; exact b2, OTG_r.mpr c1, (OTG_12 l 1).mpr ⟨?_, ?_⟩⟩
      · obtain ⟨l', n, e, k, -⟩ := b2
        rw [k.2.1, e, List.length_cons, Nat.add_comm]
      · have e : (fun j => rowAt h b (1 + j)) = fun j => rowAt h b (j + 1) := by funext j; rw [Nat.add_comm]
        rw [e]
        exact c2
/-- operands behind signs -/
theorem OTG_13 : ∀ (ps : List (Nat × Tr)) (i : Nat), OTG X N h (ls (ps.map opx)) 13 i arr ↔ hL h arr = i + ps.length ∧ TG X N h (fun j => aR h arr (i + j)) (ps.map (·.2)) := by
  intro ps
  induction ps with
  | nil =>
    intro i
    unfold List.map ls OTG
    rw [ef_lt (by decide)]
    simp only [show ¬ (13 = 7 ∨ 1000 ≤ 13 ∧ 13 < 2000) by decide, show ¬ (13 = 5) by decide, show (13 = 11 ∨ 13 = 13) by decide, if_false, if_true, List.length_nil, Nat.add_zero, true_and]
    exact ⟨fun e => ⟨e, TG_nil⟩, fun e => e.1⟩
  | cons p l ih =>
    intro i
    have e30 : OTG X N h (opx p) 30 i arr ↔ OTG X N h p.2 2 i arr := by
      unfold opx
      conv => lhs; unfold OTG
      rw [ef_lt (by decide)]
      simp only [show ¬ (30 = 7) by decide, show ¬ (1000 ≤ 30 ∧ 30 < 2000) by decide, show ¬ (2000 ≤ 30) by decide, show ¬ (30 = 11) by decide, show ¬ (30 = 12) by decide, show ¬ (30 = 13) by decide, if_false, if_true]
    have e13 : OTG X N h (ls ((p :: l).map opx)) 13 i arr ↔ OTG X N h (opx p) 30 i arr ∧ OTG X N h (ls (l.map opx)) 13 (i + 1) arr := by
      show OTG X N h (.add (opx p) (ls (l.map opx))) 13 i arr ↔ _
      generalize opx p = z, ls (l.map opx) = w
      conv => lhs; unfold OTG
      rw [ef_lt (by decide)]
      simp only [show ¬ (13 = 7) by decide, show ¬ (1000 ≤ 13 ∧ 13 < 2000) by decide, show ¬ (2000 ≤ 13) by decide, show ¬ (13 = 11) by decide, show ¬ (13 = 12) by decide, if_false, if_true]
    rw [e13, e30, ih, OTG_a, List.map_cons, TG_cons, List.length_cons]
    have e : (fun j => aR h arr (i + 1 + j)) = fun j => aR h arr (i + (j + 1)) := by funext j; rw [show i + 1 + j = i + (j + 1) by omega]
    rw [e]
    constructor
    · rintro ⟨a1, a2, a3⟩
      exact ⟨by omega, a1, a3⟩
    · rintro ⟨a1, a2, a3⟩
      exact ⟨a2, by omega, a3⟩
theorem OTG_chn {ps : List (Nat × Tr)} : OTG X N h (ls (ps.map opx)) 23 g a ↔ ∃ arr, ArF N h a g arr ∧ hL h arr = ps.length ∧ TG X N h (aR h arr) (ps.map (·.2)) := by
  cases ps with
  | nil =>
    unfold List.map ls OTG
    rw [ef_lt (by decide)]
    simp only [show ¬ (23 = 7 ∨ 1000 ≤ 23 ∧ 23 < 2000) by decide, show ¬ (23 = 5) by decide, show ¬ (23 = 11 ∨ 23 = 13) by decide, show ¬ (23 = 12) by decide, show (23 = 21 ∨ 23 = 23) by decide, if_false, if_true, List.length_nil, true_and]
    exact ⟨fun ⟨b, b1, b2⟩ => ⟨b, b1, b2, TG_nil⟩, fun ⟨b, b1, b2, _⟩ => ⟨b, b1, b2⟩⟩
  | cons p l =>
    have e30 : ∀ arr, OTG X N h (opx p) 30 0 arr ↔ OTG X N h p.2 2 0 arr := by
      intro arr
      unfold opx
      conv => lhs; unfold OTG
      rw [ef_lt (by decide)]
      simp only [show ¬ (30 = 7) by decide, show ¬ (1000 ≤ 30 ∧ 30 < 2000) by decide, show ¬ (2000 ≤ 30) by decide, show ¬ (30 = 11) by decide, show ¬ (30 = 12) by decide, show ¬ (30 = 13) by decide, if_false, if_true]
    have e23 : OTG X N h (ls ((p :: l).map opx)) 23 g a ↔ ∃ b, ArF N h a g b ∧ OTG X N h (opx p) 30 0 b ∧ OTG X N h (ls (l.map opx)) 13 1 b := by
      show OTG X N h (.add (opx p) (ls (l.map opx))) 23 g a ↔ _
      generalize opx p = z, ls (l.map opx) = w
      conv => lhs; unfold OTG
      rw [ef_lt (by decide)]
      simp only [show ¬ (23 = 7) by decide, show ¬ (1000 ≤ 23 ∧ 23 < 2000) by decide, show ¬ (2000 ≤ 23) by decide, show ¬ (23 = 11) by decide, show ¬ (23 = 12) by decide, show ¬ (23 = 13) by decide, show ¬ (23 = 30) by decide, show ¬ (23 = 21) by decide, if_false, if_true]
    rw [e23]
    constructor
    · rintro ⟨b, b1, b2, b3⟩
      rw [OTG_13] at b3
      rw [e30, OTG_a] at b2
      refine ⟨b, b1, by rw [b3.1, List.length_cons]; omega, TG_cons.mpr ⟨b2, ?_⟩⟩
      have e : (fun j => aR h b (1 + j)) = fun j => aR h b (j + 1) := by funext j; rw [Nat.add_comm]
      rw [← e]
      exact b3.2
    · rintro ⟨b, b1, b2, b3⟩
      obtain ⟨c1, c2⟩ := TG_cons.mp b3
      refine ⟨b, b1, by rw [e30, OTG_a]; exact c1, (OTG_13 l 1).mpr ⟨by rw [b2, List.length_cons]; omega, ?_⟩⟩
      have e : (fun j => aR h b (1 + j)) = fun j => aR h b (j + 1) := by funext j; rw [Nat.add_comm]
      rw [e]
      exact c2
end
