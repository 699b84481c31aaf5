/-! TREES AS OBJECTS -/
/-- the children of a kind behind its token: in which way, in which field (1 a node, 5 a node or none, 6 a group's, 7 told elsewhere, 21 a list in an array, 22 in a row, 23 a chain's) -/
def cs (k : Nat) : List (Nat × Nat) :=
  if k = 1 ∨ k = 2 ∨ k = 3 ∨ k = 4 ∨ k = 32 ∨ k = 34 ∨ k = 35 ∨ k = 57 then [(7, 0)]
  else if k = 8 ∨ k = 9 ∨ k = 10 then [(21, 333)] else if k = 37 then [(21, 310)] else if k = 38 then [(21, 308)]
  else if k = 11 then [(22, 298), (1, 299)] else if k = 12 then [(22, 319)] else if k = 13 then [(1, 321), (22, 322)] else if k = 14 then [(1, 323), (1, 324), (1, 325)]
  else if k = 15 then [(1, 334), (21, 335)] else if k = 16 then [(1, 341), (23, 343)] else if k = 17 ∨ k = 18 then [(1, 337), (1, 338)] else if k = 19 then [(6, 0)]
  else if k = 33 then [(7, 0), (5, 303)] else if k = 39 then [(1, 311), (1, 312)] else if k = 50 then [(7, 0), (21, 317), (1, 318)] else if k = 51 then [(1, 314), (1, 315)]
  else if k = 52 then [(22, 348)] else if k = 53 then [(22, 364)] else if k = 54 then [(7, 0), (22, 345)] else if k = 55 then [(7, 0), (7, 0), (22, 352)] else if k = 56 then [(7, 0), (5, 362)]
  else if k = 58 then [(7, 0), (22, 355)] else if k = 59 then [(1, 359), (1, 360)] else if k = 60 then [(22, 358)] else []
/-- the kinds of the cells of a kind's objects -/
def kc (k : Nat) : List Nat :=
  if k = 1 then [33] else if k = 2 then [34] else if k = 3 ∨ k = 4 ∨ k = 5 then [35] else if k = 6 ∨ k = 7 then [36] else if k = 8 then [38] else if k = 9 then [39] else if k = 10 then [40] else if k = 11 then [17]
  else if k = 12 then [30] else if k = 13 then [31] else if k = 14 then [32] else if k = 15 then [41] else if k = 16 then [44] else if k = 17 ∨ k = 18 then [42] else if k = 19 then [25, 37]
  else if k = 31 then [20] else if k = 32 then [21] else if k = 33 then [19] else if k = 34 ∨ k = 35 then [22] else if k = 36 then [24] else if k = 37 then [26] else if k = 38 then [23] else if k = 39 then [27]
  else if k = 50 then [29] else if k = 51 then [28] else if k = 52 then [46] else if k = 53 then [53] else if k = 54 then [45] else if k = 55 then [47] else if k = 56 then [52] else if k = 57 then [49] else if k = 58 then [48] else if k = 59 then [51] else if k = 60 then [50] else []
/-- the field of the token, by the cell's kind -/
def tf (c : Nat) : Nat := if 19 ≤ c ∧ c ≤ 27 then 302 else if c = 28 ∨ c = 46 ∨ c = 53 then 313 else if c = 29 then 316 else if c = 45 then 344 else if c = 47 then 349 else if c = 52 then 361 else if 48 ≤ c ∧ c ≤ 51 then 354 else 296
def ef (m i : Nat) : Nat × Nat := if 2000 ≤ m then (if (m - 2000) % 8 + 1 = (cs ((m - 2000) / 8)).length then (cs ((m - 2000) / 8)).getD ((m - 2000) % 8) (7, 0) else (m, i)) else (m, i)
def rowAt (h : AH) (r i : Nat) : Option Nat := (fR h r 77).bind fun arr => (aR h arr i).bind fun sp => fR h sp 79
/-- where a node lies -/
def og (h : AH) (m i a : Nat) : Option Nat := if m = 0 then some a else if m = 1 ∨ m = 5 then fR h a i else if m = 2 then aR h a i else if m = 3 then rowAt h a i else if m = 6 then fR h a (if hK h a = 25 then 309 else 332) else none
/-- the kind of the array in a field: of patterns or of expressions -/
def aK (g : Nat) : Nat := if g = 308 ∨ g = 310 ∨ g = 317 then 1008 else 1009
theorem aK_ne (g : Nat) : aK g ≠ 0 := by
  unfold aK
  split <;> decide
def ArF (N : Nat → Prop) (h : AH) (a g b : Nat) : Prop := fR h a g = some b ∧ hK h b = aK g ∧ N b
def RowL (N : Nat → Prop) (h : AH) (r m : Nat) : Prop := ∃ l n, l.length = m ∧ RowC h r l n ∧ N r ∧ ∀ arr, fR h r 77 = some arr → N arr ∧ ∀ i sp, aR h arr i = some sp → N sp ∧ hK h sp = 7
def tkn : Tr → Int
  | .num t => t
  | .add (.num t) _ => t
  | _ => -1
/-- the signs of a chain -/
def SgC (N : Nat → Prop) (h : AH) (so : Nat) (l : List Int32) : Prop := hK h so = 43 ∧ N so ∧ fI h so 340 = nI l.length ∧ ∃ arr, fR h so 339 = some arr ∧ hK h arr = 1000 ∧ N arr ∧ l.length ≤ hL h arr ∧ ∀ i x, l[i]? = some x → aI h arr i = x
def sgs : Tr → List Int32
  | .add (.add (.num s) _) r => nI s.toNat :: sgs r
  | _ => []
/-- the tokens of a list of nodes -/
def tks : Tr → List Int32
  | .add (.mulL _ x) r => nI (tkn x).toNat :: tks r
  | _ => []
/-- what an object holds besides its children -/
def EX (ts : List (Nat × Nat × Nat)) (N : Nat → Prop) (h : AH) (k b : Nat) (x : Tr) : Prop :=
  0 ≤ tkn x ∧ tkn x < 5000 ∧ (fI h b (tf (hK h b))).toInt = tkn x ∧
  ((k = 5 → fI h b 329 = 2 ∧ fI h b 330 = 0) ∧ (k = 53 → fI h b 365 = 0) ∧ (k = 19 → ∃ t z, x = .add t z)) ∧ (k = 6 → fI h b 331 = 2) ∧ (k = 7 → fI h b 331 = 3) ∧ (k = 17 → fI h b 336 = 286) ∧ (k = 18 → fI h b 336 = 64) ∧
  ∀ t y, x = .add t y →
    ((k = 1 ∨ k = 2 ∨ k = 32 ∨ k = 57) → y = .num (Vl ts (tkn x).toNat)) ∧ ((k = 33 ∨ k = 54 ∨ k = 55 ∨ k = 56 ∨ k = 58) → ∃ z, y = .add (.num (Vl ts (tkn x).toNat)) z) ∧
    ((k = 3 ∨ k = 4) → ∃ v, y = .num v ∧ (fI h b 330).toInt = v ∧ fI h b 329 = (if k = 3 then 0 else 1)) ∧ ((k = 34 ∨ k = 35) → ∃ v, y = .num v ∧ (fI h b 306).toInt = v ∧ fI h b 307 = (if k = 34 then 0 else 1)) ∧
    (k = 16 → ∃ e r so, y = .add e r ∧ fR h b 342 = some so ∧ SgC N h so (sgs r)) ∧
    (k = 55 → ∃ v vs c arr, y = .add v (.add vs c) ∧ fR h b 350 = some arr ∧ hK h arr = 1000 ∧ hL h arr = 6 ∧ N arr ∧ fI h b 351 = nI (tks vs).length ∧ (tks vs).length ≤ 6 ∧ ∀ i u, (tks vs)[i]? = some u → aI h arr i = u)
/-- brackets: whether they are a pattern's is told by what they hold -/
def G19 (N : Nat → Prop) (h : AH) (k b : Nat) : Prop := k = 19 → ∃ c, N c ∧ hK h c ≠ 0 ∧ fR h b (if hK h b = 25 then 309 else 332) = some c ∧ ((hK h b = 25 ∧ 19 ≤ hK h c ∧ hK h c ≤ 27) ∨ (hK h b = 37 ∧ ¬ (19 ≤ hK h c ∧ hK h c ≤ 27)))
/-- the tree lies, in the way m, at the place i of a; all its cells are in N -/
def OT (ts : List (Nat × Nat × Nat)) (N : Nat → Prop) (h : AH) : Tr → Nat → Nat → Nat → Prop
  | .num v, m, i, a =>
    if (ef m i).1 = 7 ∨ (1000 ≤ (ef m i).1 ∧ (ef m i).1 < 2000) then True else if (ef m i).1 = 5 then v = 0 ∧ fR h a (ef m i).2 = none else if (ef m i).1 = 11 ∨ (ef m i).1 = 13 then v = 0 ∧ hL h a = (ef m i).2
    else if (ef m i).1 = 12 then v = 0 ∧ fI h a 78 = nI (ef m i).2 else if (ef m i).1 = 21 ∨ (ef m i).1 = 23 then v = 0 ∧ ∃ b, ArF N h a (ef m i).2 b ∧ hL h b = 0
    else if (ef m i).1 = 22 then v = 0 ∧ ∃ b, fR h a (ef m i).2 = some b ∧ RowL N h b 0 else False
  | .mulL k x, m, i, a => ∃ b, og h (ef m i).1 (ef m i).2 a = some b ∧ N b ∧ 0 ≤ k ∧ hK h b ∈ kc k.toNat ∧ EX ts N h k.toNat b x ∧ OT ts N h x (1000 + k.toNat) 0 b ∧ G19 N h k.toNat b
  | .add x y, m, i, a =>
    if (ef m i).1 = 7 then True else if 1000 ≤ (ef m i).1 ∧ (ef m i).1 < 2000 then OT ts N h y (2000 + 8 * ((ef m i).1 - 1000)) 0 a
    else if 2000 ≤ (ef m i).1 then OT ts N h x ((cs ((m - 2000) / 8)).getD ((m - 2000) % 8) (7, 0)).1 ((cs ((m - 2000) / 8)).getD ((m - 2000) % 8) (7, 0)).2 a ∧ OT ts N h y (m + 1) 0 a
    else if (ef m i).1 = 11 then OT ts N h x 2 (ef m i).2 a ∧ OT ts N h y 11 ((ef m i).2 + 1) a
    else if (ef m i).1 = 12 then OT ts N h x 3 (ef m i).2 a ∧ OT ts N h y 12 ((ef m i).2 + 1) a
    else if (ef m i).1 = 13 then OT ts N h x 30 (ef m i).2 a ∧ OT ts N h y 13 ((ef m i).2 + 1) a
    else if (ef m i).1 = 30 then OT ts N h y 2 (ef m i).2 a
    else if (ef m i).1 = 21 then ∃ b, ArF N h a (ef m i).2 b ∧ OT ts N h x 2 0 b ∧ OT ts N h y 11 1 b
    else if (ef m i).1 = 23 then ∃ b, ArF N h a (ef m i).2 b ∧ OT ts N h x 30 0 b ∧ OT ts N h y 13 1 b
    else if (ef m i).1 = 22 then ∃ b, fR h a (ef m i).2 = some b ∧ RowL N h b (len y + 1) ∧ OT ts N h x 3 0 b ∧ OT ts N h y 12 1 b else False
  | _, _, _, _ => False
section
variable {ts : List (Nat × Nat × Nat)} {N N' : Nat → Prop} {h h' : AH}
theorem cs_ok : ∀ k, k < 100 → ∀ j, j < (cs k).length → (((cs k).getD j (7, 0)).1 ≤ 7 ∨ ((cs k).getD j (7, 0)).1 = 21 ∨ ((cs k).getD j (7, 0)).1 = 22 ∨ ((cs k).getD j (7, 0)).1 = 23) ∧ (((cs k).getD j (7, 0)).2 < 115 ∨ 118 < ((cs k).getD j (7, 0)).2) := by decide +kernel
theorem cs_big (k : Nat) (hk : 100 ≤ k) : cs k = [] := by
  unfold cs
  repeat' rw [if_neg (by omega)]
theorem cs_fld (k j : Nat) : ((cs k).getD j (7, 0)).2 < 115 ∨ 118 < ((cs k).getD j (7, 0)).2 := by
  by_cases hk : k < 100
  · by_cases hj : j < (cs k).length
    · exact (cs_ok k hk j hj).2
    · rw [List.getD, List.getElem?_eq_none (by omega)]
      exact Or.inl (by decide)
  · rw [cs_big k (by omega)]
    exact Or.inl (by simp)
theorem cs_ne (k j : Nat) : ((cs k).getD j (7, 0)).1 ≤ 7 ∨ ((cs k).getD j (7, 0)).1 = 21 ∨ ((cs k).getD j (7, 0)).1 = 22 ∨ ((cs k).getD j (7, 0)).1 = 23 := by
  by_cases hk : k < 100
  · by_cases hj : j < (cs k).length
    · exact (cs_ok k hk j hj).1
    · rw [List.getD, List.getElem?_eq_none (by omega)]
      exact Or.inl (by decide)
  · rw [cs_big k (by omega)]
    exact Or.inl (by simp)
/-- a row's cells stay -/
theorem RowL.mv {r m : Nat} (hN : ∀ a, N a → hK h a ≠ 0 → Uk h h' a ∧ N' a) (k : RowL N h r m) : RowL N' h' r m ∧ (∀ i, rowAt h' r i = rowAt h r i) ∧ fI h' r 78 = fI h r 78 := by
  obtain ⟨l, n, e, k, kN, kA⟩ := k
  obtain ⟨k1, k2, k3, k7, k8, arr, k4, k5, k6, k9⟩ := id k
  obtain ⟨⟨a1, a2, a3, a4, a5, a6⟩, nr⟩ := hN r kN (by rw [k1]; decide)
  obtain ⟨na, nsp⟩ := kA arr k4
  obtain ⟨⟨b1, b2, b3, b4, b5, b6⟩, na'⟩ := hN arr na (by rw [k5]; decide)
  have e77 : fR h' r 77 = some arr := ((a6 77 (by decide)).2.2).trans k4
  have sp : ∀ i sp, aR h arr i = some sp → (hK h' sp = 7 ∧ N' sp) ∧ fR h' sp 79 = fR h sp 79 := by
    intro i s hs
    obtain ⟨q1, q2⟩ := nsp i s hs
    obtain ⟨⟨c1, c2, c3, c4, c5, c6⟩, ns⟩ := hN s q1 (by rw [q2]; decide)
    exact ⟨⟨c1.trans q2, ns⟩, (c6 79 (by decide)).2.2⟩
  refine ⟨⟨l, n, e, ⟨a1.trans k1, ((a6 78 (by decide)).1).trans k2, k3, k7, k8, arr, e77, b1.trans k5, b2.trans k6, fun i x hx => ?_⟩, nr, fun arr' e => ?_⟩, fun i => ?_, (a6 78 (by decide)).1⟩
  · obtain ⟨s, s1, s2, s3⟩ := k9 i x hx
    exact ⟨s, by rw [b5]; exact s1, (sp i s s1).1.1, (sp i s s1).2.trans s3⟩
  · cases e77.symm.trans e
    exact ⟨na', fun i s hs => by rw [b5] at hs; exact ⟨(sp i s hs).1.2, (sp i s hs).1.1⟩⟩
  · unfold rowAt
    rw [e77, k4]
    show (aR h' arr i).bind _ = (aR h arr i).bind _
    rw [b5]
    cases hs : aR h arr i with
    | none => rfl
    | some s => exact (sp i s hs).2
theorem tf_ok (c : Nat) : tf c < 115 ∨ 118 < tf c := by
  unfold tf
  repeat' split
  all_goals (right; decide)
theorem EX.mv {k b : Nat} {x : Tr} (hN : ∀ a, N a → hK h a ≠ 0 → Uk h h' a ∧ N' a) (u : Uk h h' b) (e : EX ts N h k b x) : EX ts N' h' k b x := by
  obtain ⟨a1, a2, a3, a4, a5, a6⟩ := u
  obtain ⟨e1, e2, e3, e4, e5, e6, e7, e8, e9⟩ := e
  have fi : ∀ g, (g < 115 ∨ 118 < g) → fI h' b g = fI h b g := fun g hg => (a6 g hg).1
  have fr : ∀ g, (g < 115 ∨ 118 < g) → fR h' b g = fR h b g := fun g hg => (a6 g hg).2.2
  refine ⟨e1, e2, ?_, ?_, ?_, ?_, ?_, ?_, fun t y hy => ?_⟩
  · rw [a1, fi _ (tf_ok _)]; exact e3
  · rw [fi 329 (by decide), fi 330 (by decide), fi 365 (by decide)]; exact e4
  · rw [fi 331 (by decide)]; exact e5
  · rw [fi 331 (by decide)]; exact e6
  · rw [fi 336 (by decide)]; exact e7
  · rw [fi 336 (by decide)]; exact e8
  · obtain ⟨f1, f2, f3, f4, f5, f6⟩ := e9 t y hy
    refine ⟨f1, f2, ?_, ?_, fun q => ?_, fun q => ?_⟩
    · rw [fi 329 (by decide), fi 330 (by decide)]; exact f3
    · rw [fi 306 (by decide), fi 307 (by decide)]; exact f4
    · obtain ⟨ee, r, so, g1, g2, g3, g4, g5, arr, g6, g7, g8, g9, g10⟩ := f5 q
      obtain ⟨⟨c1, c2, c3, c4, c5, c6⟩, ns⟩ := hN so g4 (by rw [g3]; decide)
      obtain ⟨⟨d1, d2, d3, d4, d5, d6⟩, na⟩ := hN arr g8 (by rw [g7]; decide)
      exact ⟨ee, r, so, g1, (fr 342 (by decide)).trans g2, c1.trans g3, ns, ((c6 340 (by decide)).1).trans g5, arr, ((c6 339 (by decide)).2.2).trans g6, d1.trans g7, na, by rw [d2]; exact g9, fun i x hx => by rw [d3]; exact g10 i x hx⟩
    · obtain ⟨v, vs, c, arr, g1, g2, g3, g4, g5, g6, g7, g8⟩ := f6 q
      obtain ⟨⟨d1, d2, d3, d4, d5, d6⟩, na⟩ := hN arr g5 (by rw [g3]; decide)
      exact ⟨v, vs, c, arr, g1, (fr 350 (by decide)).trans g2, d1.trans g3, d2.trans g4, na, (fi 351 (by decide)).trans g6, g7, fun i u hu => by rw [d3]; exact g8 i u hu⟩
theorem G19.mv {k b : Nat} (hN : ∀ a, N a → hK h a ≠ 0 → Uk h h' a ∧ N' a) (u : Uk h h' b) (e : G19 N h k b) : G19 N' h' k b := by
  intro q
  obtain ⟨c, c1, c2, c3, c4⟩ := e q
  obtain ⟨uc, nc⟩ := hN c c1 c2
  refine ⟨c, nc, by rw [uc.1]; exact c2, ?_, by rw [u.1, uc.1]; exact c4⟩
  rw [u.1, (u.2.2.2.2.2 _ (by split <;> decide)).2.2]
  exact c3
theorem ef_lt {m i : Nat} (hm : m < 2000) : ef m i = (m, i) := by unfold ef; rw [if_neg (by omega)]
theorem ef_fld (m i : Nat) : ef m i = (m, i) ∨ (2000 ≤ m ∧ ((ef m i).2 < 115 ∨ 118 < (ef m i).2) ∧ ((ef m i).1 ≤ 7 ∨ (ef m i).1 = 21 ∨ (ef m i).1 = 22 ∨ (ef m i).1 = 23)) := by
  unfold ef
  split
  · next hm =>
    split
    · exact Or.inr ⟨hm, cs_fld _ _, cs_ne _ _⟩
    · exact Or.inl rfl
  · exact Or.inl rfl
/-- a tree's cells stay: it is there still -/
theorem OT.mv (hN : ∀ a, N a → hK h a ≠ 0 → Uk h h' a ∧ N' a) : ∀ (x : Tr) (m i a : Nat), (m = 0 ∨ Uk h h' a) → ((m = 1 ∨ m = 5 ∨ m = 21 ∨ m = 22 ∨ m = 23) → i < 115 ∨ 118 < i) → (m = 3 → rowAt h' a i = rowAt h a i) → (m = 12 → ∀ j, rowAt h' a j = rowAt h a j) → OT ts N h x m i a → OT ts N' h' x m i a := by
  intro x
  induction x with
  | num v =>
    intro m i a hu hf h3 h12 k
    have hf' : ((ef m i).1 = 5 ∨ (ef m i).1 = 21 ∨ (ef m i).1 = 22 ∨ (ef m i).1 = 23) → (ef m i).2 < 115 ∨ 118 < (ef m i).2 := by
      intro q
      rcases ef_fld m i with e | e
      · rw [e] at q ⊢; exact hf (by omega)
      · exact e.2.1
    have h0 : (ef m i).1 ≠ 7 → ¬ (1000 ≤ (ef m i).1 ∧ (ef m i).1 < 2000) → m = 0 → (ef m i).1 = 0 := fun _ _ e => by rw [e]; rfl
    unfold OT at k ⊢
    split at k
    · rw [if_pos (by assumption)]; trivial
    next c1 =>
    rw [if_neg c1]
    have U : (ef m i).1 ≠ 0 → Uk h h' a := fun q => hu.resolve_left fun e => q (by rw [e]; rfl)
    split at k
    · next c => rw [if_pos c, ((U (by omega)).2.2.2.2.2 _ (hf' (by omega))).2.2]; exact k
    next c2 =>
    rw [if_neg c2]
    split at k
    · next c => rw [if_pos c, (U (by omega)).2.1]; exact k
    next c3 =>
    rw [if_neg c3]
    split at k
    · next c => rw [if_pos c, ((U (by omega)).2.2.2.2.2 78 (by decide)).1]; exact k
    next c4 =>
    rw [if_neg c4]
    split at k
    · next c =>
      rw [if_pos c]
      obtain ⟨v0, b, ⟨b1, b2, b3⟩, b4⟩ := k
      obtain ⟨ub, nb⟩ := hN b b3 (by rw [b2]; exact aK_ne _)
      exact ⟨v0, b, ⟨(((U (by omega)).2.2.2.2.2 _ (hf' (by omega))).2.2).trans b1, by rw [ub.1]; exact b2, nb⟩, ub.2.1.trans b4⟩
    next c5 =>
    rw [if_neg c5]
    split at k
    · next c =>
      rw [if_pos c]
      obtain ⟨v0, b, b1, b2⟩ := k
      exact ⟨v0, b, (((U (by omega)).2.2.2.2.2 _ (hf' (by omega))).2.2).trans b1, (b2.mv hN).1⟩
    · exact k.elim
  | mulL kk x ih =>
    intro m i a hu hf h3 h12 k
    unfold OT at k ⊢
    obtain ⟨b, k1, k2, k3, k4, k5, k6, k7⟩ := k
    have hlive : hK h b ≠ 0 := by
      intro e
      rw [e] at k4
      have : ∀ c, c < 100 → 0 ∉ kc c := by decide +kernel
      by_cases hc : kk.toNat < 100
      · exact this _ hc k4
      · unfold kc at k4
        repeat' rw [if_neg (by omega)] at k4
        cases k4
    obtain ⟨ub, nb⟩ := hN b k2 hlive
    have eo : og h' (ef m i).1 (ef m i).2 a = og h (ef m i).1 (ef m i).2 a := by
      have hf' : ((ef m i).1 = 1 ∨ (ef m i).1 = 5) → (ef m i).2 < 115 ∨ 118 < (ef m i).2 := by
        intro q
        rcases ef_fld m i with e | e
        · rw [e] at q ⊢; exact hf (by omega)
        · exact e.2.1
      unfold og
      split
      · rfl
      next c0 =>
      have U : Uk h h' a := hu.resolve_left fun e => c0 (by rw [e]; rfl)
      split
      · next c => exact (U.2.2.2.2.2 _ (hf' c)).2.2
      split
      · next c => rw [U.2.2.2.2.1]
      split
      · next c =>
        have : m = 3 ∧ (ef m i).2 = i := by
          rcases ef_fld m i with e | e
          · rw [e] at c ⊢; exact ⟨c, rfl⟩
          · have : ∀ k, k < 100 → ∀ j, j < (cs k).length → ((cs k).getD j (7, 0)).1 ≠ 3 := by decide +kernel
            unfold ef at c
            rw [if_pos e.1] at c
            split at c
            · next cl =>
              by_cases hk : (m - 2000) / 8 < 100
              · exact absurd c (this _ hk _ (by omega))
              · rw [cs_big _ (by omega)] at cl
                simp at cl
            · exact ⟨c, by have := e.1; change m = 3 at c; omega⟩
        rw [this.2]
        exact h3 this.1
      split
      · next c =>
        rw [U.1]
        exact (U.2.2.2.2.2 _ (by split <;> decide)).2.2
      · rfl
    refine ⟨b, eo.trans k1, nb, k3, by rw [ub.1]; exact k4, k5.mv hN ub, ih _ 0 b (Or.inr ub) (fun q => Or.inl (by decide)) (fun q => by omega) (fun q => by omega) k6, k7.mv hN ub⟩
  | add x y ihx ihy =>
    intro m i a hu hf h3 h12 k
    unfold OT at k ⊢
    split at k
    · rw [if_pos (by assumption)]; trivial
    next c1 =>
    rw [if_neg c1]
    have U : (ef m i).1 ≠ 0 → Uk h h' a := fun q => hu.resolve_left fun e => q (by rw [e]; rfl)
    have hf' : ((ef m i).1 = 21 ∨ (ef m i).1 = 22 ∨ (ef m i).1 = 23) → (ef m i).2 < 115 ∨ 118 < (ef m i).2 := by
      intro q
      rcases ef_fld m i with e | e
      · rw [e] at q ⊢; exact hf (by omega)
      · exact e.2.1
    have m12 : (ef m i).1 = 12 → m = 12 := by
      intro q
      rcases ef_fld m i with e | e
      · rw [e] at q; exact q
      · omega
    split at k
    · next c =>
      rw [if_pos c]
      exact ihy _ 0 a (Or.inr (U (by omega))) (fun q => Or.inl (by decide)) (fun q => by omega) (fun q => by omega) k
    next c2 =>
    rw [if_neg c2]
    split at k
    · next c =>
      rw [if_pos c]
      have hu' := U (by omega)
      have hs := cs_ne ((m - 2000) / 8) ((m - 2000) % 8)
      have hs3 : ((cs ((m - 2000) / 8)).getD ((m - 2000) % 8) (7, 0)).1 ≠ 3 := by
        by_cases hk : (m - 2000) / 8 < 100
        · by_cases hj : (m - 2000) % 8 < (cs ((m - 2000) / 8)).length
          · have : ∀ k, k < 100 → ∀ j, j < (cs k).length → ((cs k).getD j (7, 0)).1 ≠ 3 := by decide +kernel
            exact this _ hk _ hj
          · rw [List.getD, List.getElem?_eq_none (by omega)]
            decide
        · rw [cs_big _ (by omega)]
          simp
      have m2 : 2000 ≤ m := by
        rcases ef_fld m i with e | e
        · rw [e] at c; exact c
        · exact e.1
      exact ⟨ihx _ _ a (Or.inr hu') (fun _ => cs_fld _ _) (fun q => absurd q hs3) (fun q => by omega) k.1, ihy _ 0 a (Or.inr hu') (fun q => by omega) (fun q => by omega) (fun q => by omega) k.2⟩
    next c3 =>
    rw [if_neg c3]
    split at k
    · next c =>
      rw [if_pos c]
      have hu' := U (by omega)
      exact ⟨ihx 2 _ a (Or.inr hu') (fun q => by omega) (fun q => by omega) (fun q => by omega) k.1, ihy 11 _ a (Or.inr hu') (fun q => by omega) (fun q => by omega) (fun q => by omega) k.2⟩
    next c4 =>
    rw [if_neg c4]
    split at k
    · next c =>
      rw [if_pos c]
      have hu' := U (by omega)
      have hr := h12 (m12 c)
      exact ⟨ihx 3 _ a (Or.inr hu') (fun q => by omega) (fun _ => hr _) (fun q => by omega) k.1, ihy 12 _ a (Or.inr hu') (fun q => by omega) (fun q => by omega) (fun _ => hr) k.2⟩
    next c5 =>
    rw [if_neg c5]
    split at k
    · next c =>
      rw [if_pos c]
      have hu' := U (by omega)
      exact ⟨ihx 30 _ a (Or.inr hu') (fun q => by omega) (fun q => by omega) (fun q => by omega) k.1, ihy 13 _ a (Or.inr hu') (fun q => by omega) (fun q => by omega) (fun q => by omega) k.2⟩
    next c6 =>
    rw [if_neg c6]
    split at k
    · next c =>
      rw [if_pos c]
      exact ihy 2 _ a (Or.inr (U (by omega))) (fun q => by omega) (fun q => by omega) (fun q => by omega) k
    next c7 =>
    rw [if_neg c7]
    split at k
    · next c =>
      rw [if_pos c]
      obtain ⟨b, ⟨b1, b2, b3⟩, b4, b5⟩ := k
      obtain ⟨ub, nb⟩ := hN b b3 (by rw [b2]; exact aK_ne _)
      exact ⟨b, ⟨(((U (by omega)).2.2.2.2.2 _ (hf' (by omega))).2.2).trans b1, by rw [ub.1]; exact b2, nb⟩, ihx 2 0 b (Or.inr ub) (fun q => by omega) (fun q => by omega) (fun q => by omega) b4, ihy 11 1 b (Or.inr ub) (fun q => by omega) (fun q => by omega) (fun q => by omega) b5⟩
    next c8 =>
    rw [if_neg c8]
    split at k
    · next c =>
      rw [if_pos c]
      obtain ⟨b, ⟨b1, b2, b3⟩, b4, b5⟩ := k
      obtain ⟨ub, nb⟩ := hN b b3 (by rw [b2]; exact aK_ne _)
      exact ⟨b, ⟨(((U (by omega)).2.2.2.2.2 _ (hf' (by omega))).2.2).trans b1, by rw [ub.1]; exact b2, nb⟩, ihx 30 0 b (Or.inr ub) (fun q => by omega) (fun q => by omega) (fun q => by omega) b4, ihy 13 1 b (Or.inr ub) (fun q => by omega) (fun q => by omega) (fun q => by omega) b5⟩
    next c9 =>
    rw [if_neg c9]
    split at k
    · next c =>
      rw [if_pos c]
      obtain ⟨b, b1, b2, b4, b5⟩ := k
      obtain ⟨rl, rr, r78⟩ := b2.mv hN
      obtain ⟨l, n, e, kr, kN, kA⟩ := b2
      obtain ⟨ub, nb⟩ := hN b kN (by rw [kr.1]; decide)
      exact ⟨b, (((U (by omega)).2.2.2.2.2 _ (hf' (by omega))).2.2).trans b1, rl, ihx 3 0 b (Or.inr ub) (fun q => by omega) (fun _ => rr 0) (fun q => by omega) b4, ihy 12 1 b (Or.inr ub) (fun q => by omega) (fun q => by omega) (fun _ => rr) b5⟩
    · exact k.elim
  | var _ => intro m i a hu hf h3 h12 k; unfold OT at k; exact k.elim
  | sub _ _ _ _ => intro m i a hu hf h3 h12 k; unfold OT at k; exact k.elim
  | neg _ _ => intro m i a hu hf h3 h12 k; unfold OT at k; exact k.elim
  | mulR _ _ _ => intro m i a hu hf h3 h12 k; unfold OT at k; exact k.elim
/-- a node stays -/
theorem OT.kp {x : Tr} {a : Nat} (p : KP h h') (k : OT ts N h x 0 0 a) : OT ts N h' x 0 0 a := OT.mv (fun b hb hl => ⟨p.2 b hl, hb⟩) x 0 0 a (Or.inl rfl) (fun q => by omega) (fun q => by omega) (fun q => by omega) k
theorem OT.wk {x : Tr} {a : Nat} (hN : ∀ a, N a → N' a) (k : OT ts N h x 0 0 a) : OT ts N' h x 0 0 a :=
  OT.mv (fun b hb hl => ⟨⟨rfl, rfl, rfl, rfl, rfl, fun _ _ => ⟨rfl, rfl, rfl⟩⟩, hN b hb⟩) x 0 0 a (Or.inl rfl) (fun q => by omega) (fun q => by omega) (fun q => by omega) k
end
