/-! TREES AS OBJECTS, ONCE THEY ARE READ: what else a node is, is told by X -/
/-- fields that don't change once a tree is read -/
def sf (g : Nat) : Bool := !([115, 116, 117, 118, 297, 304, 305, 320, 326, 327, 328, 346, 347, 353, 356, 357, 363, 365].contains g)
/-- a cell stays, but for what later stages write -/
def Us (h h' : AH) (a : Nat) : Prop := hK h' a = hK h a ∧ hL h' a = hL h a ∧ aI h' a = aI h a ∧ aJ h' a = aJ h a ∧ aR h' a = aR h a ∧ ∀ g, sf g = true → fI h' a g = fI h a g ∧ fJ h' a g = fJ h a g ∧ fR h' a g = fR h a g
/-- all tokens of a tree lie from lo on, before hi -/
def TR (lo hi : Nat) : Tr → Prop
  | .mulL _ x => (lo : Int) ≤ tkn x ∧ tkn x < hi ∧ TR lo hi x
  | .add x y => TR lo hi x ∧ TR lo hi y
  | _ => True
/-- the tree lies, in the way m, at the place i of a; all its cells are in N; X: what else its nodes are -/
def OTG (X : Nat → Nat → Tr → Prop) (N : Nat → Prop) (h : AH) : Tr → Nat → Nat → Nat → Prop
  | .num v, m, i, a =>
    if (ef m i).1 = 7 ∨ (1000 ≤ (ef m i).1 ∧ (ef m i).1 < 2000) then True else if (ef m i).1 = 5 then v = 0 ∧ fR h a (ef m i).2 = none else if (ef m i).1 = 11 ∨ (ef m i).1 = 13 then v = 0 ∧ hL h a = (ef m i).2
    else if (ef m i).1 = 12 then v = 0 ∧ fI h a 78 = nI (ef m i).2 else if (ef m i).1 = 21 ∨ (ef m i).1 = 23 then v = 0 ∧ ∃ b, ArF N h a (ef m i).2 b ∧ hL h b = 0
    else if (ef m i).1 = 22 then v = 0 ∧ ∃ b, fR h a (ef m i).2 = some b ∧ RowL N h b 0 else False
  | .mulL k x, m, i, a => ∃ b, og h (ef m i).1 (ef m i).2 a = some b ∧ N b ∧ 0 ≤ k ∧ hK h b ∈ kc k.toNat ∧ X k.toNat b x ∧ OTG X N h x (1000 + k.toNat) 0 b ∧ G19 N h k.toNat b
  | .add x y, m, i, a =>
    if (ef m i).1 = 7 then True else if 1000 ≤ (ef m i).1 ∧ (ef m i).1 < 2000 then OTG X N h y (2000 + 8 * ((ef m i).1 - 1000)) 0 a
    else if 2000 ≤ (ef m i).1 then OTG X N h x ((cs ((m - 2000) / 8)).getD ((m - 2000) % 8) (7, 0)).1 ((cs ((m - 2000) / 8)).getD ((m - 2000) % 8) (7, 0)).2 a ∧ OTG X N h y (m + 1) 0 a
    else if (ef m i).1 = 11 then OTG X N h x 2 (ef m i).2 a ∧ OTG X N h y 11 ((ef m i).2 + 1) a
    else if (ef m i).1 = 12 then OTG X N h x 3 (ef m i).2 a ∧ OTG X N h y 12 ((ef m i).2 + 1) a
    else if (ef m i).1 = 13 then OTG X N h x 30 (ef m i).2 a ∧ OTG X N h y 13 ((ef m i).2 + 1) a
    else if (ef m i).1 = 30 then OTG X N h y 2 (ef m i).2 a
    else if (ef m i).1 = 21 then ∃ b, ArF N h a (ef m i).2 b ∧ OTG X N h x 2 0 b ∧ OTG X N h y 11 1 b
    else if (ef m i).1 = 23 then ∃ b, ArF N h a (ef m i).2 b ∧ OTG X N h x 30 0 b ∧ OTG X N h y 13 1 b
    else if (ef m i).1 = 22 then ∃ b, fR h a (ef m i).2 = some b ∧ RowL N h b (len y + 1) ∧ OTG X N h x 3 0 b ∧ OTG X N h y 12 1 b else False
  | _, _, _, _ => False
section
variable {ts : List (Nat × Nat × Nat)} {N N' : Nat → Prop} {X X' : Nat → Nat → Tr → Prop} {h h' : AH}
theorem OT_G : ∀ (x : Tr) (m i a : Nat), OT ts N h x m i a = OTG (EX ts N h) N h x m i a := by
  intro x
  induction x with
  | num v => intro m i a; rfl
  | mulL k x ih => intro m i a; unfold OT OTG; simp only [ih]
  | add x y ihx ihy => intro m i a; unfold OT OTG; simp only [ihx, ihy]
  | var _ => intro m i a; rfl
  | sub _ _ _ _ => intro m i a; rfl
  | neg _ _ => intro m i a; rfl
  | mulR _ _ _ => intro m i a; rfl
theorem cs_sf1 : ∀ k, k < 100 → ∀ j, j < (cs k).length → sf ((cs k).getD j (7, 0)).2 = true := by decide +kernel
theorem cs_sf (k j : Nat) : sf ((cs k).getD j (7, 0)).2 = true := by
  by_cases hk : k < 100
  · by_cases hj : j < (cs k).length
    · exact cs_sf1 k hk j hj
    · rw [List.getD, List.getElem?_eq_none (by omega)]
      decide
  · rw [cs_big k (by omega)]
    simp
    decide
theorem ef_sf (m i : Nat) : ef m i = (m, i) ∨ (2000 ≤ m ∧ sf (ef m i).2 = true ∧ ((ef m i).1 ≤ 7 ∨ (ef m i).1 = 21 ∨ (ef m i).1 = 22 ∨ (ef m i).1 = 23)) := by
  unfold ef
  split
  · next hm =>
    split
    · exact Or.inr ⟨hm, cs_sf _ _, cs_ne _ _⟩
    · exact Or.inl rfl
  · exact Or.inl rfl
/-- a row's cells stay -/
theorem RowL.mvs {r m : Nat} (hN : ∀ a, N a → hK h a ≠ 0 → Us h h' a ∧ N' a) (k : RowL N h r m) : RowL N' h' r m ∧ (∀ i, rowAt h' r i = rowAt h r i) ∧ fI h' r 78 = fI h r 78 := by
  obtain ⟨l, n, e, k, kN, kA⟩ := k
  obtain ⟨k1, k2, k3, k7, k8, arr, k4, k5, k6, k9⟩ := id k
  obtain ⟨⟨a1, a2, a3, a4, a5, a6⟩, nr⟩ := hN r kN (by rw [k1]; decide)
  obtain ⟨na, nsp⟩ := kA arr k4
  obtain ⟨⟨b1, b2, b3, b4, b5, b6⟩, na'⟩ := hN arr na (by rw [k5]; decide)
  have e77 : fR h' r 77 = some arr := ((a6 77 (by decide)).2.2).trans k4
  have sp : ∀ i sp, aR h arr i = some sp → (hK h' sp = 7 ∧ N' sp) ∧ fR h' sp 79 = fR h sp 79 := by
    intro i s hs
    obtain ⟨q1, q2⟩ := nsp i s hs
    obtain ⟨⟨c1, c2, c3, c4, c5, c6⟩, ns⟩ := hN s q1 (by rw [q2]; decide)
    exact ⟨⟨c1.trans q2, ns⟩, (c6 79 (by decide)).2.2⟩
  refine ⟨⟨l, n, e, ⟨a1.trans k1, ((a6 78 (by decide)).1).trans k2, k3, k7, k8, arr, e77, b1.trans k5, b2.trans k6, fun i x hx => ?_⟩, nr, fun arr' e => ?_⟩, fun i => ?_, (a6 78 (by decide)).1⟩
  · obtain ⟨s, s1, s2, s3⟩ := k9 i x hx
    exact ⟨s, by rw [b5]; exact s1, (sp i s s1).1.1, (sp i s s1).2.trans s3⟩
  · cases e77.symm.trans e
    exact ⟨na', fun i s hs => by rw [b5] at hs; exact ⟨(sp i s hs).1.2, (sp i s hs).1.1⟩⟩
  · unfold rowAt
    rw [e77, k4]
    show (aR h' arr i).bind _ = (aR h arr i).bind _
    rw [b5]
    cases hs : aR h arr i with
    | none => rfl
    | some s => exact (sp i s hs).2
theorem G19.mvs {k b : Nat} (hN : ∀ a, N a → hK h a ≠ 0 → Us h h' a ∧ N' a) (u : Us h h' b) (e : G19 N h k b) : G19 N' h' k b := by
  intro q
  obtain ⟨c, c1, c2, c3, c4⟩ := e q
  obtain ⟨uc, nc⟩ := hN c c1 c2
  refine ⟨c, nc, by rw [uc.1]; exact c2, ?_, by rw [u.1, uc.1]; exact c4⟩
  rw [u.1, (u.2.2.2.2.2 _ (by split <;> decide)).2.2]
  exact c3
/-- a tree's cells stay: it is there still -/
theorem OTG.mv {lo hi : Nat} (hN : ∀ a, N a → hK h a ≠ 0 → Us h h' a ∧ N' a) (hX : ∀ k b y, (lo : Int) ≤ tkn y → tkn y < hi → N b → hK h b ∈ kc k → X k b y → X' k b y) : ∀ (x : Tr) (m i a : Nat), TR lo hi x → (m = 0 ∨ Us h h' a) → ((m = 1 ∨ m = 5 ∨ m = 21 ∨ m = 22 ∨ m = 23) → sf i = true) → (m = 3 → rowAt h' a i = rowAt h a i) → (m = 12 → ∀ j, rowAt h' a j = rowAt h a j) → OTG X N h x m i a → OTG X' N' h' x m i a := by
  intro x
  induction x with
  | num v =>
    intro m i a htr hu hf h3 h12 k
    have hf' : ((ef m i).1 = 5 ∨ (ef m i).1 = 21 ∨ (ef m i).1 = 22 ∨ (ef m i).1 = 23) → sf (ef m i).2 = true := by
      intro q
      rcases ef_sf m i with e | e
      · rw [e] at q ⊢; exact hf (by omega)
      · exact e.2.1
    have h0 : (ef m i).1 ≠ 7 → ¬ (1000 ≤ (ef m i).1 ∧ (ef m i).1 < 2000) → m = 0 → (ef m i).1 = 0 := fun _ _ e => by rw [e]; rfl
    unfold OTG at k ⊢
    split at k
    · rw [if_pos (by assumption)]; trivial
    next c1 =>
    rw [if_neg c1]
    have U : (ef m i).1 ≠ 0 → Us h h' a := fun q => hu.resolve_left fun e => q (by rw [e]; rfl)
    split at k
    · next c => rw [if_pos c, ((U (by omega)).2.2.2.2.2 _ (hf' (by omega))).2.2]; exact k
    next c2 =>
    rw [if_neg c2]
    split at k
    · next c => rw [if_pos c, (U (by omega)).2.1]; exact k
    next c3 =>
    rw [if_neg c3]
    split at k
    · next c => rw [if_pos c, ((U (by omega)).2.2.2.2.2 78 (by decide)).1]; exact k
    next c4 =>
    rw [if_neg c4]
    split at k
    · next c =>
      rw [if_pos c]
      obtain ⟨v0, b, ⟨b1, b2, b3⟩, b4⟩ := k
      obtain ⟨ub, nb⟩ := hN b b3 (by rw [b2]; exact aK_ne _)
      exact ⟨v0, b, ⟨(((U (by omega)).2.2.2.2.2 _ (hf' (by omega))).2.2).trans b1, by rw [ub.1]; exact b2, nb⟩, ub.2.1.trans b4⟩
    next c5 =>
    rw [if_neg c5]
    split at k
    · next c =>
      rw [if_pos c]
      obtain ⟨v0, b, b1, b2⟩ := k
      exact ⟨v0, b, (((U (by omega)).2.2.2.2.2 _ (hf' (by omega))).2.2).trans b1, (b2.mvs hN).1⟩
    · exact k.elim
  | mulL kk x ih =>
    intro m i a htr hu hf h3 h12 k
    unfold OTG at k ⊢
    obtain ⟨b, k1, k2, k3, k4, k5, k6, k7⟩ := k
    have hlive : hK h b ≠ 0 := by
      intro e
      rw [e] at k4
      have : ∀ c, c < 100 → 0 ∉ kc c := by decide +kernel
      by_cases hc : kk.toNat < 100
      · exact this _ hc k4
      · unfold kc at k4
        repeat' rw [if_neg (by omega)] at k4
        cases k4
    obtain ⟨ub, nb⟩ := hN b k2 hlive
    have eo : og h' (ef m i).1 (ef m i).2 a = og h (ef m i).1 (ef m i).2 a := by
      have hf' : ((ef m i).1 = 1 ∨ (ef m i).1 = 5) → sf (ef m i).2 = true := by
        intro q
        rcases ef_sf m i with e | e
        · rw [e] at q ⊢; exact hf (by omega)
        · exact e.2.1
      unfold og
      split
      · rfl
      next c0 =>
      have U : Us h h' a := hu.resolve_left fun e => c0 (by rw [e]; rfl)
      split
      · next c => exact (U.2.2.2.2.2 _ (hf' c)).2.2
      split
      · next c => rw [U.2.2.2.2.1]
      split
      · next c =>
        have : m = 3 ∧ (ef m i).2 = i := by
          rcases ef_sf m i with e | e
          · rw [e] at c ⊢; exact ⟨c, rfl⟩
          · have : ∀ k, k < 100 → ∀ j, j < (cs k).length → ((cs k).getD j (7, 0)).1 ≠ 3 := by decide +kernel
            unfold ef at c
            rw [if_pos e.1] at c
            split at c
            · next cl =>
              by_cases hk : (m - 2000) / 8 < 100
              · exact absurd c (this _ hk _ (by omega))
              · rw [cs_big _ (by omega)] at cl
                simp at cl
            · exact ⟨c, by have := e.1; change m = 3 at c; omega⟩
        rw [this.2]
        exact h3 this.1
      split
      · next c =>
        rw [U.1]
        exact (U.2.2.2.2.2 _ (by split <;> decide)).2.2
      · rfl
    refine ⟨b, eo.trans k1, nb, k3, by rw [ub.1]; exact k4, hX _ b x htr.1 htr.2.1 k2 k4 k5, ih _ 0 b htr.2.2 (Or.inr ub) (fun q => by decide) (fun q => by omega) (fun q => by omega) k6, k7.mvs hN ub⟩
  | add x y ihx ihy =>
    intro m i a htr hu hf h3 h12 k
    unfold OTG at k ⊢
    split at k
    · rw [if_pos (by assumption)]; trivial
    next c1 =>
    rw [if_neg c1]
    have U : (ef m i).1 ≠ 0 → Us h h' a := fun q => hu.resolve_left fun e => q (by rw [e]; rfl)
    have hf' : ((ef m i).1 = 21 ∨ (ef m i).1 = 22 ∨ (ef m i).1 = 23) → sf (ef m i).2 = true := by
      intro q
      rcases ef_sf m i with e | e
      · rw [e] at q ⊢; exact hf (by omega)
      · exact e.2.1
    have m12 : (ef m i).1 = 12 → m = 12 := by
      intro q
      rcases ef_sf m i with e | e
      · rw [e] at q; exact q
      · omega
    split at k
    · next c =>
      rw [if_pos c]
      exact ihy _ 0 a htr.2 (Or.inr (U (by omega))) (fun q => by decide) (fun q => by omega) (fun q => by omega) k
    next c2 =>
    rw [if_neg c2]
    split at k
    · next c =>
      rw [if_pos c]
      have hu' := U (by omega)
      have hs := cs_ne ((m - 2000) / 8) ((m - 2000) % 8)
      have hs3 : ((cs ((m - 2000) / 8)).getD ((m - 2000) % 8) (7, 0)).1 ≠ 3 := by
        by_cases hk : (m - 2000) / 8 < 100
        · by_cases hj : (m - 2000) % 8 < (cs ((m - 2000) / 8)).length
          · have : ∀ k, k < 100 → ∀ j, j < (cs k).length → ((cs k).getD j (7, 0)).1 ≠ 3 := by decide +kernel
            exact this _ hk _ hj
          · rw [List.getD, List.getElem?_eq_none (by omega)]
            decide
        · rw [cs_big _ (by omega)]
          simp
      have m2 : 2000 ≤ m := by
        rcases ef_sf m i with e | e
        · rw [e] at c; exact c
        · exact e.1
      exact ⟨ihx _ _ a htr.1 (Or.inr hu') (fun _ => cs_sf _ _) (fun q => absurd q hs3) (fun q => by omega) k.1, ihy _ 0 a htr.2 (Or.inr hu') (fun q => by omega) (fun q => by omega) (fun q => by omega) k.2⟩
    next c3 =>
    rw [if_neg c3]
    split at k
    · next c =>
      rw [if_pos c]
      have hu' := U (by omega)
      exact ⟨ihx 2 _ a htr.1 (Or.inr hu') (fun q => by omega) (fun q => by omega) (fun q => by omega) k.1, ihy 11 _ a htr.2 (Or.inr hu') (fun q => by omega) (fun q => by omega) (fun q => by omega) k.2⟩
    next c4 =>
    rw [if_neg c4]
    split at k
    · next c =>
      rw [if_pos c]
      have hu' := U (by omega)
      have hr := h12 (m12 c)
      exact ⟨ihx 3 _ a htr.1 (Or.inr hu') (fun q => by omega) (fun _ => hr _) (fun q => by omega) k.1, ihy 12 _ a htr.2 (Or.inr hu') (fun q => by omega) (fun q => by omega) (fun _ => hr) k.2⟩
    next c5 =>
    rw [if_neg c5]
    split at k
    · next c =>
      rw [if_pos c]
      have hu' := U (by omega)
      exact ⟨ihx 30 _ a htr.1 (Or.inr hu') (fun q => by omega) (fun q => by omega) (fun q => by omega) k.1, ihy 13 _ a htr.2 (Or.inr hu') (fun q => by omega) (fun q => by omega) (fun q => by omega) k.2⟩
    next c6 =>
    rw [if_neg c6]
    split at k
    · next c =>
      rw [if_pos c]
      exact ihy 2 _ a htr.2 (Or.inr (U (by omega))) (fun q => by omega) (fun q => by omega) (fun q => by omega) k
    next c7 =>
    rw [if_neg c7]
    split at k
    · next c =>
      rw [if_pos c]
      obtain ⟨b, ⟨b1, b2, b3⟩, b4, b5⟩ := k
      obtain ⟨ub, nb⟩ := hN b b3 (by rw [b2]; exact aK_ne _)
      exact ⟨b, ⟨(((U (by omega)).2.2.2.2.2 _ (hf' (by omega))).2.2).trans b1, by rw [ub.1]; exact b2, nb⟩, ihx 2 0 b htr.1 (Or.inr ub) (fun q => by omega) (fun q => by omega) (fun q => by omega) b4, ihy 11 1 b htr.2 (Or.inr ub) (fun q => by omega) (fun q => by omega) (fun q => by omega) b5⟩
    next c8 =>
    rw [if_neg c8]
    split at k
    · next c =>
      rw [if_pos c]
      obtain ⟨b, ⟨b1, b2, b3⟩, b4, b5⟩ := k
      obtain ⟨ub, nb⟩ := hN b b3 (by rw [b2]; exact aK_ne _)
      exact ⟨b, ⟨(((U (by omega)).2.2.2.2.2 _ (hf' (by omega))).2.2).trans b1, by rw [ub.1]; exact b2, nb⟩, ihx 30 0 b htr.1 (Or.inr ub) (fun q => by omega) (fun q => by omega) (fun q => by omega) b4, ihy 13 1 b htr.2 (Or.inr ub) (fun q => by omega) (fun q => by omega) (fun q => by omega) b5⟩
    next c9 =>
    rw [if_neg c9]
    split at k
    · next c =>
      rw [if_pos c]
      obtain ⟨b, b1, b2, b4, b5⟩ := k
      obtain ⟨rl, rr, r78⟩ := b2.mvs hN
      obtain ⟨l, n, e, kr, kN, kA⟩ := b2
      obtain ⟨ub, nb⟩ := hN b kN (by rw [kr.1]; decide)
      exact ⟨b, (((U (by omega)).2.2.2.2.2 _ (hf' (by omega))).2.2).trans b1, rl, ihx 3 0 b htr.1 (Or.inr ub) (fun q => by omega) (fun _ => rr 0) (fun q => by omega) b4, ihy 12 1 b htr.2 (Or.inr ub) (fun q => by omega) (fun q => by omega) (fun _ => rr) b5⟩
    · exact k.elim
  | var _ => intro m i a htr hu hf h3 h12 k; unfold OTG at k; exact k.elim
  | sub _ _ _ _ => intro m i a htr hu hf h3 h12 k; unfold OTG at k; exact k.elim
  | neg _ _ => intro m i a htr hu hf h3 h12 k; unfold OTG at k; exact k.elim
  | mulR _ _ _ => intro m i a htr hu hf h3 h12 k; unfold OTG at k; exact k.elim
end
