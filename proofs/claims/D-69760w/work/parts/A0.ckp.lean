/-! THE COMPONENT'S READER: what it keeps; room -/
/-- a cell stays as it is, but for the reader's own fields -/
def Uk (h h' : AH) (a : Nat) : Prop := hK h' a = hK h a ∧ hL h' a = hL h a ∧ aI h' a = aI h a ∧ aJ h' a = aJ h a ∧ aR h' a = aR h a ∧ ∀ g, (g < 115 ∨ 118 < g) → fI h' a g = fI h a g ∧ fJ h' a g = fJ h a g ∧ fR h' a g = fR h a g
def KP (h h' : AH) : Prop := (hc h ≤ hc h' ∧ hs h ≤ hs h') ∧ ∀ a, hK h a ≠ 0 → Uk h h' a
/-- room: slots, and cells sixteen times -/
def un (h : AH) : Nat := hs h + 16 * hc h
def UB : Nat := 7442000
theorem un_rm {h : AH} {n : Nat} (k : un h + 16 + n ≤ UB) : hc h + 1 ≤ MC ∧ hs h + n ≤ MS := by
  unfold un UB at k
  unfold MC MS
  omega
theorem un_nO {h : AH} {q c : Nat} : un (nO h q c) = un h + 16 + (ftab c).length := by unfold un; rw [hs_nO, hc_nO]; omega
theorem un_nA {h : AH} {q t n : Nat} : un (nA h q t n) = un h + 16 + n := by unfold un; rw [hs_nA, hc_nA]; omega
theorem un_pI {h : AH} {a g : Nat} {v : Int32} : un (pI h a g v) = un h := rfl
theorem un_pR {h : AH} {a g : Nat} {v : Option Nat} : un (pR h a g v) = un h := rfl
theorem un_sI {h : AH} {a g : Nat} {v : Int32} : un (sI h a g v) = un h := rfl
theorem un_sR {h : AH} {a g : Nat} {v : Option Nat} : un (sR h a g v) = un h := rfl
section
variable {h h1 h2 h' : AH} {a q g c t n : Nat}
theorem KP.rf : KP h h := ⟨⟨Nat.le_refl _, Nat.le_refl _⟩, fun _ _ => ⟨rfl, rfl, rfl, rfl, rfl, fun _ _ => ⟨rfl, rfl, rfl⟩⟩⟩
theorem KP.tr (a : KP h h1) (b : KP h1 h2) : KP h h2 := by
  refine ⟨⟨Nat.le_trans a.1.1 b.1.1, Nat.le_trans a.1.2 b.1.2⟩, fun x hx => ?_⟩
  obtain ⟨a1, a2, a3, a4, a5, a6⟩ := a.2 x hx
  obtain ⟨b1, b2, b3, b4, b5, b6⟩ := b.2 x (by rw [a1]; exact hx)
  refine ⟨b1.trans a1, b2.trans a2, b3.trans a3, b4.trans a4, b5.trans a5, fun g hg => ?_⟩
  obtain ⟨c1, c2, c3⟩ := a6 g hg
  obtain ⟨d1, d2, d3⟩ := b6 g hg
  exact ⟨d1.trans c1, d2.trans c2, d3.trans c3⟩
theorem KP.un (k : KP h h') : un h ≤ un h' := by
  have := k.1
  show hs h + 16 * hc h ≤ hs h' + 16 * hc h'
  omega
theorem KP.fresh (k : KP h h') (hq : hK h' q = 0) : hK h q = 0 := Classical.byContradiction fun hn => hn ((k.2 q hn).1.symm.trans hq)
theorem KP.hk (k : KP h h') (hn : hK h a = n) (h0 : n ≠ 0) : hK h' a = n := ((k.2 a (by rw [hn]; exact h0)).1).trans hn
theorem KP.le (k : KP h h') : Le h h' none := by
  refine ⟨k.1, fun a ha => ?_⟩
  obtain ⟨a1, a2, a3, a4, a5, a6⟩ := k.2 a ha
  refine ⟨a1, a2, fun _ g hg => a6 g ?_⟩
  refine Classical.byContradiction fun hn => ?_
  have : g = 115 ∨ g = 116 ∨ g = 117 ∨ g = 118 := by omega
  rcases this with rfl | rfl | rfl | rfl <;> exact absurd hg (by decide)
theorem KP.nO (k : KP h h1) (hq : hK h1 q = 0) : KP h (nO h1 q c) := by
  have hq0 := k.fresh hq
  refine ⟨⟨by rw [hc_nO]; exact Nat.le_succ_of_le k.1.1, by rw [hs_nO]; exact Nat.le_trans k.1.2 (Nat.le_add_right _ _)⟩, fun x hx => ?_⟩
  have hne : x ≠ q := fun e => hx (by rw [e]; exact hq0)
  obtain ⟨a1, a2, a3, a4, a5, a6⟩ := k.2 x hx
  refine ⟨by rw [hK_nO, if_neg hne]; exact a1, a2, a3, a4, a5, fun g hg => ?_⟩
  rw [fI_nO, fJ_nO, fR_nO, if_neg hne, if_neg hne, if_neg hne]
  exact a6 g hg
theorem KP.nA (k : KP h h1) (hq : hK h1 q = 0) : KP h (nA h1 q t n) := by
  have hq0 := k.fresh hq
  refine ⟨⟨by rw [hc_nA]; exact Nat.le_succ_of_le k.1.1, by rw [hs_nA]; exact Nat.le_trans k.1.2 (Nat.le_add_right _ _)⟩, fun x hx => ?_⟩
  have hne : x ≠ q := fun e => hx (by rw [e]; exact hq0)
  obtain ⟨a1, a2, a3, a4, a5, a6⟩ := k.2 x hx
  refine ⟨by rw [hK_nA, if_neg hne]; exact a1, by rw [hL_nA, if_neg hne]; exact a2, ?_, ?_, ?_, fun g hg => ?_⟩
  · rw [← a3]; funext y; rw [aI_nA, if_neg hne]
  · rw [← a4]; funext y; rw [aJ_nA, if_neg hne]
  · rw [← a5]; funext y; rw [aR_nA, if_neg hne]
  · rw [fI_nA, fJ_nA, fR_nA]
    exact a6 g hg
/-- a write to what is new -/
theorem KP.pI {v : Int32} (k : KP h h1) (hq : hK h q = 0 ∨ (115 ≤ g ∧ g ≤ 118)) : KP h (pI h1 q g v) := by
  refine ⟨k.1, fun x hx => ?_⟩
  obtain ⟨a1, a2, a3, a4, a5, a6⟩ := k.2 x hx
  refine ⟨a1, a2, a3, a4, a5, fun g' hg => ?_⟩
  have : ¬ (x = q ∧ g' = g) := by
    rintro ⟨rfl, rfl⟩
    rcases hq with e | e
    · exact hx e
    · omega
  rw [fI_pI, if_neg this, fJ_pI, fR_pI]
  exact a6 g' hg
theorem KP.pR {v : Option Nat} (k : KP h h1) (hq : hK h q = 0) : KP h (pR h1 q g v) := by
  refine ⟨k.1, fun x hx => ?_⟩
  obtain ⟨a1, a2, a3, a4, a5, a6⟩ := k.2 x hx
  refine ⟨a1, a2, a3, a4, a5, fun g' hg => ?_⟩
  have : ¬ (x = q ∧ g' = g) := by
    rintro ⟨rfl, rfl⟩
    exact hx hq
  rw [fR_pR, if_neg this, fJ_pR, fI_pR]
  exact a6 g' hg
theorem KP.sI {i : Nat} {v : Int32} (k : KP h h1) (hq : hK h q = 0) : KP h (sI h1 q i v) := by
  refine ⟨k.1, fun x hx => ?_⟩
  obtain ⟨a1, a2, a3, a4, a5, a6⟩ := k.2 x hx
  have hne : x ≠ q := fun e => hx (by rw [e]; exact hq)
  refine ⟨a1, a2, ?_, a4, a5, a6⟩
  rw [← a3]; funext y; rw [aI_sI, if_neg (fun e => hne e.1)]
theorem KP.sR {i : Nat} {v : Option Nat} (k : KP h h1) (hq : hK h q = 0) : KP h (sR h1 q i v) := by
  refine ⟨k.1, fun x hx => ?_⟩
  obtain ⟨a1, a2, a3, a4, a5, a6⟩ := k.2 x hx
  have hne : x ≠ q := fun e => hx (by rw [e]; exact hq)
  refine ⟨a1, a2, a3, a4, ?_, a6⟩
  rw [← a5]; funext y; rw [aR_sR, if_neg (fun e => hne e.1)]
end
