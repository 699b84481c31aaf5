/-! THE COMPONENT'S TYPES: a new node -/
def tNew (τ : Tb) (M : Nat) (n : Int) : Tb := (fun z => if z = M then n else uN τ z, fun z => if z = M then [] else uP τ z, fun z => if z = M then none else uS τ z)
/-- cells of the table of types -/
def TyC : List Nat := [2, 1030, 1031, 1032, 1033, 1034, 1035, 1039, 1046]
/-- but for the table of types all stays -/
def FTy (G : Gh) (h h' : AH) : Prop := (∀ a, (∀ i, i ∈ TyC → a ≠ gW G i) → Uf h h' a) ∧ un h' = un h ∧ Le h h' none
section
variable {G : Gh} {d M Pn x : Nat} {h h1 h' : AH} {τ : Tb} {fs rt dp : Nat → Nat}
theorem FTy.rf : FTy G h h := ⟨fun _ _ => Uf.rf, rfl, Le.rf0⟩
theorem FTy.tr (a : FTy G h h1) (b : FTy G h1 h') : FTy G h h' := ⟨fun x hx => (a.1 x hx).tr (b.1 x hx), b.2.1.trans a.2.1, a.2.2.tr b.2.2⟩
theorem FTy.sI {i j : Nat} {v : Int32} (a : FTy G h h1) (hi : i ∈ TyC) : FTy G h (sI h1 (gW G i) j v) := by
  refine a.tr ⟨fun x hx => ⟨rfl, rfl, ?_, rfl, rfl, fun g => ⟨rfl, rfl, rfl⟩⟩, rfl, sI_le⟩
  funext y
  rw [aI_sI, if_neg (fun e => hx i hi e.1)]
theorem FTy.p2 {g : Nat} {v : Int32} (a : FTy G h h1) (e : h' = pI h1 (gW G 2) g v) (hg : gfin g = false) : FTy G h h' := by
  have w : WQ (gW G 2) h1 h' := by rw [e]; exact WQ.rf.pI
  have le : Le h1 h' none := by rw [e]; exact pI_le (Or.inl hg)
  exact a.tr ⟨fun x hx => w.uf (hx 2 (by decide)), w.un, le⟩
/-- marks, what is the same, copies behind a new node -/
def NdA (G : Gh) (h h' : AH) (M : Nat) : Prop := (∀ z, aI h' (gW G 1033) z = if z = M then 0 else aI h (gW G 1033) z) ∧ (∀ z, aI h' (gW G 1032) z = if z = M then -1 else aI h (gW G 1032) z) ∧ ∀ z, aI h' (gW G 1034) z = aI h (gW G 1034) z
/-- a new node -/
theorem c_nd {v : Int32} (k : TyS G h M Pn τ fs) (hD : DW (gW G)) (hM1 : M < 150000) : C G mX3_node d [.ref (gW G 2), .int v] h (fun o h' => o = .returned (some (.int (nI M))) ∧ TyS G h' (M + 1) Pn (tNew τ M v.toInt) (updF fs M Pn) ∧ FTy G h h' ∧ NdA G h h' M) := by
  obtain ⟨sA, e36, e37, hM, hPn, ha⟩ := id k
  have s2 := sA.at (i := 2) (by decide)
  have ne : ∀ i j, (i = 1030 ∨ i = 1031 ∨ i = 1032 ∨ i = 1033 ∨ i = 1034 ∨ i = 1035) → (j = 1030 ∨ j = 1031 ∨ j = 1032 ∨ j = 1033 ∨ j = 1034 ∨ j = 1035) → i ≠ j → gW G i ≠ gW G j := fun i j hi hj hn e => hn (hD i j (by rcases hi with rfl | rfl | rfl | rfl | rfl | rfl <;> decide) (by rcases hj with rfl | rfl | rfl | rfl | rfl | rfl <;> decide) e)
  refine bX3_node G d h _ _ s2 ?_
  rw [e36]
  have cn : (nI M).toNatClampNeg = M := nI_cn (by omega)
  have vp : vp_in (nI M) 150000 := vp_in_nI (by omega) (by decide)
  refine ⟨vp, fun h2 e2 => ?_⟩
  rw [cn] at e2
  have f2 : fI h2 = fI h := by rw [e2]; rfl
  rw [f2, e36, e37, cn]
  refine ⟨vp, fun h5 e5 => ?_⟩
  have f5 : fI h5 = fI h := by rw [e5, fI_sI, f2]
  rw [f5, e36, cn]
  refine ⟨vp, fun h8 e8 => ?_⟩
  have f8 : fI h8 = fI h := by rw [e8, fI_sI, f5]
  rw [f8, e36, cn]
  refine ⟨vp, fun h11 e11 => ?_⟩
  have f11 : fI h11 = fI h := by rw [e11, fI_sI, f8]
  rw [f11, e36, nI_1]
  intro h13 e13
  have e36' : fI h13 (gW G 2) 36 = nI (M + 1) := by rw [e13, fI_pI, if_pos ⟨rfl, rfl⟩]
  have e37' : fI h13 (gW G 2) 37 = nI Pn := by rw [e13, fI_pI, if_neg (fun z => absurd z.2 (by decide)), f11]; exact e37
  have T11 : FTy G h h11 := by rw [e11, e8, e5, e2]; exact (((FTy.rf.sI (by decide)).sI (by decide)).sI (by decide)).sI (by decide)
  have T13 := T11.p2 e13 (by decide)
  have a11 : ∀ b y, aI h13 b y = aI h11 b y := fun b y => by rw [e13, aI_pI]
  have A30 : ∀ y, aI h13 (gW G 1030) y = if y = M then v else aI h (gW G 1030) y := fun y => by
    rw [a11, e11, aI_sI, if_neg (fun z => ne 1030 1033 (by decide) (by decide) (by decide) z.1), e8, aI_sI, if_neg (fun z => ne 1030 1032 (by decide) (by decide) (by decide) z.1), e5, aI_sI, if_neg (fun z => ne 1030 1031 (by decide) (by decide) (by decide) z.1), e2, aI_sI]
    by_cases hy : y = M
    · rw [if_pos ⟨rfl, hy⟩, if_pos hy]
    · rw [if_neg (fun z => hy z.2), if_neg hy]
  have A31 : ∀ y, aI h13 (gW G 1031) y = if y = M then nI Pn else aI h (gW G 1031) y := fun y => by
    rw [a11, e11, aI_sI, if_neg (fun z => ne 1031 1033 (by decide) (by decide) (by decide) z.1), e8, aI_sI, if_neg (fun z => ne 1031 1032 (by decide) (by decide) (by decide) z.1), e5, aI_sI]
    by_cases hy : y = M
    · rw [if_pos ⟨rfl, hy⟩, if_pos hy]
    · rw [if_neg (fun z => hy z.2), if_neg hy, e2, aI_sI, if_neg (fun z => hy z.2)]
  have A32 : ∀ y, aI h13 (gW G 1032) y = if y = M then -1 else aI h (gW G 1032) y := fun y => by
    rw [a11, e11, aI_sI, if_neg (fun z => ne 1032 1033 (by decide) (by decide) (by decide) z.1), e8, aI_sI]
    by_cases hy : y = M
    · rw [if_pos ⟨rfl, hy⟩, if_pos hy]
    · rw [if_neg (fun z => hy z.2), if_neg hy, e5, aI_sI, if_neg (fun z => hy z.2), e2, aI_sI, if_neg (fun z => hy z.2)]
  have A35 : ∀ y, aI h13 (gW G 1035) y = aI h (gW G 1035) y := fun y => by
    rw [a11, e11, aI_sI, if_neg (fun z => ne 1035 1033 (by decide) (by decide) (by decide) z.1), e8, aI_sI, if_neg (fun z => ne 1035 1032 (by decide) (by decide) (by decide) z.1), e5, aI_sI, if_neg (fun z => ne 1035 1031 (by decide) (by decide) (by decide) z.1), e2, aI_sI, if_neg (fun z => ne 1035 1030 (by decide) (by decide) (by decide) z.1)]
  rw [e36']
  refine ⟨?_, ⟨sA.le T13.2.2, e36', e37', by omega, hPn, fun x hx => ?_⟩, T13, fun y => ?_, A32, fun y => ?_⟩
  · rw [nI_sub1 (by omega)]
  · rw [A30, A31, A32]
    show (if x = M then v else aI h (gW G 1030) x).toInt = (if x = M then v.toInt else uN τ x) ∧ (∀ y, (if x = M then none else uS τ x) = some y → (if x = M then (-1 : Int32) else aI h (gW G 1032) x) = nI y ∧ y < M + 1) ∧ ((if x = M then none else uS τ x) = none → (if x = M then (-1 : Int32) else aI h (gW G 1032) x).toInt < 0) ∧ (if x = M then nI Pn else aI h (gW G 1031) x) = nI (if x = M then Pn else fs x) ∧ (if x = M then Pn else fs x) + (if x = M then [] else uP τ x).length ≤ Pn ∧ ∀ k p, (if x = M then [] else uP τ x)[k]? = some p → aI h13 (gW G 1035) ((if x = M then Pn else fs x) + k) = nI p ∧ p < M + 1
    by_cases hy : x = M
    · simp only [if_pos hy]
      exact ⟨trivial, fun y z => (by cases z), fun _ => by decide, trivial, Nat.le_refl _, fun k p z => by simp at z⟩
    · simp only [if_neg hy]
      obtain ⟨b1, b2, b3, b4, b5, b6⟩ := ha x (by omega)
      exact ⟨b1, fun y z => ⟨(b2 y z).1, by have := (b2 y z).2; omega⟩, b3, b4, b5, fun k p z => ⟨by rw [A35]; exact (b6 k p z).1, by have := (b6 k p z).2; omega⟩⟩
  · rw [a11, e11, aI_sI]
    by_cases hy : y = M
    · rw [if_pos ⟨rfl, hy⟩, if_pos hy]
    · rw [if_neg (fun z => hy z.2), if_neg hy, e8, aI_sI, if_neg (fun z => ne 1033 1032 (by decide) (by decide) (by decide) z.1), e5, aI_sI, if_neg (fun z => ne 1033 1031 (by decide) (by decide) (by decide) z.1), e2, aI_sI, if_neg (fun z => ne 1033 1030 (by decide) (by decide) (by decide) z.1)]
  · rw [a11, e11, aI_sI, if_neg (fun z => ne 1034 1033 (by decide) (by decide) (by decide) z.1), e8, aI_sI, if_neg (fun z => ne 1034 1032 (by decide) (by decide) (by decide) z.1), e5, aI_sI, if_neg (fun z => ne 1034 1031 (by decide) (by decide) (by decide) z.1), e2, aI_sI, if_neg (fun z => ne 1034 1030 (by decide) (by decide) (by decide) z.1)]
end
