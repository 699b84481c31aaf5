/-! THE COMPONENT'S TYPES: one more part of the last node -/
def tApp (τ : Tb) (x a : Nat) : Tb := (τ.1, fun z => if z = x then uP τ z ++ [a] else uP τ z, τ.2.2)
section
variable {G : Gh} {d M Pn x a b : Nat} {h h1 h' : AH} {τ : Tb} {fs rt dp : Nat → Nat}
theorem TyS.app (k : TyS G h M Pn τ fs) (hD : DW (gW G)) (hx : x < M) (hf : fs x + (uP τ x).length = Pn) (ha : a < M) (hPn1 : Pn < 150000) (e1 : h1 = sI h (gW G 1035) Pn (nI a)) (e : h' = pI h1 (gW G 2) 37 (nI (Pn + 1))) : TyS G h' M (Pn + 1) (tApp τ x a) fs ∧ FTy G h h' := by
  obtain ⟨sA, e36, e37, hM, hPn, hA⟩ := k
  have T1 : FTy G h h1 := by rw [e1]; exact FTy.rf.sI (by decide)
  have T := T1.p2 e (by decide)
  have ne : ∀ i, (i = 1030 ∨ i = 1031 ∨ i = 1032) → gW G i ≠ gW G 1035 := fun i hi z => by
    have := hD i 1035 (by rcases hi with rfl | rfl | rfl <;> decide) (by decide) z
    omega
  have A : ∀ i, (i = 1030 ∨ i = 1031 ∨ i = 1032) → ∀ j, aI h' (gW G i) j = aI h (gW G i) j := fun i hi j => by rw [e, aI_pI, e1, aI_sI, if_neg (fun z => ne i hi z.1)]
  have A35 : ∀ j, aI h' (gW G 1035) j = if j = Pn then nI a else aI h (gW G 1035) j := fun j => by
    rw [e, aI_pI, e1, aI_sI]
    by_cases hj : j = Pn
    · rw [if_pos ⟨rfl, hj⟩, if_pos hj]
    · rw [if_neg (fun z => hj z.2), if_neg hj]
  have f1 : fI h1 = fI h := by rw [e1]; rfl
  refine ⟨⟨sA.le T.2.2, by rw [e, fI_pI, if_neg (fun z => absurd z.2 (by decide)), f1]; exact e36, by rw [e, fI_pI, if_pos ⟨rfl, rfl⟩], hM, hPn1, fun z hz => ?_⟩, T⟩
  obtain ⟨b1, b2, b3, b4, b5, b6⟩ := hA z hz
  rw [A 1030 (by decide), A 1031 (by decide), A 1032 (by decide)]
  have ep : uP (tApp τ x a) z = if z = x then uP τ z ++ [a] else uP τ z := rfl
  refine ⟨b1, b2, b3, b4, ?_, fun k p hp => ?_⟩
  · rw [ep]
    by_cases hzx : z = x
    · rw [if_pos hzx, List.length_append, List.length_singleton, hzx]
      omega
    · rw [if_neg hzx]
      omega
  · rw [ep] at hp
    rw [A35]
    by_cases hzx : z = x
    · rw [if_pos hzx] at hp
      by_cases hk : k < (uP τ z).length
      · rw [List.getElem?_append_left hk] at hp
        rw [if_neg (by omega)]
        exact b6 k p hp
      · have hk2 := (List.getElem?_eq_some_iff.mp hp).1
        rw [List.length_append, List.length_singleton] at hk2
        have ek : k = (uP τ z).length := by omega
        rw [ek, List.getElem?_append_right (Nat.le_refl _), Nat.sub_self] at hp
        cases hp
        rw [ek, hzx, if_pos hf]
        exact ⟨rfl, ha⟩
    · rw [if_neg hzx] at hp
      have := (List.getElem?_eq_some_iff.mp hp).1
      rw [if_neg (by omega)]
      exact b6 k p hp
end
