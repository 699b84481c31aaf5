/-! THE COMPONENT'S TYPES: a root becomes the same as another one -/
/-- how many roots there are -/
def nRt (M : Nat) (τ : Tb) : Nat := ((List.range M).filter fun z => (uS τ z).isNone).length
section
variable {G : Gh} {d M Pn x y : Nat} {h h1 h' : AH} {τ : Tb} {fs rt dp : Nat → Nat}
theorem RTs.set (r : RTs M τ rt dp) (hx : x < M) (hy : y < M) (ex : uS τ x = none) (ey : uS τ y = none) (hne : x ≠ y) : RTs M (tSet τ x y) (fun z => if rt z = x then y else rt z) (fun z => if rt z = x then dp z + dp y + 1 else dp z) := by
  have rx : rt x = x := (r x hx).2.2 ex
  have ry : rt y = y := (r y hy).2.2 ey
  intro z hz
  obtain ⟨r1, r2, r3⟩ := r z hz
  have e : uS (tSet τ x y) z = if z = x then some y else uS τ z := rfl
  refine ⟨?_, fun w hw => ?_, fun hn => ?_⟩
  · dsimp only
    split
    · exact hy
    · exact r1
  · rw [e] at hw
    dsimp only
    by_cases hzx : z = x
    · rw [if_pos hzx] at hw
      cases hw
      subst hzx
      rw [rx, ry, if_pos rfl, if_neg (fun q => hne q.symm), if_neg (fun q => hne q.symm), if_pos rfl]
      exact ⟨hy, rfl, by omega⟩
    · rw [if_neg hzx] at hw
      obtain ⟨c1, c2, c3⟩ := r2 w hw
      rw [c2]
      refine ⟨c1, rfl, ?_⟩
      split <;> omega
  · rw [e] at hn
    by_cases hzx : z = x
    · rw [if_pos hzx] at hn
      cases hn
    · rw [if_neg hzx] at hn
      dsimp only
      rw [r3 hn, if_neg hzx]
theorem TyS.set (k : TyS G h M Pn τ fs) (hD : DW (gW G)) (hx : x < M) (hy : y < M) (e : h' = sI h (gW G 1032) x (nI y)) : TyS G h' M Pn (tSet τ x y) fs ∧ FTy G h h' := by
  obtain ⟨sA, e36, e37, hM, hPn, ha⟩ := k
  have T : FTy G h h' := by rw [e]; exact FTy.rf.sI (by decide)
  have ne : ∀ i, (i = 1030 ∨ i = 1031 ∨ i = 1035) → gW G i ≠ gW G 1032 := fun i hi z => by
    have := hD i 1032 (by rcases hi with rfl | rfl | rfl <;> decide) (by decide) z
    omega
  have A : ∀ i, (i = 1030 ∨ i = 1031 ∨ i = 1035) → ∀ j, aI h' (gW G i) j = aI h (gW G i) j := fun i hi j => by rw [e, aI_sI, if_neg (fun z => ne i hi z.1)]
  have A32 : ∀ j, aI h' (gW G 1032) j = if j = x then nI y else aI h (gW G 1032) j := fun j => by
    rw [e, aI_sI]
    by_cases hj : j = x
    · rw [if_pos ⟨rfl, hj⟩, if_pos hj]
    · rw [if_neg (fun z => hj z.2), if_neg hj]
  have f : fI h' = fI h := by rw [e]; rfl
  refine ⟨⟨sA.le T.2.2, by rw [f]; exact e36, by rw [f]; exact e37, hM, hPn, fun z hz => ?_⟩, T⟩
  obtain ⟨b1, b2, b3, b4, b5, b6⟩ := ha z hz
  rw [A 1030 (by decide), A 1031 (by decide), A32]
  have es : uS (tSet τ x y) z = if z = x then some y else uS τ z := rfl
  refine ⟨b1, fun w hw => ?_, fun hn => ?_, b4, b5, fun k p hp => by rw [A 1035 (by decide)]; exact b6 k p hp⟩
  · rw [es] at hw
    by_cases hzx : z = x
    · rw [if_pos hzx] at hw
      cases hw
      rw [if_pos hzx]
      exact ⟨rfl, hy⟩
    · rw [if_neg hzx] at hw
      rw [if_neg hzx]
      exact b2 w hw
  · rw [es] at hn
    by_cases hzx : z = x
    · rw [if_pos hzx] at hn
      cases hn
    · rw [if_neg hzx] at hn
      rw [if_neg hzx]
      exact b3 hn
/-- one root less -/
theorem nRt_set (hx : x < M) (ex : uS τ x = none) : nRt M (tSet τ x y) < nRt M τ := by
  have key : ∀ l : List Nat, x ∈ l → (l.filter fun z => (uS (tSet τ x y) z).isNone).length < (l.filter fun z => (uS τ z).isNone).length := by
    have le : ∀ l : List Nat, (l.filter fun z => (uS (tSet τ x y) z).isNone).length ≤ (l.filter fun z => (uS τ z).isNone).length := by
      intro l
      induction l with
      | nil => exact Nat.le_refl _
      | cons a l ih =>
        have es : uS (tSet τ x y) a = if a = x then some y else uS τ a := rfl
        rw [List.filter_cons, List.filter_cons, es]
        by_cases ha : a = x
        · rw [if_pos ha, if_neg (by simp)]
          split
          · rw [List.length_cons]; omega
          · exact ih
        · rw [if_neg ha]
          split
          · rw [List.length_cons, List.length_cons]; omega
          · exact ih
    intro l
    induction l with
    | nil => intro hm; cases hm
    | cons a l ih =>
      intro hm
      have es : uS (tSet τ x y) a = if a = x then some y else uS τ a := rfl
      rw [List.filter_cons, List.filter_cons, es]
      by_cases ha : a = x
      · rw [if_pos ha, if_neg (by simp), ha, ex, if_pos (by rfl), List.length_cons]
        have := le l
        omega
      · rw [if_neg ha]
        have := ih ((List.mem_cons.mp hm).resolve_left fun q => ha q.symm)
        split
        · rw [List.length_cons, List.length_cons]; omega
        · exact this
  exact key _ (List.mem_range.mpr hx)
end
