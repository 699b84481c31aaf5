/-! THE COMPONENT'S TYPES: how many parts a node has -/
/-- the names of nodes lie in the table of names; each node has as many parts as its name has arguments -/
def NmS (G : Gh) (h : AH) (M : Nat) (τ : Tb) : Prop := ∀ x, x < M → 0 ≤ uN τ x → (uN τ x < 212 ∧ (uP τ x).length ≤ 6) ∧ ∃ b, aR h (gW G 1040) (uN τ x).toNat = some b ∧ hK h b = 4 ∧ fI h b 51 = nI (uP τ x).length
section
variable {G : Gh} {d M Pn x y : Nat} {h h' : AH} {τ : Tb} {fs : Nat → Nat}
theorem c_hm (k : TyS G h M Pn τ fs) (nm : NmS G h M τ) (hx : x < M) : C G mX3_howMany d [.ref (gW G 2), .int (nI x)] h (Ret (.int (nI (if 0 ≤ uN τ x then (uP τ x).length else 0))) h) := by
  obtain ⟨sA, -, -, hM, -, ha⟩ := k
  obtain ⟨a1, -⟩ := ha x hx
  refine bX3_howMany G d h _ _ (sA.at (by decide)) ⟨vp_in_nI (by omega) (by decide), ?_⟩
  rw [nI_cn (by omega), Int32.le_iff_toInt_le, a1]
  refine ⟨fun z => ?_, fun z => ?_⟩
  · have z' : 0 ≤ uN τ x := z
    obtain ⟨⟨n1, n2⟩, b, n3, n4, n5⟩ := nm x hx z'
    have e : aI h (gW G 1030) x = nI (uN τ x).toNat := by
      rw [i_eq, a1, nI_toInt (by omega)]
      omega
    rw [e, nI_cn (by omega), if_pos z']
    refine ⟨vp_in_nI (by omega) (by decide), vp_in_nI (by omega) (by decide), b, n3, n4, ?_⟩
    rw [n5]
    exact ⟨rfl, rfl⟩
  · have z' : ¬ 0 ≤ uN τ x := z
    rw [if_neg z']
    exact ⟨rfl, rfl⟩
theorem NmS.mv (nm : NmS G h M τ) (T : FTy G h h') (sA : SoA G h) (hD : DW (gW G)) : NmS G h' M τ := by
  intro x hx hn
  obtain ⟨n1, b, n3, n4, n5⟩ := nm x hx hn
  have s2 := sA.at (i := 2) (by decide)
  have u40 := T.1 (gW G 1040) fun i hi z => by
    have : 1040 = i := hD 1040 i (by decide) (by unfold TyC at hi; simp only [List.mem_cons, List.not_mem_nil, or_false] at hi; rcases hi with rfl | rfl | rfl | rfl | rfl | rfl | rfl | rfl | rfl <;> decide) z
    rw [← this] at hi
    exact absurd hi (by decide)
  have kinds : ∀ i, i ∈ TyC → hK h (gW G i) ≠ 4 := fun i hi => by
    unfold TyC at hi
    simp only [List.mem_cons, List.not_mem_nil, or_false] at hi
    rcases hi with rfl | rfl | rfl | rfl | rfl | rfl | rfl | rfl | rfl
    · rw [s2.1]; decide
    · rw [kw1030 s2]; decide
    · rw [kw1031 s2]; decide
    · rw [kw1032 s2]; decide
    · rw [kw1033 s2]; decide
    · rw [kw1034 s2]; decide
    · rw [kw1035 s2]; decide
    · rw [kw1039 s2]; decide
    · rw [kw1046 s2]; decide
  have ub := T.1 b fun i hi z => kinds i hi (by rw [← z]; exact n4)
  exact ⟨n1, b, by rw [u40.2.2.2.2.1]; exact n3, ub.1.trans n4, (ub.2.2.2.2.2 51).1.trans n5⟩
end
