/-! THE COMPONENT'S TYPES: the table of nodes -/
/-- the table τ of M nodes lies in the arrays; fs: where the parts begin, of Pn places -/
def TyS (G : Gh) (h : AH) (M Pn : Nat) (τ : Tb) (fs : Nat → Nat) : Prop := SoA G h ∧ fI h (gW G 2) 36 = nI M ∧ fI h (gW G 2) 37 = nI Pn ∧ M ≤ 150000 ∧ Pn ≤ 150000 ∧ ∀ x, x < M → (aI h (gW G 1030) x).toInt = uN τ x ∧ (∀ y, uS τ x = some y → aI h (gW G 1032) x = nI y ∧ y < M) ∧ (uS τ x = none → (aI h (gW G 1032) x).toInt < 0) ∧ aI h (gW G 1031) x = nI (fs x) ∧ fs x + (uP τ x).length ≤ Pn ∧ ∀ k p, (uP τ x)[k]? = some p → aI h (gW G 1035) (fs x + k) = nI p ∧ p < M
/-- roots of the nodes -/
def RTs (M : Nat) (τ : Tb) (rt dp : Nat → Nat) : Prop := ∀ x, x < M → rt x < M ∧ (∀ y, uS τ x = some y → y < M ∧ rt x = rt y ∧ dp y < dp x) ∧ (uS τ x = none → rt x = x)
section
variable {G : Gh} {d M Pn x : Nat} {h : AH} {τ : Tb} {fs rt dp : Nat → Nat}
/-- the root of a node -/
theorem c_fd (k : TyS G h M Pn τ fs) (r : RTs M τ rt dp) (hx : x < M) : C G mX3_found d [.ref (gW G 2), .int (nI x)] h (Ret (.int (nI (rt x))) h) := by
  obtain ⟨sA, -, -, hM, -, ha⟩ := k
  refine bX3_found G d h _ _ ?_
  have key : ∀ n x, dp x < n → x < M → X G mX3_found d none [] 2 [(0, .ref (gW G 2)), (2, .int (nI x))] [] h (Ret (.int (nI (rt x))) h) := by
    intro n
    induction n with
    | zero => intro x hn; omega
    | succ n ih =>
      intro x hn hx
      obtain ⟨-, a2, a3, -⟩ := ha x hx
      obtain ⟨-, r2, r3⟩ := r x hx
      refine bX3_found_2 G d h _ _ (sA.at (by decide)) ⟨vp_in_nI (by omega) (by decide), ?_⟩
      rw [nI_cn (by omega), Int32.lt_iff_toInt_lt]
      cases e : uS τ x with
      | none =>
        refine ⟨fun _ => ?_, fun z => absurd (a3 e) z⟩
        rw [r3 e]
        exact ⟨rfl, rfl⟩
      | some y =>
        obtain ⟨b1, b2⟩ := a2 y e
        obtain ⟨c1, c2, c3⟩ := r2 y e
        rw [b1]
        refine ⟨fun z => ?_, fun _ => ⟨vp_in_nI (by omega) (by decide), ?_⟩⟩
        · rw [nI_toInt (by omega)] at z
          change ((y : Nat) : Int) < 0 at z
          omega
        · rintro _ rfl
          rw [c2]
          exact ih y (by omega) c1
  exact key (dp x + 1) x (Nat.lt_succ_self _) hx
/-- a part of a node: its root -/
theorem c_pt {i p : Nat} (k : TyS G h M Pn τ fs) (r : RTs M τ rt dp) (hx : x < M) (hp : (uP τ x)[i]? = some p) : C G mX3_part (d + 1) [.ref (gW G 2), .int (nI x), .int (nI i)] h (Ret (.int (nI (rt p))) h) := by
  obtain ⟨sA, -, -, hM, hPn, ha⟩ := id k
  obtain ⟨-, -, -, a4, a5, a6⟩ := ha x hx
  obtain ⟨b1, b2⟩ := a6 i p hp
  have hi := (List.getElem?_eq_some_iff.mp hp).1
  refine bX3_part G d h _ _ _ (sA.at (by decide)) ⟨vp_in_nI (by omega) (by decide), ?_⟩
  have e : nI (fs x) + nI i = nI (fs x + i) := by
    rw [i_eq, i_add, nI_toInt (by omega), nI_toInt (by omega), nI_toInt (by omega)]
    · omega
    · rw [nI_toInt (by omega), nI_toInt (by omega)]; omega
    · rw [nI_toInt (by omega), nI_toInt (by omega)]; omega
  rw [nI_cn (by omega), a4, e]
  refine ⟨vp_in_nI (by omega) (by decide), ?_⟩
  rw [nI_cn (by omega), b1]
  exact C.ri (c_fd k r b2) ⟨rfl, rfl⟩
end
