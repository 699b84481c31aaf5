/-! THE COMPONENT'S TYPES: a copy of a scheme -/
section
variable {G : Gh} {d M M' Pn x t : Nat} {h h0 h1 h' : AH} {τ τ' : Tb} {fs fs' rt dp sz km : Nat → Nat} {V A : List Nat} {v : Int32}
theorem TyS.cg (k : TyS G h M Pn τ fs) (e : ∀ x, x < M → uN τ' x = uN τ x ∧ uP τ' x = uP τ x ∧ uS τ' x = uS τ x) : TyS G h M Pn τ' fs := by
  obtain ⟨sA, e36, e37, hM, hPn, hA⟩ := k
  refine ⟨sA, e36, e37, hM, hPn, fun x hx => ?_⟩
  obtain ⟨e1, e2, e3⟩ := e x hx
  rw [e1, e2, e3]
  exact hA x hx
theorem NmS.cg' (nm : NmS G h M τ) (e : ∀ x, x < M → uN τ' x = uN τ x ∧ uP τ' x = uP τ x) : NmS G h M τ' := by
  intro x hx hn
  obtain ⟨e1, e2⟩ := e x hx
  rw [e1] at hn ⊢
  rw [e2]
  exact nm x hx hn
theorem c_var (k : TyS G h M Pn τ fs) (hD : DW (gW G)) (hM1 : M < 150000) : C G mX3_variable (d + 1) [.ref (gW G 2)] h (fun o h' => o = .returned (some (.int (nI M))) ∧ TyS G h' (M + 1) Pn (tNew τ M (-1)) (updF fs M Pn) ∧ FTy G h h' ∧ NdA G h h' M) := by
  refine bX3_variable G d h _ (k.1.at (by decide)) (C.mono (c_nd (v := -1) k hD hM1) ?_)
  rintro _ h1 ⟨rfl, k1, f1, nd⟩
  exact KI.i ⟨rfl, k1, f1, nd⟩
/-- places for parts are kept free -/
theorem TyS.room (k : TyS G h M Pn τ fs) {n : Nat} (hn : Pn + n ≤ 150000) (e : h' = pI h (gW G 2) 37 (nI (Pn + n))) : TyS G h' M (Pn + n) τ fs ∧ FTy G h h' := by
  obtain ⟨sA, e36, e37, hM, hPn, hA⟩ := k
  have T : FTy G h h' := FTy.rf.p2 e (by decide)
  have B : ∀ i j, aI h' i j = aI h i j := fun i j => by rw [e, aI_pI]
  refine ⟨⟨sA.le T.2.2, by rw [e, fI_pI, if_neg (fun z => absurd z.2 (by decide))]; exact e36, by rw [e, fI_pI, if_pos ⟨rfl, rfl⟩], hM, hn, fun z hz => ?_⟩, T⟩
  obtain ⟨b1, b2, b3, b4, b5, b6⟩ := hA z hz
  rw [B, B, B]
  exact ⟨b1, b2, b3, b4, by omega, fun k p hp => by rw [B]; exact b6 k p hp⟩
/-- one of them is filled -/
theorem TyS.fill {a q : Nat} (k : TyS G h M Pn τ fs) (hD : DW (gW G)) (hx : x < M) (ha : a < M) (hq : fs x + (uP τ x).length = q) (hq2 : q < Pn) (ho : ∀ z, z < M → z ≠ x → fs z + (uP τ z).length ≤ q ∨ q < fs z) (e : h' = sI h (gW G 1035) q (nI a)) : TyS G h' M Pn (tApp τ x a) fs ∧ FTy G h h' := by
  obtain ⟨sA, e36, e37, hM, hPn, hA⟩ := k
  have T : FTy G h h' := by rw [e]; exact FTy.rf.sI (by decide)
  have ne : ∀ i, (i = 1030 ∨ i = 1031 ∨ i = 1032) → gW G i ≠ gW G 1035 := fun i hi z => by
    have := hD i 1035 (by rcases hi with rfl | rfl | rfl <;> decide) (by decide) z
    omega
  have B : ∀ i, (i = 1030 ∨ i = 1031 ∨ i = 1032) → ∀ j, aI h' (gW G i) j = aI h (gW G i) j := fun i hi j => by rw [e, aI_sI, if_neg (fun z => ne i hi z.1)]
  have A35 : ∀ j, aI h' (gW G 1035) j = if j = q then nI a else aI h (gW G 1035) j := fun j => by
    rw [e, aI_sI]
    by_cases hj : j = q
    · rw [if_pos ⟨rfl, hj⟩, if_pos hj]
    · rw [if_neg (fun z => hj z.2), if_neg hj]
  have f1 : fI h' = fI h := by rw [e]; rfl
  refine ⟨⟨sA.le T.2.2, by rw [f1]; exact e36, by rw [f1]; exact e37, hM, hPn, fun z hz => ?_⟩, T⟩
  obtain ⟨b1, b2, b3, b4, b5, b6⟩ := hA z hz
  rw [B 1030 (by decide), B 1031 (by decide), B 1032 (by decide)]
  have ep : uP (tApp τ x a) z = if z = x then uP τ z ++ [a] else uP τ z := rfl
  refine ⟨b1, b2, b3, b4, ?_, fun k p hp => ?_⟩
  · rw [ep]
    by_cases hzx : z = x
    · rw [if_pos hzx, List.length_append, List.length_singleton, hzx]
      omega
    · rw [if_neg hzx]
      omega
  · rw [ep] at hp
    rw [A35]
    by_cases hzx : z = x
    · rw [if_pos hzx] at hp
      by_cases hk : k < (uP τ z).length
      · rw [List.getElem?_append_left hk] at hp
        rw [if_neg (by rw [hzx] at hk ⊢; omega)]
        exact b6 k p hp
      · have hk2 := (List.getElem?_eq_some_iff.mp hp).1
        rw [List.length_append, List.length_singleton] at hk2
        have ek : k = (uP τ z).length := by omega
        rw [ek, List.getElem?_append_right (Nat.le_refl _), Nat.sub_self] at hp
        cases hp
        rw [ek, hzx, if_pos hq]
        exact ⟨rfl, ha⟩
    · rw [if_neg hzx] at hp
      have := (List.getElem?_eq_some_iff.mp hp).1
      rw [if_neg (by have := ho z hz hzx; omega)]
      exact b6 k p hp
/-- the places of the copies' parts -/
def pv (τ : Tb) (V : List Nat) : Nat := (V.map fun z => (pc τ z).length).sum
/-- roots, with the copies -/
def rtC (M0 : Nat) (rt : Nat → Nat) : Nat → Nat := fun z => if z < M0 then rt z else z
theorem rtC_rts (r : RTs M τ rt dp) (n : Nat) : RTs (M + n) (cpT M τ rt V) (rtC M rt) dp := by
  intro z hz
  unfold rtC
  rw [cp_S]
  by_cases c : z < M
  · rw [if_pos c, if_pos c]
    obtain ⟨h1, h2, h3⟩ := r z c
    refine ⟨by omega, fun y hy => ?_, h3⟩
    obtain ⟨g1, g2, g3⟩ := h2 y hy
    rw [if_pos g1]
    exact ⟨by omega, g2, g3⟩
  · rw [if_neg c, if_neg c]
    exact ⟨hz, fun y hy => (by cases hy), fun _ => rfl⟩
/-- what holds on the way: V are copied, A are open; K: the scheme's nodes -/
def CI (G : Gh) (h0 h : AH) (M0 Pn0 : Nat) (τ : Tb) (rt : Nat → Nat) (mk : Nat) (V A : List Nat) : Prop :=
  ((∃ fs, TyS G h (M0 + V.length) (Pn0 + pv τ V) (cpT M0 τ rt V) fs) ∧ NmS G h (M0 + V.length) (cpT M0 τ rt V) ∧ FTy G h0 h) ∧
  ((∀ z, z < M0 → aI h (gW G 1033) z = if z ∈ V ∨ z ∈ A then nI mk else aI h0 (gW G 1033) z) ∧ ∀ z, M0 ≤ z → z < M0 + V.length → aI h (gW G 1033) z = nI 0) ∧
  ((∀ z, z < M0 → aI h (gW G 1032) z = aI h0 (gW G 1032) z) ∧ ∀ z, M0 ≤ z → z < M0 + V.length → aI h (gW G 1032) z = -1) ∧
  (∀ z, z ∈ V → aI h (gW G 1034) z = nI (cpn M0 V z) ∧ z ∉ A) ∧ CpO M0 τ rt V
def cpQ (G : Gh) (h0 h : AH) (M0 Pn0 : Nat) (τ : Tb) (rt sz : Nat → Nat) (mk : Nat) (V A : List Nat) (t : Nat) : Outcome → AH → Prop := fun o h' => ∃ W, CI G h0 h' M0 Pn0 τ rt mk (V ++ W) A ∧ o = .returned (some (.int (nI (cpn M0 (V ++ W) (rt t))))) ∧ (cln M0 τ (rt t) ∨ rt t ∈ V ++ W) ∧ aI h' (gW G 1034) (rt t) = nI (cpn M0 (V ++ W) (rt t)) ∧ (∀ y, y < M0 → cln M0 τ y → aI h (gW G 1034) y = nI y → aI h' (gW G 1034) y = nI y) ∧ W.length ≤ sz t ∧ pv τ W + 1 ≤ sz t
end
