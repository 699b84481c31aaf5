/-! THE COMPONENT'S TYPES: nodes with one part, functions -/
section
variable {G : Gh} {d M Pn x a b : Nat} {h h1 h' : AH} {τ : Tb} {fs rt dp : Nat → Nat}
theorem c_b3 {v : Int32} (k : TyS G h M Pn τ fs) (hD : DW (gW G)) (hM1 : M < 150000) (hP1 : Pn < 150000) (ha : a < M) : C G mX3_built_3 (d + 1) [.ref (gW G 2), .int v, .int (nI a)] h (fun o h' => o = .returned (some (.int (nI M))) ∧ TyS G h' (M + 1) (Pn + 1) (tApp (tNew τ M v.toInt) M a) (updF fs M Pn) ∧ FTy G h h' ∧ NdA G h h' M) := by
  refine bX3_built_3 G d h _ _ _ (k.1.at (by decide)) (C.mono (c_nd k hD hM1) ?_)
  rintro _ h1 ⟨rfl, k1, f1, nd⟩
  refine KI.i ?_
  have e37 := k1.2.2.1
  rw [e37]
  refine ⟨vp_in_nI (by omega) (by decide), ?_⟩
  rw [nI_cn (by omega)]
  intro h5 e5
  have f5 : fI h5 = fI h1 := by rw [e5]; rfl
  rw [f5, e37, nI_1]
  intro h7 e7
  have ef : updF fs M Pn M = Pn := by unfold updF; rw [if_pos rfl]
  have ep : uP (tNew τ M v.toInt) M = [] := by
    show (if M = M then [] else uP τ M) = []
    rw [if_pos rfl]
  obtain ⟨k2, f2⟩ := k1.app (x := M) (a := a) hD (by omega) (by rw [ef, ep]; rfl) (by omega) hP1 e5 e7
  have na : ∀ i, (i = 1032 ∨ i = 1033 ∨ i = 1034) → ∀ z, aI h7 (gW G i) z = aI h1 (gW G i) z := fun i hi z => by
    rw [e7, aI_pI, e5, aI_sI, if_neg (fun w => by
      have := hD i 1035 (by rcases hi with rfl | rfl | rfl <;> decide) (by decide) w.1
      omega)]
  exact ⟨rfl, k2, f1.tr f2, fun z => by rw [na 1033 (by decide)]; exact nd.1 z, fun z => by rw [na 1032 (by decide)]; exact nd.2.1 z, fun z => by rw [na 1034 (by decide)]; exact nd.2.2 z⟩
theorem c_fn (k : TyS G h M Pn τ fs) (hD : DW (gW G)) (hM1 : M < 150000) (hP1 : Pn + 1 < 150000) (ha : a < M) (hb : b < M) : C G mX3_fun (d + 2) [.ref (gW G 2), .int (nI a), .int (nI b)] h (fun o h' => o = .returned (some (.int (nI M))) ∧ TyS G h' (M + 1) (Pn + 2) (tApp (tApp (tNew τ M 0) M a) M b) (updF fs M Pn) ∧ FTy G h h' ∧ NdA G h h' M) := by
  refine bX3_fun G (d + 1) h _ _ _ (k.1.at (by decide)) (C.mono (c_b3 (d := d) (v := 0) k hD hM1 (by omega) ha) ?_)
  rintro _ h1 ⟨rfl, k1, f1, nd⟩
  refine KI.i ?_
  have e37 := k1.2.2.1
  rw [e37]
  refine ⟨vp_in_nI (by omega) (by decide), ?_⟩
  rw [nI_cn (by omega)]
  intro h5 e5
  have f5 : fI h5 = fI h1 := by rw [e5]; rfl
  rw [f5, e37, nI_1]
  intro h7 e7
  have ef : updF fs M Pn M = Pn := by unfold updF; rw [if_pos rfl]
  have ep : uP (tApp (tNew τ M (0 : Int32).toInt) M a) M = [a] := by
    show (if M = M then (if M = M then [] else uP τ M) ++ [a] else _) = [a]
    rw [if_pos rfl, if_pos rfl]
    rfl
  obtain ⟨k2, f2⟩ := k1.app (x := M) (a := b) hD (by omega) (by rw [ef, ep]; rfl) (by omega) hP1 e5 e7
  have na : ∀ i, (i = 1032 ∨ i = 1033 ∨ i = 1034) → ∀ z, aI h7 (gW G i) z = aI h1 (gW G i) z := fun i hi z => by
    rw [e7, aI_pI, e5, aI_sI, if_neg (fun w => by
      have := hD i 1035 (by rcases hi with rfl | rfl | rfl <;> decide) (by decide) w.1
      omega)]
  exact ⟨rfl, k2, f1.tr f2, fun z => by rw [na 1033 (by decide)]; exact nd.1 z, fun z => by rw [na 1032 (by decide)]; exact nd.2.1 z, fun z => by rw [na 1034 (by decide)]; exact nd.2.2 z⟩
end
