set_option maxRecDepth 100000
theorem bX0_feed (G : Gh) (d : Nat) (h : AH) (Q : Outcome → AH → Prop) (p1 : Int32) (p2 : Int32) (p3 : Int32) (p4 : Int32) (p5 : Int32) (p6 : Nat) (s0 : So 0 (gW G) h) (hf : C G mX1_feed d [.ref (gW G 0), .int (p1), .int (p2), .int (p3), .int (p4), .int (p5)] h (KX (KI Q (fun x3 h1 => hK h1 p6 = 1003 ∧ Ns (gW G) p6 ∧ vp_in 0 (hL h1 p6) ∧ ∀ h6, h6 = sJ h1 p6 (0 : Int32).toNatClampNeg ((x3 : Int32).toInt64) → (Q (.returned (some (.int 0))) h6))) (fun a9 h1 => (hK h1 a9 = 15 ∧ X G mX0_feed (d + 1) none [] 19 [] [.ref (a9)] h1 Q)))) : C G mX0_feed (d + 1) [.ref (gW G 0), .int (p1), .int (p2), .int (p3), .int (p4), .int (p5), .ref (p6)] h Q := by
  refine C.of_X (by decide +kernel) (Nat.le_of_ble_eq_true rfl) wX0_feed ?_
  show X G mX0_feed (d + 1) none [] 0 [(0, .ref (gW G 0)), (1, .int (p1)), (2, .int (p2)), (3, .int (p3)), (4, .int (p4)), (5, .int (p5)), (6, .ref (p6))] [] h Q
  refine x_aload (pc' := 2) 6 (dX0_feed 0 rfl rfl) rfl rfl ?_
  refine x_iconst (pc' := 3) (v := 0) (dX0_feed 1 rfl rfl) (by decide) rfl ?_
  refine x_aload_n (pc' := 4) 0 (dX0_feed 2 rfl rfl) rfl rfl rfl ?_
  refine x_iload_n (pc' := 5) 1 (dX0_feed 3 rfl rfl) rfl rfl rfl ?_
  refine x_iload_n (pc' := 6) 2 (dX0_feed 4 rfl rfl) rfl rfl rfl ?_
  refine x_iload_n (pc' := 7) 3 (dX0_feed 5 rfl rfl) rfl rfl rfl ?_
  refine x_iload (pc' := 9) 4 (dX0_feed 6 rfl rfl) rfl rfl ?_
  refine x_iload (pc' := 11) 5 (dX0_feed 7 rfl rfl) rfl rfl ?_
  refine x_inv0 (pc' := 14) (ν := mX1_feed) (av := [_, _, _, _, _, _]) (st := [_, _]) rfl (dX0_feed 8 rfl rfl) (Nat.le_of_ble_eq_true rfl) wX1_feed q211 (inv_V (k := 0) (dX0_feed 8 rfl rfl) q1043 q1044 q1045 wX1_feed (by decide) lX1_feed (by decide) s0.1) (exN (by decide)) rfl ?_
  refine C.kx hf (fun _ _ => KI.g (fun x3 h1 hf le2 => ?_)) (fun a9 h1 hf => ?_)
  · replace s0 := s0.le sc0 (le2)
    refine x_i2l (pc' := 15) (dX0_feed 9 rfl rfl) rfl ?_
    obtain ⟨k4, hf⟩ := hf
    obtain ⟨n8, hf⟩ := hf
    obtain ⟨i5, hf⟩ := hf
    refine x_last (pc' := 16) (dX0_feed 10 rfl rfl) rfl k4 (Or.inr ⟨n8, by decide⟩) i5 (fun h6 e7 => ?_)
    replace hf := hf h6 e7
    replace k4 : hK h6 p6 = 1003 := by rw [e7]; exact k4
    replace s0 : So 0 (gW G) h6 := by rw [e7]; exact s0.le sc0 (sJ_le )
    refine x_goto (tgt := 23) (dX0_feed 11 rfl rfl) (by decide) ?_
    refine x_iconst (pc' := 24) (v := 0) (dX0_feed 15 rfl rfl) (by decide) rfl ?_
    exact x_iret (dX0_feed 16 rfl rfl) rfl hf
  · obtain ⟨k10, hf⟩ := hf
    refine XT.caught (pc2 := 19) hokX0_feed rfl (Or.inl rfl) k10 ?_
    exact X.sub [] rfl (by simp) hf
theorem bX0_feed_19 (G : Gh) (d : Nat) (h : AH) (Q : Outcome → AH → Prop) (t0 : Nat) (hf : Q (.returned (some (.int 1))) h) : X G mX0_feed (d + 1) none [] 19 [] [.ref (t0)] h Q := by
  refine x_astore (pc' := 21) (dX0_feed 12 rfl rfl) (by decide) rfl rfl ?_
  refine x_iconst (pc' := 22) (v := 1) (dX0_feed 13 rfl rfl) (by decide) rfl ?_
  exact x_iret (dX0_feed 14 rfl rfl) rfl hf
theorem bX0_end (G : Gh) (d : Nat) (h : AH) (Q : Outcome → AH → Prop) (p1 : Int32) (p2 : Nat) (s0 : So 0 (gW G) h) (hf : C G mX1_end d [.ref (gW G 0), .int (p1)] h (KX (KI Q (fun x3 h1 => hK h1 p2 = 1003 ∧ Ns (gW G) p2 ∧ vp_in 0 (hL h1 p2) ∧ ∀ h6, h6 = sJ h1 p2 (0 : Int32).toNatClampNeg ((x3 : Int32).toInt64) → (Q (.returned (some (.int 0))) h6))) (fun a9 h1 => (hK h1 a9 = 16 ∧ X G mX0_end (d + 1) none [] 12 [] [.ref (a9)] h1 Q)))) : C G mX0_end (d + 1) [.ref (gW G 0), .int (p1), .ref (p2)] h Q := by
  refine C.of_X (by decide +kernel) (Nat.le_of_ble_eq_true rfl) wX0_end ?_
  show X G mX0_end (d + 1) none [] 0 [(0, .ref (gW G 0)), (1, .int (p1)), (2, .ref (p2))] [] h Q
  refine x_aload_n (pc' := 1) 2 (dX0_end 0 rfl rfl) rfl rfl rfl ?_
  refine x_iconst (pc' := 2) (v := 0) (dX0_end 1 rfl rfl) (by decide) rfl ?_
  refine x_aload_n (pc' := 3) 0 (dX0_end 2 rfl rfl) rfl rfl rfl ?_
  refine x_iload_n (pc' := 4) 1 (dX0_end 3 rfl rfl) rfl rfl rfl ?_
  refine x_inv0 (pc' := 7) (ν := mX1_end) (av := [_, _]) (st := [_, _]) rfl (dX0_end 4 rfl rfl) (Nat.le_of_ble_eq_true rfl) wX1_end q211 (inv_V (k := 0) (dX0_end 4 rfl rfl) q1120 q1121 q1122 wX1_end (by decide) lX1_end (by decide) s0.1) (exN (by decide)) rfl ?_
  refine C.kx hf (fun _ _ => KI.g (fun x3 h1 hf le2 => ?_)) (fun a9 h1 hf => ?_)
  · replace s0 := s0.le sc0 (le2)
    refine x_i2l (pc' := 8) (dX0_end 5 rfl rfl) rfl ?_
    obtain ⟨k4, hf⟩ := hf
    obtain ⟨n8, hf⟩ := hf
    obtain ⟨i5, hf⟩ := hf
    refine x_last (pc' := 9) (dX0_end 6 rfl rfl) rfl k4 (Or.inr ⟨n8, by decide⟩) i5 (fun h6 e7 => ?_)
    replace hf := hf h6 e7
    replace k4 : hK h6 p2 = 1003 := by rw [e7]; exact k4
    replace s0 : So 0 (gW G) h6 := by rw [e7]; exact s0.le sc0 (sJ_le )
    refine x_goto (tgt := 15) (dX0_end 7 rfl rfl) (by decide) ?_
    refine x_iconst (pc' := 16) (v := 0) (dX0_end 11 rfl rfl) (by decide) rfl ?_
    exact x_iret (dX0_end 12 rfl rfl) rfl hf
  · obtain ⟨k10, hf⟩ := hf
    refine XT.caught (pc2 := 12) hokX0_end rfl (Or.inr (Or.inl rfl)) k10 ?_
    exact X.sub [] rfl (by simp) hf
theorem bX0_end_12 (G : Gh) (d : Nat) (h : AH) (Q : Outcome → AH → Prop) (t0 : Nat) (hf : Q (.returned (some (.int 1))) h) : X G mX0_end (d + 1) none [] 12 [] [.ref (t0)] h Q := by
  refine x_astore_n (pc' := 13) (dX0_end 8 rfl rfl) rfl (by decide) rfl rfl ?_
  refine x_iconst (pc' := 14) (v := 1) (dX0_end 9 rfl rfl) (by decide) rfl ?_
  exact x_iret (dX0_end 10 rfl rfl) rfl hf
theorem bX0_build (G : Gh) (d : Nat) (h : AH) (Q : Outcome → AH → Prop) (p1 : Nat) (s0 : So 0 (gW G) h) (hf : C G mX1_build d [.ref (gW G 0)] h (KX (KI Q (fun x3 h1 => hK h1 p1 = 1003 ∧ Ns (gW G) p1 ∧ vp_in 0 (hL h1 p1) ∧ ∀ h6, h6 = sJ h1 p1 (0 : Int32).toNatClampNeg ((x3 : Int32).toInt64) → (Q (.returned (some (.int 0))) h6))) (fun a9 h1 => (hK h1 a9 = 55 ∧ X G mX0_build (d + 1) none [] 11 [] [.ref (a9)] h1 Q)))) : C G mX0_build (d + 1) [.ref (gW G 0), .ref (p1)] h Q := by
  refine C.of_X (by decide +kernel) (Nat.le_of_ble_eq_true rfl) wX0_build ?_
  show X G mX0_build (d + 1) none [] 0 [(0, .ref (gW G 0)), (1, .ref (p1))] [] h Q
  refine x_aload_n (pc' := 1) 1 (dX0_build 0 rfl rfl) rfl rfl rfl ?_
  refine x_iconst (pc' := 2) (v := 0) (dX0_build 1 rfl rfl) (by decide) rfl ?_
  refine x_aload_n (pc' := 3) 0 (dX0_build 2 rfl rfl) rfl rfl rfl ?_
  refine x_inv0 (pc' := 6) (ν := mX1_build) (av := [_]) (st := [_, _]) rfl (dX0_build 3 rfl rfl) (Nat.le_of_ble_eq_true rfl) wX1_build q211 (inv_V (k := 0) (dX0_build 3 rfl rfl) q1146 q1147 q1148 wX1_build (by decide) lX1_build (by decide) s0.1) (exN (by decide)) rfl ?_
  refine C.kx hf (fun _ _ => KI.g (fun x3 h1 hf le2 => ?_)) (fun a9 h1 hf => ?_)
  · replace s0 := s0.le sc0 (le2)
    refine x_i2l (pc' := 7) (dX0_build 4 rfl rfl) rfl ?_
    obtain ⟨k4, hf⟩ := hf
    obtain ⟨n8, hf⟩ := hf
    obtain ⟨i5, hf⟩ := hf
    refine x_last (pc' := 8) (dX0_build 5 rfl rfl) rfl k4 (Or.inr ⟨n8, by decide⟩) i5 (fun h6 e7 => ?_)
    replace hf := hf h6 e7
    replace k4 : hK h6 p1 = 1003 := by rw [e7]; exact k4
    replace s0 : So 0 (gW G) h6 := by rw [e7]; exact s0.le sc0 (sJ_le )
    refine x_goto (tgt := 14) (dX0_build 6 rfl rfl) (by decide) ?_
    refine x_iconst (pc' := 15) (v := 0) (dX0_build 10 rfl rfl) (by decide) rfl ?_
    exact x_iret (dX0_build 11 rfl rfl) rfl hf
  · obtain ⟨k10, hf⟩ := hf
    refine XT.caught (pc2 := 11) hokX0_build rfl (Or.inr (Or.inr (Or.inr (Or.inl rfl)))) k10 ?_
    exact X.sub [] rfl (by simp) hf
theorem bX0_build_11 (G : Gh) (d : Nat) (h : AH) (Q : Outcome → AH → Prop) (t0 : Nat) (hf : Q (.returned (some (.int 1))) h) : X G mX0_build (d + 1) none [] 11 [] [.ref (t0)] h Q := by
  refine x_astore_n (pc' := 12) (dX0_build 7 rfl rfl) rfl (by decide) rfl rfl ?_
  refine x_iconst (pc' := 13) (v := 1) (dX0_build 8 rfl rfl) (by decide) rfl ?_
  exact x_iret (dX0_build 9 rfl rfl) rfl hf
theorem bX0_run (G : Gh) (d : Nat) (h : AH) (Q : Outcome → AH → Prop) (p1 : Int32) (p2 : Nat) (s0 : So 0 (gW G) h) (hf : C G mX1_run d [.ref (gW G 0), .int (p1)] h (KX (KI Q (fun x3 h1 => hK h1 p2 = 1003 ∧ Ns (gW G) p2 ∧ vp_in 0 (hL h1 p2) ∧ ∀ h6, h6 = sJ h1 p2 (0 : Int32).toNatClampNeg ((x3 : Int32).toInt64) → (Q (.returned (some (.int 0))) h6))) (fun a9 h1 => (hK h1 a9 = 16 ∧ X G mX0_run (d + 1) none [] 12 [] [.ref (a9)] h1 Q) ∨ (hK h1 a9 = 55 ∧ X G mX0_run (d + 1) none [] 15 [] [.ref (a9)] h1 Q)))) : C G mX0_run (d + 1) [.ref (gW G 0), .int (p1), .ref (p2)] h Q := by
  refine C.of_X (by decide +kernel) (Nat.le_of_ble_eq_true rfl) wX0_run ?_
  show X G mX0_run (d + 1) none [] 0 [(0, .ref (gW G 0)), (1, .int (p1)), (2, .ref (p2))] [] h Q
  refine x_aload_n (pc' := 1) 2 (dX0_run 0 rfl rfl) rfl rfl rfl ?_
  refine x_iconst (pc' := 2) (v := 0) (dX0_run 1 rfl rfl) (by decide) rfl ?_
  refine x_aload_n (pc' := 3) 0 (dX0_run 2 rfl rfl) rfl rfl rfl ?_
  refine x_iload_n (pc' := 4) 1 (dX0_run 3 rfl rfl) rfl rfl rfl ?_
  refine x_inv0 (pc' := 7) (ν := mX1_run) (av := [_, _]) (st := [_, _]) rfl (dX0_run 4 rfl rfl) (Nat.le_of_ble_eq_true rfl) wX1_run q211 (inv_V (k := 0) (dX0_run 4 rfl rfl) q2871 q2872 q2873 wX1_run (by decide) lX1_run (by decide) s0.1) (exN (by decide)) rfl ?_
  refine C.kx hf (fun _ _ => KI.g (fun x3 h1 hf le2 => ?_)) (fun a9 h1 hf => ?_)
  · replace s0 := s0.le sc0 (le2)
    refine x_i2l (pc' := 8) (dX0_run 5 rfl rfl) rfl ?_
    obtain ⟨k4, hf⟩ := hf
    obtain ⟨n8, hf⟩ := hf
    obtain ⟨i5, hf⟩ := hf
    refine x_last (pc' := 9) (dX0_run 6 rfl rfl) rfl k4 (Or.inr ⟨n8, by decide⟩) i5 (fun h6 e7 => ?_)
    replace hf := hf h6 e7
    replace k4 : hK h6 p2 = 1003 := by rw [e7]; exact k4
    replace s0 : So 0 (gW G) h6 := by rw [e7]; exact s0.le sc0 (sJ_le )
    refine x_goto (tgt := 18) (dX0_run 7 rfl rfl) (by decide) ?_
    refine x_iconst (pc' := 19) (v := 0) (dX0_run 14 rfl rfl) (by decide) rfl ?_
    exact x_iret (dX0_run 15 rfl rfl) rfl hf
  · rcases hf with ⟨k10, hf⟩ | ⟨k11, hf⟩
    · refine XT.caught (pc2 := 12) hokX0_run rfl (Or.inr (Or.inl rfl)) k10 ?_
      exact X.sub [] rfl (by simp) hf
    · refine XT.caught (pc2 := 15) hokX0_run rfl (Or.inr (Or.inr (Or.inr (Or.inl rfl)))) k11 ?_
      exact X.sub [] rfl (by simp) hf
theorem bX0_run_12 (G : Gh) (d : Nat) (h : AH) (Q : Outcome → AH → Prop) (t0 : Nat) (hf : Q (.returned (some (.int 1))) h) : X G mX0_run (d + 1) none [] 12 [] [.ref (t0)] h Q := by
  refine x_astore_n (pc' := 13) (dX0_run 8 rfl rfl) rfl (by decide) rfl rfl ?_
  refine x_iconst (pc' := 14) (v := 1) (dX0_run 9 rfl rfl) (by decide) rfl ?_
  exact x_iret (dX0_run 10 rfl rfl) rfl hf
theorem bX0_run_15 (G : Gh) (d : Nat) (h : AH) (Q : Outcome → AH → Prop) (t0 : Nat) (hf : Q (.returned (some (.int 2))) h) : X G mX0_run (d + 1) none [] 15 [] [.ref (t0)] h Q := by
  refine x_astore_n (pc' := 16) (dX0_run 11 rfl rfl) rfl (by decide) rfl rfl ?_
  refine x_iconst (pc' := 17) (v := 2) (dX0_run 12 rfl rfl) (by decide) rfl ?_
  exact x_iret (dX0_run 13 rfl rfl) rfl hf
theorem bX0_look (G : Gh) (d : Nat) (h : AH) (Q : Outcome → AH → Prop) (p1 : Int32) (p2 : Nat) (s0 : So 0 (gW G) h) (hf : C G mX1_look d [.ref (gW G 0), .int (p1)] h (KX (KI Q (fun x3 h1 => hK h1 p2 = 1003 ∧ Ns (gW G) p2 ∧ vp_in 0 (hL h1 p2) ∧ ∀ h6, h6 = sJ h1 p2 (0 : Int32).toNatClampNeg ((x3 : Int32).toInt64) → (Q (.returned (some (.int 0))) h6))) (fun a9 h1 => (hK h1 a9 = 16 ∧ X G mX0_look (d + 1) none [] 12 [] [.ref (a9)] h1 Q) ∨ (hK h1 a9 = 56 ∧ X G mX0_look (d + 1) none [] 15 [] [.ref (a9)] h1 Q)))) : C G mX0_look (d + 1) [.ref (gW G 0), .int (p1), .ref (p2)] h Q := by
  refine C.of_X (by decide +kernel) (Nat.le_of_ble_eq_true rfl) wX0_look ?_
  show X G mX0_look (d + 1) none [] 0 [(0, .ref (gW G 0)), (1, .int (p1)), (2, .ref (p2))] [] h Q
  refine x_aload_n (pc' := 1) 2 (dX0_look 0 rfl rfl) rfl rfl rfl ?_
  refine x_iconst (pc' := 2) (v := 0) (dX0_look 1 rfl rfl) (by decide) rfl ?_
  refine x_aload_n (pc' := 3) 0 (dX0_look 2 rfl rfl) rfl rfl rfl ?_
  refine x_iload_n (pc' := 4) 1 (dX0_look 3 rfl rfl) rfl rfl rfl ?_
  refine x_inv0 (pc' := 7) (ν := mX1_look) (av := [_, _]) (st := [_, _]) rfl (dX0_look 4 rfl rfl) (Nat.le_of_ble_eq_true rfl) wX1_look q211 (inv_V (k := 0) (dX0_look 4 rfl rfl) q3309 q3310 q3311 wX1_look (by decide) lX1_look (by decide) s0.1) (exN (by decide)) rfl ?_
  refine C.kx hf (fun _ _ => KI.g (fun x3 h1 hf le2 => ?_)) (fun a9 h1 hf => ?_)
  · replace s0 := s0.le sc0 (le2)
    refine x_i2l (pc' := 8) (dX0_look 5 rfl rfl) rfl ?_
    obtain ⟨k4, hf⟩ := hf
    obtain ⟨n8, hf⟩ := hf
    obtain ⟨i5, hf⟩ := hf
    refine x_last (pc' := 9) (dX0_look 6 rfl rfl) rfl k4 (Or.inr ⟨n8, by decide⟩) i5 (fun h6 e7 => ?_)
    replace hf := hf h6 e7
    replace k4 : hK h6 p2 = 1003 := by rw [e7]; exact k4
    replace s0 : So 0 (gW G) h6 := by rw [e7]; exact s0.le sc0 (sJ_le )
    refine x_goto (tgt := 18) (dX0_look 7 rfl rfl) (by decide) ?_
    refine x_iconst (pc' := 19) (v := 0) (dX0_look 14 rfl rfl) (by decide) rfl ?_
    exact x_iret (dX0_look 15 rfl rfl) rfl hf
  · rcases hf with ⟨k10, hf⟩ | ⟨k11, hf⟩
    · refine XT.caught (pc2 := 12) hokX0_look rfl (Or.inr (Or.inl rfl)) k10 ?_
      exact X.sub [] rfl (by simp) hf
    · refine XT.caught (pc2 := 15) hokX0_look rfl (Or.inr (Or.inr (Or.inr (Or.inr rfl)))) k11 ?_
      exact X.sub [] rfl (by simp) hf
theorem bX0_look_12 (G : Gh) (d : Nat) (h : AH) (Q : Outcome → AH → Prop) (t0 : Nat) (hf : Q (.returned (some (.int 1))) h) : X G mX0_look (d + 1) none [] 12 [] [.ref (t0)] h Q := by
  refine x_astore_n (pc' := 13) (dX0_look 8 rfl rfl) rfl (by decide) rfl rfl ?_
  refine x_iconst (pc' := 14) (v := 1) (dX0_look 9 rfl rfl) (by decide) rfl ?_
  exact x_iret (dX0_look 10 rfl rfl) rfl hf
theorem bX0_look_15 (G : Gh) (d : Nat) (h : AH) (Q : Outcome → AH → Prop) (t0 : Nat) (hf : Q (.returned (some (.int 2))) h) : X G mX0_look (d + 1) none [] 15 [] [.ref (t0)] h Q := by
  refine x_astore_n (pc' := 16) (dX0_look 11 rfl rfl) rfl (by decide) rfl rfl ?_
  refine x_iconst (pc' := 17) (v := 2) (dX0_look 12 rfl rfl) (by decide) rfl ?_
  exact x_iret (dX0_look 13 rfl rfl) rfl hf
theorem bX0_letter (G : Gh) (d : Nat) (h : AH) (Q : Outcome → AH → Prop) (p1 : Int32) (p2 : Nat) (s0 : So 0 (gW G) h) (hf : C G mX1_letter d [.ref (gW G 0), .int (p1)] h (KX (KI Q (fun x3 h1 => hK h1 p2 = 1003 ∧ Ns (gW G) p2 ∧ vp_in 0 (hL h1 p2) ∧ ∀ h6, h6 = sJ h1 p2 (0 : Int32).toNatClampNeg ((x3 : Int32).toInt64) → (Q (.returned (some (.int 0))) h6))) (fun a9 h1 => (hK h1 a9 = 56 ∧ X G mX0_letter (d + 1) none [] 12 [] [.ref (a9)] h1 Q)))) : C G mX0_letter (d + 1) [.ref (gW G 0), .int (p1), .ref (p2)] h Q := by
  refine C.of_X (by decide +kernel) (Nat.le_of_ble_eq_true rfl) wX0_letter ?_
  show X G mX0_letter (d + 1) none [] 0 [(0, .ref (gW G 0)), (1, .int (p1)), (2, .ref (p2))] [] h Q
  refine x_aload_n (pc' := 1) 2 (dX0_letter 0 rfl rfl) rfl rfl rfl ?_
  refine x_iconst (pc' := 2) (v := 0) (dX0_letter 1 rfl rfl) (by decide) rfl ?_
  refine x_aload_n (pc' := 3) 0 (dX0_letter 2 rfl rfl) rfl rfl rfl ?_
  refine x_iload_n (pc' := 4) 1 (dX0_letter 3 rfl rfl) rfl rfl rfl ?_
  refine x_inv0 (pc' := 7) (ν := mX1_letter) (av := [_, _]) (st := [_, _]) rfl (dX0_letter 4 rfl rfl) (Nat.le_of_ble_eq_true rfl) wX1_letter q211 (inv_V (k := 0) (dX0_letter 4 rfl rfl) q3402 q3403 q3404 wX1_letter (by decide) lX1_letter (by decide) s0.1) (exN (by decide)) rfl ?_
  refine C.kx hf (fun _ _ => KI.g (fun x3 h1 hf le2 => ?_)) (fun a9 h1 hf => ?_)
  · replace s0 := s0.le sc0 (le2)
    refine x_i2l (pc' := 8) (dX0_letter 5 rfl rfl) rfl ?_
    obtain ⟨k4, hf⟩ := hf
    obtain ⟨n8, hf⟩ := hf
    obtain ⟨i5, hf⟩ := hf
    refine x_last (pc' := 9) (dX0_letter 6 rfl rfl) rfl k4 (Or.inr ⟨n8, by decide⟩) i5 (fun h6 e7 => ?_)
    replace hf := hf h6 e7
    replace k4 : hK h6 p2 = 1003 := by rw [e7]; exact k4
    replace s0 : So 0 (gW G) h6 := by rw [e7]; exact s0.le sc0 (sJ_le )
    refine x_goto (tgt := 15) (dX0_letter 7 rfl rfl) (by decide) ?_
    refine x_iconst (pc' := 16) (v := 0) (dX0_letter 11 rfl rfl) (by decide) rfl ?_
    exact x_iret (dX0_letter 12 rfl rfl) rfl hf
  · obtain ⟨k10, hf⟩ := hf
    refine XT.caught (pc2 := 12) hokX0_letter rfl (Or.inr (Or.inr (Or.inr (Or.inr rfl)))) k10 ?_
    exact X.sub [] rfl (by simp) hf
theorem bX0_letter_12 (G : Gh) (d : Nat) (h : AH) (Q : Outcome → AH → Prop) (t0 : Nat) (hf : Q (.returned (some (.int 1))) h) : X G mX0_letter (d + 1) none [] 12 [] [.ref (t0)] h Q := by
  refine x_astore_n (pc' := 13) (dX0_letter 8 rfl rfl) rfl (by decide) rfl rfl ?_
  refine x_iconst (pc' := 14) (v := 1) (dX0_letter 9 rfl rfl) (by decide) rfl ?_
  exact x_iret (dX0_letter 10 rfl rfl) rfl hf
theorem bX0_warning (G : Gh) (d : Nat) (h : AH) (Q : Outcome → AH → Prop) (p1 : Int32) (p2 : Int32) (p3 : Nat) (s0 : So 0 (gW G) h) (hf : C G mX1_warning d [.ref (gW G 0), .int (p1), .int (p2)] h (KX (KI Q (fun x3 h1 => hK h1 p3 = 1003 ∧ Ns (gW G) p3 ∧ vp_in 0 (hL h1 p3) ∧ ∀ h6, h6 = sJ h1 p3 (0 : Int32).toNatClampNeg ((x3 : Int32).toInt64) → (Q (.returned (some (.int 0))) h6))) (fun a9 h1 => (hK h1 a9 = 16 ∧ X G mX0_warning (d + 1) none [] 13 [] [.ref (a9)] h1 Q) ∨ (hK h1 a9 = 56 ∧ X G mX0_warning (d + 1) none [] 17 [] [.ref (a9)] h1 Q)))) : C G mX0_warning (d + 1) [.ref (gW G 0), .int (p1), .int (p2), .ref (p3)] h Q := by
  refine C.of_X (by decide +kernel) (Nat.le_of_ble_eq_true rfl) wX0_warning ?_
  show X G mX0_warning (d + 1) none [] 0 [(0, .ref (gW G 0)), (1, .int (p1)), (2, .int (p2)), (3, .ref (p3))] [] h Q
  refine x_aload_n (pc' := 1) 3 (dX0_warning 0 rfl rfl) rfl rfl rfl ?_
  refine x_iconst (pc' := 2) (v := 0) (dX0_warning 1 rfl rfl) (by decide) rfl ?_
  refine x_aload_n (pc' := 3) 0 (dX0_warning 2 rfl rfl) rfl rfl rfl ?_
  refine x_iload_n (pc' := 4) 1 (dX0_warning 3 rfl rfl) rfl rfl rfl ?_
  refine x_iload_n (pc' := 5) 2 (dX0_warning 4 rfl rfl) rfl rfl rfl ?_
  refine x_inv0 (pc' := 8) (ν := mX1_warning) (av := [_, _, _]) (st := [_, _]) rfl (dX0_warning 5 rfl rfl) (Nat.le_of_ble_eq_true rfl) wX1_warning q211 (inv_V (k := 0) (dX0_warning 5 rfl rfl) q3413 q3414 q3415 wX1_warning (by decide) lX1_warning (by decide) s0.1) (exN (by decide)) rfl ?_
  refine C.kx hf (fun _ _ => KI.g (fun x3 h1 hf le2 => ?_)) (fun a9 h1 hf => ?_)
  · replace s0 := s0.le sc0 (le2)
    refine x_i2l (pc' := 9) (dX0_warning 6 rfl rfl) rfl ?_
    obtain ⟨k4, hf⟩ := hf
    obtain ⟨n8, hf⟩ := hf
    obtain ⟨i5, hf⟩ := hf
    refine x_last (pc' := 10) (dX0_warning 7 rfl rfl) rfl k4 (Or.inr ⟨n8, by decide⟩) i5 (fun h6 e7 => ?_)
    replace hf := hf h6 e7
    replace k4 : hK h6 p3 = 1003 := by rw [e7]; exact k4
    replace s0 : So 0 (gW G) h6 := by rw [e7]; exact s0.le sc0 (sJ_le )
    refine x_goto (tgt := 21) (dX0_warning 8 rfl rfl) (by decide) ?_
    refine x_iconst (pc' := 22) (v := 0) (dX0_warning 15 rfl rfl) (by decide) rfl ?_
    exact x_iret (dX0_warning 16 rfl rfl) rfl hf
  · rcases hf with ⟨k10, hf⟩ | ⟨k11, hf⟩
    · refine XT.caught (pc2 := 13) hokX0_warning rfl (Or.inr (Or.inl rfl)) k10 ?_
      exact X.sub [] rfl (by simp) hf
    · refine XT.caught (pc2 := 17) hokX0_warning rfl (Or.inr (Or.inr (Or.inr (Or.inr rfl)))) k11 ?_
      exact X.sub [] rfl (by simp) hf
theorem bX0_warning_13 (G : Gh) (d : Nat) (h : AH) (Q : Outcome → AH → Prop) (t0 : Nat) (hf : Q (.returned (some (.int 1))) h) : X G mX0_warning (d + 1) none [] 13 [] [.ref (t0)] h Q := by
  refine x_astore (pc' := 15) (dX0_warning 9 rfl rfl) (by decide) rfl rfl ?_
  refine x_iconst (pc' := 16) (v := 1) (dX0_warning 10 rfl rfl) (by decide) rfl ?_
  exact x_iret (dX0_warning 11 rfl rfl) rfl hf
theorem bX0_warning_17 (G : Gh) (d : Nat) (h : AH) (Q : Outcome → AH → Prop) (t0 : Nat) (hf : Q (.returned (some (.int 2))) h) : X G mX0_warning (d + 1) none [] 17 [] [.ref (t0)] h Q := by
  refine x_astore (pc' := 19) (dX0_warning 12 rfl rfl) (by decide) rfl rfl ?_
  refine x_iconst (pc' := 20) (v := 2) (dX0_warning 13 rfl rfl) (by decide) rfl ?_
  exact x_iret (dX0_warning 14 rfl rfl) rfl hf
theorem bX1_init (G : Gh) (d : Nat) (h : AH) (Q : Outcome → AH → Prop) (a0 : Nat) (hf : (hc h + 1 ≤ MC) ∧ (hs h + 9 ≤ MS) ∧ ∀ q1, hK h q1 = 0 → ∀ h3, h3 = nO h q1 1 → (C G mX2_init d [.ref (q1)] h3 (KV Q (fun h6 => hK h6 a0 = 1 ∧ (∀ h9, h9 = pR h6 a0 0 (some q1) → ((hc h9 + 1 ≤ MC) ∧ (hs h9 + 19 ≤ MS) ∧ ∀ q10, hK h9 q10 = 0 → ∀ h12, h12 = nO h9 q10 2 → (C G mX3_init d [.ref (q10)] h12 (KV Q (fun h15 => ∀ h17, h17 = pR h15 a0 1 (some q10) → ((hc h17 + 1 ≤ MC) ∧ (hs h17 + 22 ≤ MS) ∧ ∀ q18, hK h17 q18 = 0 → ∀ h20, h20 = nO h17 q18 4 → (C G mX6_init d [.ref (q18)] h20 (KV Q (fun h23 => ∀ h25, h25 = pR h23 a0 2 (some q18) → ((hc h25 + 1 ≤ MC) ∧ (hs h25 + 16 ≤ MS) ∧ ∀ q26, hK h25 q26 = 0 → ∀ h28, h28 = nO h25 q26 7 → (∃ b31, fR h28 a0 0 = some b31 ∧ (∃ b33, fR h28 a0 1 = some b33 ∧ (∃ b35, fR h28 a0 2 = some b35 ∧ (hK h28 b35 = 5 ∧ (∃ b38, fR h28 b35 59 = some b38 ∧ (C G mX9_init d [.ref (q26), .ref (b31), .ref (b33), .ref (b38)] h28 (KV Q (fun h40 => ∀ h42, h42 = pR h40 a0 3 (some q26) → ((hc h42 + 1 ≤ MC) ∧ (hs h42 + 12 ≤ MS) ∧ ∀ q43, hK h42 q43 = 0 → ∀ h45, h45 = nO h42 q43 8 → (C G mX10_init d [.ref (q43)] h45 (KV Q (fun h48 => ∀ h50, h50 = pR h48 a0 4 (some q43) → ((hc h50 + 1 ≤ MC) ∧ (hs h50 + 6 ≤ MS) ∧ ∀ q51, hK h50 q51 = 0 → ∀ h53, h53 = nO h50 q51 9 → (∃ b56, fR h53 a0 1 = some b56 ∧ (∃ b58, fR h53 a0 0 = some b58 ∧ (∃ b60, fR h53 a0 4 = some b60 ∧ (C G mX11_init d [.ref (q51), .ref (b56), .ref (b58), .ref (b60)] h53 (KV Q (fun h62 => ∀ h64, h64 = pR h62 a0 5 (some q51) → ((hc h64 + 1 ≤ MC) ∧ (hs h64 + 5 ≤ MS) ∧ ∀ q65, hK h64 q65 = 0 → ∀ h67, h67 = nO h64 q65 10 → (∃ b70, fR h67 a0 0 = some b70 ∧ (C G mX12_init d [.ref (q65), .ref (b70)] h67 (KV Q (fun h72 => ∀ h74, h74 = pR h72 a0 6 (some q65) → ((hc h74 + 1 ≤ MC) ∧ (hs h74 + 6 ≤ MS) ∧ ∀ q75, hK h74 q75 = 0 → ∀ h77, h77 = nO h74 q75 11 → (∃ b80, fR h77 a0 1 = some b80 ∧ (∃ b82, fR h77 a0 2 = some b82 ∧ (C G mX13_init d [.ref (q75), .ref (b80), .ref (b82)] h77 (KV Q (fun h84 => ∀ h86, h86 = pR h84 a0 7 (some q75) → ((¬ (4096 : Int32) < 0) ∧ (hc h86 + 1 ≤ MC) ∧ (hs h86 + (4096 : Int32).toNatClampNeg ≤ MS) ∧ ∀ q87, hK h86 q87 = 0 → ∀ h89, h89 = nA h86 q87 1 (4096 : Int32).toNatClampNeg → (∀ h93, h93 = pR h89 a0 8 (some q87) → (∀ h94, h94 = pI h93 a0 11 ((-1)) → ((hc h94 + 1 ≤ MC) ∧ (hs h94 + 2 ≤ MS) ∧ ∀ q95, hK h94 q95 = 0 → ∀ h97, h97 = nO h94 q95 5 → (C G mX7_init d [.ref (q95)] h97 (KV Q (fun h100 => ∀ h102, h102 = pR h100 a0 13 (some q95) → ((hc h102 + 1 ≤ MC) ∧ (hs h102 + 2 ≤ MS) ∧ ∀ q103, hK h102 q103 = 0 → ∀ h105, h105 = nO h102 q103 5 → (C G mX7_init d [.ref (q103)] h105 (KV Q (fun h108 => ∀ h110, h110 = pR h108 a0 14 (some q103) → ((hc h110 + 1 ≤ MC) ∧ (hs h110 + 2 ≤ MS) ∧ ∀ q111, hK h110 q111 = 0 → ∀ h113, h113 = nO h110 q111 5 → (C G mX7_init d [.ref (q111)] h113 (KV Q (fun h116 => ∀ h118, h118 = pR h116 a0 15 (some q111) → ((¬ (64 : Int32) < 0) ∧ (hc h118 + 1 ≤ MC) ∧ (hs h118 + (64 : Int32).toNatClampNeg ≤ MS) ∧ ∀ q119, hK h118 q119 = 0 → ∀ h121, h121 = nA h118 q119 0 (64 : Int32).toNatClampNeg → (∀ h125, h125 = pR h121 a0 17 (some q119) → ((¬ (64 : Int32) < 0) ∧ (hc h125 + 1 ≤ MC) ∧ (hs h125 + (64 : Int32).toNatClampNeg ≤ MS) ∧ ∀ q126, hK h125 q126 = 0 → ∀ h128, h128 = nA h125 q126 0 (64 : Int32).toNatClampNeg → (∀ h132, h132 = pR h128 a0 18 (some q126) → (∃ b133, fR h132 a0 3 = some b133 ∧ (∃ b135, fR h132 a0 2 = some b135 ∧ (hK h132 b135 = 5 ∧ (C G mX6_builtIn d [.ref (b135), .int (0)] h132 (KI Q (fun x140 h137 => (¬ (3 : Int32) < 0) ∧ (hc h137 + 1 ≤ MC) ∧ (hs h137 + (3 : Int32).toNatClampNeg ≤ MS) ∧ ∀ q141, hK h137 q141 = 0 → ∀ h143, h143 = nA h137 q141 0 (3 : Int32).toNatClampNeg → (Ns (gW G) q141 ∧ vp_in 0 (hL h143 q141) ∧ ∀ h148, h148 = sI h143 q141 (0 : Int32).toNatClampNeg 0 → (Ns (gW G) q141 ∧ vp_in 1 (hL h148 q141) ∧ ∀ h152, h152 = sI h148 q141 (1 : Int32).toNatClampNeg 8 → (Ns (gW G) q141 ∧ vp_in 2 (hL h152 q141) ∧ ∀ h156, h156 = sI h152 q141 (2 : Int32).toNatClampNeg 8 → (hK h156 b133 = 8 ∧ (C G mX9_builtIn d [.ref (b133), .ref (G.2.2.2.1 0), .int (x140), .ref (q141)] h156 (KV Q (fun h159 => ∃ b162, fR h159 a0 3 = some b162 ∧ (∃ b164, fR h159 a0 2 = some b164 ∧ (hK h159 b164 = 5 ∧ (C G mX6_builtIn d [.ref (b164), .int (1)] h159 (KI Q (fun x169 h166 => (¬ (4 : Int32) < 0) ∧ (hc h166 + 1 ≤ MC) ∧ (hs h166 + (4 : Int32).toNatClampNeg ≤ MS) ∧ ∀ q170, hK h166 q170 = 0 → ∀ h172, h172 = nA h166 q170 0 (4 : Int32).toNatClampNeg → (Ns (gW G) q170 ∧ vp_in 0 (hL h172 q170) ∧ ∀ h177, h177 = sI h172 q170 (0 : Int32).toNatClampNeg 0 → (Ns (gW G) q170 ∧ vp_in 1 (hL h177 q170) ∧ ∀ h181, h181 = sI h177 q170 (1 : Int32).toNatClampNeg ((-1)) → (Ns (gW G) q170 ∧ vp_in 2 (hL h181 q170) ∧ ∀ h185, h185 = sI h181 q170 (2 : Int32).toNatClampNeg 11 → (Ns (gW G) q170 ∧ vp_in 3 (hL h185 q170) ∧ ∀ h189, h189 = sI h185 q170 (3 : Int32).toNatClampNeg ((-1)) → (hK h189 b162 = 8 ∧ (C G mX9_builtIn d [.ref (b162), .ref (G.2.2.2.1 1), .int (x169), .ref (q170)] h189 (KV Q (fun h192 => ∃ b195, fR h192 a0 3 = some b195 ∧ (∃ b197, fR h192 a0 2 = some b197 ∧ (hK h192 b197 = 5 ∧ (C G mX6_builtIn d [.ref (b197), .int (4)] h192 (KI Q (fun x202 h199 => (¬ (3 : Int32) < 0) ∧ (hc h199 + 1 ≤ MC) ∧ (hs h199 + (3 : Int32).toNatClampNeg ≤ MS) ∧ ∀ q203, hK h199 q203 = 0 → ∀ h205, h205 = nA h199 q203 0 (3 : Int32).toNatClampNeg → (Ns (gW G) q203 ∧ vp_in 0 (hL h205 q203) ∧ ∀ h210, h210 = sI h205 q203 (0 : Int32).toNatClampNeg 0 → (Ns (gW G) q203 ∧ vp_in 1 (hL h210 q203) ∧ ∀ h214, h214 = sI h210 q203 (1 : Int32).toNatClampNeg ((-1)) → (Ns (gW G) q203 ∧ vp_in 2 (hL h214 q203) ∧ ∀ h218, h218 = sI h214 q203 (2 : Int32).toNatClampNeg 9 → (hK h218 b195 = 8 ∧ (C G mX9_builtIn d [.ref (b195), .ref (G.2.2.2.1 2), .int (x202), .ref (q203)] h218 (KV Q (fun h221 => ∃ b224, fR h221 a0 3 = some b224 ∧ (∃ b226, fR h221 a0 2 = some b226 ∧ (hK h221 b226 = 5 ∧ (C G mX6_builtIn d [.ref (b226), .int (5)] h221 (KI Q (fun x231 h228 => (¬ (5 : Int32) < 0) ∧ (hc h228 + 1 ≤ MC) ∧ (hs h228 + (5 : Int32).toNatClampNeg ≤ MS) ∧ ∀ q232, hK h228 q232 = 0 → ∀ h234, h234 = nA h228 q232 0 (5 : Int32).toNatClampNeg → (Ns (gW G) q232 ∧ vp_in 0 (hL h234 q232) ∧ ∀ h239, h239 = sI h234 q232 (0 : Int32).toNatClampNeg 0 → (Ns (gW G) q232 ∧ vp_in 1 (hL h239 q232) ∧ ∀ h243, h243 = sI h239 q232 (1 : Int32).toNatClampNeg 2 → (Ns (gW G) q232 ∧ vp_in 2 (hL h243 q232) ∧ ∀ h247, h247 = sI h243 q232 (2 : Int32).toNatClampNeg ((-1)) → (Ns (gW G) q232 ∧ vp_in 3 (hL h247 q232) ∧ ∀ h251, h251 = sI h247 q232 (3 : Int32).toNatClampNeg ((-2)) → (Ns (gW G) q232 ∧ vp_in 4 (hL h251 q232) ∧ ∀ h255, h255 = sI h251 q232 (4 : Int32).toNatClampNeg ((-1)) → (hK h255 b224 = 8 ∧ (C G mX9_builtIn d [.ref (b224), .ref (G.2.2.2.1 3), .int (x231), .ref (q232)] h255 (KV Q (fun h258 => ∃ b261, fR h258 a0 3 = some b261 ∧ (∃ b263, fR h258 a0 2 = some b263 ∧ (hK h258 b263 = 5 ∧ (C G mX6_builtIn d [.ref (b263), .int (6)] h258 (KI Q (fun x268 h265 => (¬ (5 : Int32) < 0) ∧ (hc h265 + 1 ≤ MC) ∧ (hs h265 + (5 : Int32).toNatClampNeg ≤ MS) ∧ ∀ q269, hK h265 q269 = 0 → ∀ h271, h271 = nA h265 q269 0 (5 : Int32).toNatClampNeg → (Ns (gW G) q269 ∧ vp_in 0 (hL h271 q269) ∧ ∀ h276, h276 = sI h271 q269 (0 : Int32).toNatClampNeg 0 → (Ns (gW G) q269 ∧ vp_in 1 (hL h276 q269) ∧ ∀ h280, h280 = sI h276 q269 (1 : Int32).toNatClampNeg 2 → (Ns (gW G) q269 ∧ vp_in 2 (hL h280 q269) ∧ ∀ h284, h284 = sI h280 q269 (2 : Int32).toNatClampNeg ((-1)) → (Ns (gW G) q269 ∧ vp_in 3 (hL h284 q269) ∧ ∀ h288, h288 = sI h284 q269 (3 : Int32).toNatClampNeg ((-2)) → (Ns (gW G) q269 ∧ vp_in 4 (hL h288 q269) ∧ ∀ h292, h292 = sI h288 q269 (4 : Int32).toNatClampNeg ((-2)) → (hK h292 b261 = 8 ∧ (C G mX9_builtIn d [.ref (b261), .ref (G.2.2.2.1 4), .int (x268), .ref (q269)] h292 (KV Q (fun h295 => ∃ b298, fR h295 a0 1 = some b298 ∧ (hK h295 b298 = 3 ∧ (∀ h301, h301 = pI h295 a0 20 (fI h295 b298 41) → (Q (.returned none) h301)))))))))))))))))))))))))))))))))))))))))))))))))))))))))))))))))))))))))))))))))))))))))))))))))))))))))))))))))))))))))))))))))))) : C G mX1_init (d + 1) [.ref (a0)] h Q := by
  refine C.of_X (by decide +kernel) (Nat.le_of_ble_eq_true rfl) wX1_init ?_
  show X G mX1_init (d + 1) (some a0) [] 0 [(0, .ref (a0))] [] h Q
  refine x_aload_n (pc' := 1) 0 (dX1_init 0 rfl rfl) rfl rfl rfl ?_
  refine x_objInit (pc' := 4) (dX1_init 1 rfl rfl) q287 q288 q289 (by decide) (by omega) rfl ?_
  refine x_aload_n (pc' := 5) 0 (dX1_init 2 rfl rfl) rfl rfl rfl ?_
  obtain ⟨n1, n2, hf⟩ := hf
  refine x_new (pc' := 8) (k := 1) (dX1_init 3 rfl rfl) q290 (by decide) rfl (by decide) n1 n2 (fun q1 h3 k2 e4 => ?_)
  replace hf := hf q1 k2 h3 e4
  have k5 : hK h3 q1 = 2 := by rw [e4]; exact kNOs
  refine x_dup (pc' := 9) (dX1_init 4 rfl rfl) rfl rfl ?_
  refine x_inv (pc' := 12) (ν := mX2_init) (av := [_]) (st := [_, _]) rfl rfl (dX1_init 5 rfl rfl) (Nat.le_of_ble_eq_true rfl) wX2_init q212 (inv_N (host := "LetMill") (dX1_init 5 rfl rfl) (by decide) q293 q294 rfl (by decide) lX2_init) (fun b hb => by exact Or.inl (by have e : some _ = some b := hb; cases e; simp)) rfl ?_
  refine C.mono hf (fun _ _ => KV.g (fun h6 hf le7 => ?_))
  have k5 := leK le7 k5 (by decide)
  obtain ⟨k8, hf⟩ := hf
  refine x_putR (pc' := 15) (dX1_init 6 rfl rfl) g0 q958 (Or.inl rfl) (Or.inr ⟨rfl, rfl, rfl, rfl⟩) (Or.inr rfl) rfl (hf_of 0 k8 rfl (by decide) m0_0) (fun h9 e317 => ?_)
  replace hf := hf h9 e317
  replace k5 : hK h9 q1 = 2 := by rw [e317]; exact k5
  replace k8 : hK h9 a0 = 1 := by rw [e317]; exact k8
  refine x_aload_n (pc' := 16) 0 (dX1_init 7 rfl rfl) rfl rfl rfl ?_
  obtain ⟨n1, n2, hf⟩ := hf
  refine x_new (pc' := 19) (k := 2) (dX1_init 8 rfl rfl) q362 (by decide) rfl (by decide) n1 n2 (fun q10 h12 k11 e13 => ?_)
  replace hf := hf q10 k11 h12 e13
  replace k5 : hK h12 q1 = 2 := by rw [e13]; exact kNO k5 (by decide) k11
  replace k8 : hK h12 a0 = 1 := by rw [e13]; exact kNO k8 (by decide) k11
  have k14 : hK h12 q10 = 3 := by rw [e13]; exact kNOs
  refine x_dup (pc' := 20) (dX1_init 9 rfl rfl) rfl rfl ?_
  refine x_inv (pc' := 23) (ν := mX3_init) (av := [_]) (st := [_, _]) rfl rfl (dX1_init 10 rfl rfl) (Nat.le_of_ble_eq_true rfl) wX3_init q213 (inv_I (dX1_init 10 rfl rfl) q364 q365 q366 rfl (by decide) lX3_init) (fun b hb => by exact Or.inl (by have e : some _ = some b := hb; cases e; simp)) rfl ?_
  refine C.mono hf (fun _ _ => KV.g (fun h15 hf le16 => ?_))
  have k5 := leK le16 k5 (by decide)
  have k8 := leK le16 k8 (by decide)
  have k14 := leK le16 k14 (by decide)
  refine x_putR (pc' := 26) (dX1_init 11 rfl rfl) g1 q959 (Or.inl rfl) (Or.inr ⟨rfl, rfl, rfl, rfl⟩) (Or.inr rfl) rfl (hf_of 0 k8 rfl (by decide) m0_1) (fun h17 e316 => ?_)
  replace hf := hf h17 e316
  replace k5 : hK h17 q1 = 2 := by rw [e316]; exact k5
  replace k8 : hK h17 a0 = 1 := by rw [e316]; exact k8
  replace k14 : hK h17 q10 = 3 := by rw [e316]; exact k14
  refine x_aload_n (pc' := 27) 0 (dX1_init 12 rfl rfl) rfl rfl rfl ?_
  obtain ⟨n1, n2, hf⟩ := hf
  refine x_new (pc' := 30) (k := 4) (dX1_init 13 rfl rfl) q550 (by decide) rfl (by decide) n1 n2 (fun q18 h20 k19 e21 => ?_)
  replace hf := hf q18 k19 h20 e21
  replace k5 : hK h20 q1 = 2 := by rw [e21]; exact kNO k5 (by decide) k19
  replace k8 : hK h20 a0 = 1 := by rw [e21]; exact kNO k8 (by decide) k19
  replace k14 : hK h20 q10 = 3 := by rw [e21]; exact kNO k14 (by decide) k19
  have k22 : hK h20 q18 = 5 := by rw [e21]; exact kNOs
  refine x_dup (pc' := 31) (dX1_init 14 rfl rfl) rfl rfl ?_
  refine x_inv (pc' := 34) (ν := mX6_init) (av := [_]) (st := [_, _]) rfl rfl (dX1_init 15 rfl rfl) (Nat.le_of_ble_eq_true rfl) wX6_init q220 (inv_I (dX1_init 15 rfl rfl) q552 q553 q554 rfl (by decide) lX6_init) (fun b hb => by exact Or.inl (by have e : some _ = some b := hb; cases e; simp)) rfl ?_
  refine C.mono hf (fun _ _ => KV.g (fun h23 hf le24 => ?_))
  have k5 := leK le24 k5 (by decide)
  have k8 := leK le24 k8 (by decide)
  have k14 := leK le24 k14 (by decide)
  have k22 := leK le24 k22 (by decide)
  refine x_putR (pc' := 37) (dX1_init 16 rfl rfl) g2 q960 (Or.inl rfl) (Or.inr ⟨rfl, rfl, rfl, rfl⟩) (Or.inr rfl) rfl (hf_of 0 k8 rfl (by decide) m0_2) (fun h25 e315 => ?_)
  replace hf := hf h25 e315
  replace k5 : hK h25 q1 = 2 := by rw [e315]; exact k5
  replace k8 : hK h25 a0 = 1 := by rw [e315]; exact k8
  replace k14 : hK h25 q10 = 3 := by rw [e315]; exact k14
  replace k22 : hK h25 q18 = 5 := by rw [e315]; exact k22
  refine x_aload_n (pc' := 38) 0 (dX1_init 17 rfl rfl) rfl rfl rfl ?_
  obtain ⟨n1, n2, hf⟩ := hf
  refine x_new (pc' := 41) (k := 7) (dX1_init 18 rfl rfl) q674 (by decide) rfl (by decide) n1 n2 (fun q26 h28 k27 e29 => ?_)
  replace hf := hf q26 k27 h28 e29
  replace k5 : hK h28 q1 = 2 := by rw [e29]; exact kNO k5 (by decide) k27
  replace k8 : hK h28 a0 = 1 := by rw [e29]; exact kNO k8 (by decide) k27
  replace k14 : hK h28 q10 = 3 := by rw [e29]; exact kNO k14 (by decide) k27
  replace k22 : hK h28 q18 = 5 := by rw [e29]; exact kNO k22 (by decide) k27
  have k30 : hK h28 q26 = 8 := by rw [e29]; exact kNOs
  refine x_dup (pc' := 42) (dX1_init 19 rfl rfl) rfl rfl ?_
  refine x_aload_n (pc' := 43) 0 (dX1_init 20 rfl rfl) rfl rfl rfl ?_
  obtain ⟨b31, e32, hf⟩ := hf
  refine x_getR (pc' := 46) (dX1_init 21 rfl rfl) g0 q958 (Or.inl rfl) rfl (hf_of 0 k8 rfl (by decide) m0_0) e32 ?_
  refine x_aload_n (pc' := 47) 0 (dX1_init 22 rfl rfl) rfl rfl rfl ?_
  obtain ⟨b33, e34, hf⟩ := hf
  refine x_getR (pc' := 50) (dX1_init 23 rfl rfl) g1 q959 (Or.inl rfl) rfl (hf_of 0 k8 rfl (by decide) m0_1) e34 ?_
  refine x_aload_n (pc' := 51) 0 (dX1_init 24 rfl rfl) rfl rfl rfl ?_
  obtain ⟨b35, e36, hf⟩ := hf
  refine x_getR (pc' := 54) (dX1_init 25 rfl rfl) g2 q960 (Or.inl rfl) rfl (hf_of 0 k8 rfl (by decide) m0_2) e36 ?_
  obtain ⟨k37, hf⟩ := hf
  obtain ⟨b38, e39, hf⟩ := hf
  refine x_getR (pc' := 57) (dX1_init 26 rfl rfl) g59 q608 (Or.inl rfl) rfl (hf_of 4 k37 rfl (by decide) m4_59) e39 ?_
  refine x_inv (pc' := 60) (ν := mX9_init) (av := [_, _, _, _]) (st := [_, _]) rfl rfl (dX1_init 27 rfl rfl) (Nat.le_of_ble_eq_true rfl) wX9_init q223 (inv_I (dX1_init 27 rfl rfl) q676 q677 q678 rfl (by decide) lX9_init) (fun b hb => by exact Or.inl (by have e : some _ = some b := hb; cases e; simp)) rfl ?_
  refine C.mono hf (fun _ _ => KV.g (fun h40 hf le41 => ?_))
  have k5 := leK le41 k5 (by decide)
  have k8 := leK le41 k8 (by decide)
  have k14 := leK le41 k14 (by decide)
  have k22 := leK le41 k22 (by decide)
  have k30 := leK le41 k30 (by decide)
  have k37 := leK le41 k37 (by decide)
  refine x_putR (pc' := 63) (dX1_init 28 rfl rfl) g3 q961 (Or.inl rfl) (Or.inr ⟨rfl, rfl, rfl, rfl⟩) (Or.inr rfl) rfl (hf_of 0 k8 rfl (by decide) m0_3) (fun h42 e314 => ?_)
  replace hf := hf h42 e314
  replace k5 : hK h42 q1 = 2 := by rw [e314]; exact k5
  replace k8 : hK h42 a0 = 1 := by rw [e314]; exact k8
  replace k14 : hK h42 q10 = 3 := by rw [e314]; exact k14
  replace k22 : hK h42 q18 = 5 := by rw [e314]; exact k22
  replace k30 : hK h42 q26 = 8 := by rw [e314]; exact k30
  replace k37 : hK h42 b35 = 5 := by rw [e314]; exact k37
  refine x_aload_n (pc' := 64) 0 (dX1_init 29 rfl rfl) rfl rfl rfl ?_
  obtain ⟨n1, n2, hf⟩ := hf
  refine x_new (pc' := 67) (k := 8) (dX1_init 30 rfl rfl) q744 (by decide) rfl (by decide) n1 n2 (fun q43 h45 k44 e46 => ?_)
  replace hf := hf q43 k44 h45 e46
  replace k5 : hK h45 q1 = 2 := by rw [e46]; exact kNO k5 (by decide) k44
  replace k8 : hK h45 a0 = 1 := by rw [e46]; exact kNO k8 (by decide) k44
  replace k14 : hK h45 q10 = 3 := by rw [e46]; exact kNO k14 (by decide) k44
  replace k22 : hK h45 q18 = 5 := by rw [e46]; exact kNO k22 (by decide) k44
  replace k30 : hK h45 q26 = 8 := by rw [e46]; exact kNO k30 (by decide) k44
  replace k37 : hK h45 b35 = 5 := by rw [e46]; exact kNO k37 (by decide) k44
  have k47 : hK h45 q43 = 9 := by rw [e46]; exact kNOs
  refine x_dup (pc' := 68) (dX1_init 31 rfl rfl) rfl rfl ?_
  refine x_inv (pc' := 71) (ν := mX10_init) (av := [_]) (st := [_, _]) rfl rfl (dX1_init 32 rfl rfl) (Nat.le_of_ble_eq_true rfl) wX10_init q224 (inv_N (host := "LetMill") (dX1_init 32 rfl rfl) (by decide) q747 q748 rfl (by decide) lX10_init) (fun b hb => by exact Or.inl (by have e : some _ = some b := hb; cases e; simp)) rfl ?_
  refine C.mono hf (fun _ _ => KV.g (fun h48 hf le49 => ?_))
  have k5 := leK le49 k5 (by decide)
  have k8 := leK le49 k8 (by decide)
  have k14 := leK le49 k14 (by decide)
  have k22 := leK le49 k22 (by decide)
  have k30 := leK le49 k30 (by decide)
  have k37 := leK le49 k37 (by decide)
  have k47 := leK le49 k47 (by decide)
  refine x_putR (pc' := 74) (dX1_init 33 rfl rfl) g4 q962 (Or.inl rfl) (Or.inr ⟨rfl, rfl, rfl, rfl⟩) (Or.inr rfl) rfl (hf_of 0 k8 rfl (by decide) m0_4) (fun h50 e313 => ?_)
  replace hf := hf h50 e313
  replace k5 : hK h50 q1 = 2 := by rw [e313]; exact k5
  replace k8 : hK h50 a0 = 1 := by rw [e313]; exact k8
  replace k14 : hK h50 q10 = 3 := by rw [e313]; exact k14
  replace k22 : hK h50 q18 = 5 := by rw [e313]; exact k22
  replace k30 : hK h50 q26 = 8 := by rw [e313]; exact k30
  replace k37 : hK h50 b35 = 5 := by rw [e313]; exact k37
  replace k47 : hK h50 q43 = 9 := by rw [e313]; exact k47
  refine x_aload_n (pc' := 75) 0 (dX1_init 34 rfl rfl) rfl rfl rfl ?_
  obtain ⟨n1, n2, hf⟩ := hf
  refine x_new (pc' := 78) (k := 9) (dX1_init 35 rfl rfl) q789 (by decide) rfl (by decide) n1 n2 (fun q51 h53 k52 e54 => ?_)
  replace hf := hf q51 k52 h53 e54
  replace k5 : hK h53 q1 = 2 := by rw [e54]; exact kNO k5 (by decide) k52
  replace k8 : hK h53 a0 = 1 := by rw [e54]; exact kNO k8 (by decide) k52
  replace k14 : hK h53 q10 = 3 := by rw [e54]; exact kNO k14 (by decide) k52
  replace k22 : hK h53 q18 = 5 := by rw [e54]; exact kNO k22 (by decide) k52
  replace k30 : hK h53 q26 = 8 := by rw [e54]; exact kNO k30 (by decide) k52
  replace k37 : hK h53 b35 = 5 := by rw [e54]; exact kNO k37 (by decide) k52
  replace k47 : hK h53 q43 = 9 := by rw [e54]; exact kNO k47 (by decide) k52
  have k55 : hK h53 q51 = 10 := by rw [e54]; exact kNOs
  refine x_dup (pc' := 79) (dX1_init 36 rfl rfl) rfl rfl ?_
  refine x_aload_n (pc' := 80) 0 (dX1_init 37 rfl rfl) rfl rfl rfl ?_
  obtain ⟨b56, e57, hf⟩ := hf
  refine x_getR (pc' := 83) (dX1_init 38 rfl rfl) g1 q959 (Or.inl rfl) rfl (hf_of 0 k8 rfl (by decide) m0_1) e57 ?_
  refine x_aload_n (pc' := 84) 0 (dX1_init 39 rfl rfl) rfl rfl rfl ?_
  obtain ⟨b58, e59, hf⟩ := hf
  refine x_getR (pc' := 87) (dX1_init 40 rfl rfl) g0 q958 (Or.inl rfl) rfl (hf_of 0 k8 rfl (by decide) m0_0) e59 ?_
  refine x_aload_n (pc' := 88) 0 (dX1_init 41 rfl rfl) rfl rfl rfl ?_
  obtain ⟨b60, e61, hf⟩ := hf
  refine x_getR (pc' := 91) (dX1_init 42 rfl rfl) g4 q962 (Or.inl rfl) rfl (hf_of 0 k8 rfl (by decide) m0_4) e61 ?_
  refine x_inv (pc' := 94) (ν := mX11_init) (av := [_, _, _, _]) (st := [_, _]) rfl rfl (dX1_init 43 rfl rfl) (Nat.le_of_ble_eq_true rfl) wX11_init q225 (inv_I (dX1_init 43 rfl rfl) q791 q792 q793 rfl (by decide) lX11_init) (fun b hb => by exact Or.inl (by have e : some _ = some b := hb; cases e; simp)) rfl ?_
  refine C.mono hf (fun _ _ => KV.g (fun h62 hf le63 => ?_))
  have k5 := leK le63 k5 (by decide)
  have k8 := leK le63 k8 (by decide)
  have k14 := leK le63 k14 (by decide)
  have k22 := leK le63 k22 (by decide)
  have k30 := leK le63 k30 (by decide)
  have k37 := leK le63 k37 (by decide)
  have k47 := leK le63 k47 (by decide)
  have k55 := leK le63 k55 (by decide)
  refine x_putR (pc' := 97) (dX1_init 44 rfl rfl) g5 q963 (Or.inl rfl) (Or.inr ⟨rfl, rfl, rfl, rfl⟩) (Or.inr rfl) rfl (hf_of 0 k8 rfl (by decide) m0_5) (fun h64 e312 => ?_)
  replace hf := hf h64 e312
  replace k5 : hK h64 q1 = 2 := by rw [e312]; exact k5
  replace k8 : hK h64 a0 = 1 := by rw [e312]; exact k8
  replace k14 : hK h64 q10 = 3 := by rw [e312]; exact k14
  replace k22 : hK h64 q18 = 5 := by rw [e312]; exact k22
  replace k30 : hK h64 q26 = 8 := by rw [e312]; exact k30
  replace k37 : hK h64 b35 = 5 := by rw [e312]; exact k37
  replace k47 : hK h64 q43 = 9 := by rw [e312]; exact k47
  replace k55 : hK h64 q51 = 10 := by rw [e312]; exact k55
  refine x_aload_n (pc' := 98) 0 (dX1_init 45 rfl rfl) rfl rfl rfl ?_
  obtain ⟨n1, n2, hf⟩ := hf
  refine x_new (pc' := 101) (k := 10) (dX1_init 46 rfl rfl) q852 (by decide) rfl (by decide) n1 n2 (fun q65 h67 k66 e68 => ?_)
  replace hf := hf q65 k66 h67 e68
  replace k5 : hK h67 q1 = 2 := by rw [e68]; exact kNO k5 (by decide) k66
  replace k8 : hK h67 a0 = 1 := by rw [e68]; exact kNO k8 (by decide) k66
  replace k14 : hK h67 q10 = 3 := by rw [e68]; exact kNO k14 (by decide) k66
  replace k22 : hK h67 q18 = 5 := by rw [e68]; exact kNO k22 (by decide) k66
  replace k30 : hK h67 q26 = 8 := by rw [e68]; exact kNO k30 (by decide) k66
  replace k37 : hK h67 b35 = 5 := by rw [e68]; exact kNO k37 (by decide) k66
  replace k47 : hK h67 q43 = 9 := by rw [e68]; exact kNO k47 (by decide) k66
  replace k55 : hK h67 q51 = 10 := by rw [e68]; exact kNO k55 (by decide) k66
  have k69 : hK h67 q65 = 11 := by rw [e68]; exact kNOs
  refine x_dup (pc' := 102) (dX1_init 47 rfl rfl) rfl rfl ?_
  refine x_aload_n (pc' := 103) 0 (dX1_init 48 rfl rfl) rfl rfl rfl ?_
  obtain ⟨b70, e71, hf⟩ := hf
  refine x_getR (pc' := 106) (dX1_init 49 rfl rfl) g0 q958 (Or.inl rfl) rfl (hf_of 0 k8 rfl (by decide) m0_0) e71 ?_
  refine x_inv (pc' := 109) (ν := mX12_init) (av := [_, _]) (st := [_, _]) rfl rfl (dX1_init 50 rfl rfl) (Nat.le_of_ble_eq_true rfl) wX12_init q226 (inv_I (dX1_init 50 rfl rfl) q854 q855 q856 rfl (by decide) lX12_init) (fun b hb => by exact Or.inl (by have e : some _ = some b := hb; cases e; simp)) rfl ?_
  refine C.mono hf (fun _ _ => KV.g (fun h72 hf le73 => ?_))
  have k5 := leK le73 k5 (by decide)
  have k8 := leK le73 k8 (by decide)
  have k14 := leK le73 k14 (by decide)
  have k22 := leK le73 k22 (by decide)
  have k30 := leK le73 k30 (by decide)
  have k37 := leK le73 k37 (by decide)
  have k47 := leK le73 k47 (by decide)
  have k55 := leK le73 k55 (by decide)
  have k69 := leK le73 k69 (by decide)
  refine x_putR (pc' := 112) (dX1_init 51 rfl rfl) g6 q964 (Or.inl rfl) (Or.inr ⟨rfl, rfl, rfl, rfl⟩) (Or.inr rfl) rfl (hf_of 0 k8 rfl (by decide) m0_6) (fun h74 e311 => ?_)
  replace hf := hf h74 e311
  replace k5 : hK h74 q1 = 2 := by rw [e311]; exact k5
  replace k8 : hK h74 a0 = 1 := by rw [e311]; exact k8
  replace k14 : hK h74 q10 = 3 := by rw [e311]; exact k14
  replace k22 : hK h74 q18 = 5 := by rw [e311]; exact k22
  replace k30 : hK h74 q26 = 8 := by rw [e311]; exact k30
  replace k37 : hK h74 b35 = 5 := by rw [e311]; exact k37
  replace k47 : hK h74 q43 = 9 := by rw [e311]; exact k47
  replace k55 : hK h74 q51 = 10 := by rw [e311]; exact k55
  replace k69 : hK h74 q65 = 11 := by rw [e311]; exact k69
  refine x_aload_n (pc' := 113) 0 (dX1_init 52 rfl rfl) rfl rfl rfl ?_
  obtain ⟨n1, n2, hf⟩ := hf
  refine x_new (pc' := 116) (k := 11) (dX1_init 53 rfl rfl) q874 (by decide) rfl (by decide) n1 n2 (fun q75 h77 k76 e78 => ?_)
  replace hf := hf q75 k76 h77 e78
  replace k5 : hK h77 q1 = 2 := by rw [e78]; exact kNO k5 (by decide) k76
  replace k8 : hK h77 a0 = 1 := by rw [e78]; exact kNO k8 (by decide) k76
  replace k14 : hK h77 q10 = 3 := by rw [e78]; exact kNO k14 (by decide) k76
  replace k22 : hK h77 q18 = 5 := by rw [e78]; exact kNO k22 (by decide) k76
  replace k30 : hK h77 q26 = 8 := by rw [e78]; exact kNO k30 (by decide) k76
  replace k37 : hK h77 b35 = 5 := by rw [e78]; exact kNO k37 (by decide) k76
  replace k47 : hK h77 q43 = 9 := by rw [e78]; exact kNO k47 (by decide) k76
  replace k55 : hK h77 q51 = 10 := by rw [e78]; exact kNO k55 (by decide) k76
  replace k69 : hK h77 q65 = 11 := by rw [e78]; exact kNO k69 (by decide) k76
  have k79 : hK h77 q75 = 12 := by rw [e78]; exact kNOs
  refine x_dup (pc' := 117) (dX1_init 54 rfl rfl) rfl rfl ?_
  refine x_aload_n (pc' := 118) 0 (dX1_init 55 rfl rfl) rfl rfl rfl ?_
  obtain ⟨b80, e81, hf⟩ := hf
  refine x_getR (pc' := 121) (dX1_init 56 rfl rfl) g1 q959 (Or.inl rfl) rfl (hf_of 0 k8 rfl (by decide) m0_1) e81 ?_
  refine x_aload_n (pc' := 122) 0 (dX1_init 57 rfl rfl) rfl rfl rfl ?_
  obtain ⟨b82, e83, hf⟩ := hf
  refine x_getR (pc' := 125) (dX1_init 58 rfl rfl) g2 q960 (Or.inl rfl) rfl (hf_of 0 k8 rfl (by decide) m0_2) e83 ?_
  refine x_inv (pc' := 128) (ν := mX13_init) (av := [_, _, _]) (st := [_, _]) rfl rfl (dX1_init 59 rfl rfl) (Nat.le_of_ble_eq_true rfl) wX13_init q227 (inv_I (dX1_init 59 rfl rfl) q876 q877 q878 rfl (by decide) lX13_init) (fun b hb => by exact Or.inl (by have e : some _ = some b := hb; cases e; simp)) rfl ?_
  refine C.mono hf (fun _ _ => KV.g (fun h84 hf le85 => ?_))
  have k5 := leK le85 k5 (by decide)
  have k8 := leK le85 k8 (by decide)
  have k14 := leK le85 k14 (by decide)
  have k22 := leK le85 k22 (by decide)
  have k30 := leK le85 k30 (by decide)
  have k37 := leK le85 k37 (by decide)
  have k47 := leK le85 k47 (by decide)
  have k55 := leK le85 k55 (by decide)
  have k69 := leK le85 k69 (by decide)
  have k79 := leK le85 k79 (by decide)
  refine x_putR (pc' := 131) (dX1_init 60 rfl rfl) g7 q965 (Or.inl rfl) (Or.inr ⟨rfl, rfl, rfl, rfl⟩) (Or.inr rfl) rfl (hf_of 0 k8 rfl (by decide) m0_7) (fun h86 e310 => ?_)
  replace hf := hf h86 e310
  replace k5 : hK h86 q1 = 2 := by rw [e310]; exact k5
  replace k8 : hK h86 a0 = 1 := by rw [e310]; exact k8
  replace k14 : hK h86 q10 = 3 := by rw [e310]; exact k14
  replace k22 : hK h86 q18 = 5 := by rw [e310]; exact k22
  replace k30 : hK h86 q26 = 8 := by rw [e310]; exact k30
  replace k37 : hK h86 b35 = 5 := by rw [e310]; exact k37
  replace k47 : hK h86 q43 = 9 := by rw [e310]; exact k47
  replace k55 : hK h86 q51 = 10 := by rw [e310]; exact k55
  replace k69 : hK h86 q65 = 11 := by rw [e310]; exact k69
  replace k79 : hK h86 q75 = 12 := by rw [e310]; exact k79
  refine x_aload_n (pc' := 132) 0 (dX1_init 61 rfl rfl) rfl rfl rfl ?_
  refine x_sipush (pc' := 135) (v := 4096) (dX1_init 62 rfl rfl) (by decide) rfl ?_
  obtain ⟨z91, n1, n2, hf⟩ := hf
  refine x_newa1 (pc' := 137) (dX1_init 63 rfl rfl) rfl z91 (by decide) n1 n2 (fun q87 h89 k88 e90 => ?_)
  replace hf := hf q87 k88 h89 e90
  replace k5 : hK h89 q1 = 2 := by rw [e90]; exact kNA k5 (by decide) k88
  replace k8 : hK h89 a0 = 1 := by rw [e90]; exact kNA k8 (by decide) k88
  replace k14 : hK h89 q10 = 3 := by rw [e90]; exact kNA k14 (by decide) k88
  replace k22 : hK h89 q18 = 5 := by rw [e90]; exact kNA k22 (by decide) k88
  replace k30 : hK h89 q26 = 8 := by rw [e90]; exact kNA k30 (by decide) k88
  replace k37 : hK h89 b35 = 5 := by rw [e90]; exact kNA k37 (by decide) k88
  replace k47 : hK h89 q43 = 9 := by rw [e90]; exact kNA k47 (by decide) k88
  replace k55 : hK h89 q51 = 10 := by rw [e90]; exact kNA k55 (by decide) k88
  replace k69 : hK h89 q65 = 11 := by rw [e90]; exact kNA k69 (by decide) k88
  replace k79 : hK h89 q75 = 12 := by rw [e90]; exact kNA k79 (by decide) k88
  have k92 : hK h89 q87 = 1001 := by rw [e90]; exact kNAs
  refine x_putR (pc' := 140) (dX1_init 64 rfl rfl) g8 q966 (Or.inl rfl) (Or.inr ⟨rfl, rfl, rfl, rfl⟩) (Or.inr rfl) rfl (hf_of 0 k8 rfl (by decide) m0_8) (fun h93 e309 => ?_)
  replace hf := hf h93 e309
  replace k5 : hK h93 q1 = 2 := by rw [e309]; exact k5
  replace k8 : hK h93 a0 = 1 := by rw [e309]; exact k8
  replace k14 : hK h93 q10 = 3 := by rw [e309]; exact k14
  replace k22 : hK h93 q18 = 5 := by rw [e309]; exact k22
  replace k30 : hK h93 q26 = 8 := by rw [e309]; exact k30
  replace k37 : hK h93 b35 = 5 := by rw [e309]; exact k37
  replace k47 : hK h93 q43 = 9 := by rw [e309]; exact k47
  replace k55 : hK h93 q51 = 10 := by rw [e309]; exact k55
  replace k69 : hK h93 q65 = 11 := by rw [e309]; exact k69
  replace k79 : hK h93 q75 = 12 := by rw [e309]; exact k79
  replace k92 : hK h93 q87 = 1001 := by rw [e309]; exact k92
  refine x_aload_n (pc' := 141) 0 (dX1_init 65 rfl rfl) rfl rfl rfl ?_
  refine x_iconst (pc' := 142) (v := -1) (dX1_init 66 rfl rfl) (by decide) rfl ?_
  refine x_putI (pc' := 145) (dX1_init 67 rfl rfl) g11 q969 (Or.inl rfl) (Or.inl rfl) (Or.inr rfl) rfl (hf_of 0 k8 rfl (by decide) m0_11) (fun h94 e308 => ?_)
  replace hf := hf h94 e308
  replace k5 : hK h94 q1 = 2 := by rw [e308]; exact k5
  replace k8 : hK h94 a0 = 1 := by rw [e308]; exact k8
  replace k14 : hK h94 q10 = 3 := by rw [e308]; exact k14
  replace k22 : hK h94 q18 = 5 := by rw [e308]; exact k22
  replace k30 : hK h94 q26 = 8 := by rw [e308]; exact k30
  replace k37 : hK h94 b35 = 5 := by rw [e308]; exact k37
  replace k47 : hK h94 q43 = 9 := by rw [e308]; exact k47
  replace k55 : hK h94 q51 = 10 := by rw [e308]; exact k55
  replace k69 : hK h94 q65 = 11 := by rw [e308]; exact k69
  replace k79 : hK h94 q75 = 12 := by rw [e308]; exact k79
  replace k92 : hK h94 q87 = 1001 := by rw [e308]; exact k92
  refine x_aload_n (pc' := 146) 0 (dX1_init 68 rfl rfl) rfl rfl rfl ?_
  obtain ⟨n1, n2, hf⟩ := hf
  refine x_new (pc' := 149) (k := 5) (dX1_init 69 rfl rfl) q900 (by decide) rfl (by decide) n1 n2 (fun q95 h97 k96 e98 => ?_)
  replace hf := hf q95 k96 h97 e98
  replace k5 : hK h97 q1 = 2 := by rw [e98]; exact kNO k5 (by decide) k96
  replace k8 : hK h97 a0 = 1 := by rw [e98]; exact kNO k8 (by decide) k96
  replace k14 : hK h97 q10 = 3 := by rw [e98]; exact kNO k14 (by decide) k96
  replace k22 : hK h97 q18 = 5 := by rw [e98]; exact kNO k22 (by decide) k96
  replace k30 : hK h97 q26 = 8 := by rw [e98]; exact kNO k30 (by decide) k96
  replace k37 : hK h97 b35 = 5 := by rw [e98]; exact kNO k37 (by decide) k96
  replace k47 : hK h97 q43 = 9 := by rw [e98]; exact kNO k47 (by decide) k96
  replace k55 : hK h97 q51 = 10 := by rw [e98]; exact kNO k55 (by decide) k96
  replace k69 : hK h97 q65 = 11 := by rw [e98]; exact kNO k69 (by decide) k96
  replace k79 : hK h97 q75 = 12 := by rw [e98]; exact kNO k79 (by decide) k96
  replace k92 : hK h97 q87 = 1001 := by rw [e98]; exact kNO k92 (by decide) k96
  have k99 : hK h97 q95 = 6 := by rw [e98]; exact kNOs
  refine x_dup (pc' := 150) (dX1_init 70 rfl rfl) rfl rfl ?_
  refine x_inv (pc' := 153) (ν := mX7_init) (av := [_]) (st := [_, _]) rfl rfl (dX1_init 71 rfl rfl) (Nat.le_of_ble_eq_true rfl) wX7_init q221 (inv_N (host := "LetMill") (dX1_init 71 rfl rfl) (by decide) q560 q561 rfl (by decide) lX7_init) (fun b hb => by exact Or.inl (by have e : some _ = some b := hb; cases e; simp)) rfl ?_
  refine C.mono hf (fun _ _ => KV.g (fun h100 hf le101 => ?_))
  have k5 := leK le101 k5 (by decide)
  have k8 := leK le101 k8 (by decide)
  have k14 := leK le101 k14 (by decide)
  have k22 := leK le101 k22 (by decide)
  have k30 := leK le101 k30 (by decide)
  have k37 := leK le101 k37 (by decide)
  have k47 := leK le101 k47 (by decide)
  have k55 := leK le101 k55 (by decide)
  have k69 := leK le101 k69 (by decide)
  have k79 := leK le101 k79 (by decide)
  have k92 := leK le101 k92 (by decide)
  have k99 := leK le101 k99 (by decide)
  refine x_putR (pc' := 156) (dX1_init 72 rfl rfl) g13 q971 (Or.inl rfl) (Or.inr ⟨rfl, rfl, rfl, rfl⟩) (Or.inr rfl) rfl (hf_of 0 k8 rfl (by decide) m0_13) (fun h102 e307 => ?_)
  replace hf := hf h102 e307
  replace k5 : hK h102 q1 = 2 := by rw [e307]; exact k5
  replace k8 : hK h102 a0 = 1 := by rw [e307]; exact k8
  replace k14 : hK h102 q10 = 3 := by rw [e307]; exact k14
  replace k22 : hK h102 q18 = 5 := by rw [e307]; exact k22
  replace k30 : hK h102 q26 = 8 := by rw [e307]; exact k30
  replace k37 : hK h102 b35 = 5 := by rw [e307]; exact k37
  replace k47 : hK h102 q43 = 9 := by rw [e307]; exact k47
  replace k55 : hK h102 q51 = 10 := by rw [e307]; exact k55
  replace k69 : hK h102 q65 = 11 := by rw [e307]; exact k69
  replace k79 : hK h102 q75 = 12 := by rw [e307]; exact k79
  replace k92 : hK h102 q87 = 1001 := by rw [e307]; exact k92
  replace k99 : hK h102 q95 = 6 := by rw [e307]; exact k99
  refine x_aload_n (pc' := 157) 0 (dX1_init 73 rfl rfl) rfl rfl rfl ?_
  obtain ⟨n1, n2, hf⟩ := hf
  refine x_new (pc' := 160) (k := 5) (dX1_init 74 rfl rfl) q900 (by decide) rfl (by decide) n1 n2 (fun q103 h105 k104 e106 => ?_)
  replace hf := hf q103 k104 h105 e106
  replace k5 : hK h105 q1 = 2 := by rw [e106]; exact kNO k5 (by decide) k104
  replace k8 : hK h105 a0 = 1 := by rw [e106]; exact kNO k8 (by decide) k104
  replace k14 : hK h105 q10 = 3 := by rw [e106]; exact kNO k14 (by decide) k104
  replace k22 : hK h105 q18 = 5 := by rw [e106]; exact kNO k22 (by decide) k104
  replace k30 : hK h105 q26 = 8 := by rw [e106]; exact kNO k30 (by decide) k104
  replace k37 : hK h105 b35 = 5 := by rw [e106]; exact kNO k37 (by decide) k104
  replace k47 : hK h105 q43 = 9 := by rw [e106]; exact kNO k47 (by decide) k104
  replace k55 : hK h105 q51 = 10 := by rw [e106]; exact kNO k55 (by decide) k104
  replace k69 : hK h105 q65 = 11 := by rw [e106]; exact kNO k69 (by decide) k104
  replace k79 : hK h105 q75 = 12 := by rw [e106]; exact kNO k79 (by decide) k104
  replace k92 : hK h105 q87 = 1001 := by rw [e106]; exact kNO k92 (by decide) k104
  replace k99 : hK h105 q95 = 6 := by rw [e106]; exact kNO k99 (by decide) k104
  have k107 : hK h105 q103 = 6 := by rw [e106]; exact kNOs
  refine x_dup (pc' := 161) (dX1_init 75 rfl rfl) rfl rfl ?_
  refine x_inv (pc' := 164) (ν := mX7_init) (av := [_]) (st := [_, _]) rfl rfl (dX1_init 76 rfl rfl) (Nat.le_of_ble_eq_true rfl) wX7_init q221 (inv_N (host := "LetMill") (dX1_init 76 rfl rfl) (by decide) q560 q561 rfl (by decide) lX7_init) (fun b hb => by exact Or.inl (by have e : some _ = some b := hb; cases e; simp)) rfl ?_
  refine C.mono hf (fun _ _ => KV.g (fun h108 hf le109 => ?_))
  have k5 := leK le109 k5 (by decide)
  have k8 := leK le109 k8 (by decide)
  have k14 := leK le109 k14 (by decide)
  have k22 := leK le109 k22 (by decide)
  have k30 := leK le109 k30 (by decide)
  have k37 := leK le109 k37 (by decide)
  have k47 := leK le109 k47 (by decide)
  have k55 := leK le109 k55 (by decide)
  have k69 := leK le109 k69 (by decide)
  have k79 := leK le109 k79 (by decide)
  have k92 := leK le109 k92 (by decide)
  have k99 := leK le109 k99 (by decide)
  have k107 := leK le109 k107 (by decide)
  refine x_putR (pc' := 167) (dX1_init 77 rfl rfl) g14 q972 (Or.inl rfl) (Or.inr ⟨rfl, rfl, rfl, rfl⟩) (Or.inr rfl) rfl (hf_of 0 k8 rfl (by decide) m0_14) (fun h110 e306 => ?_)
  replace hf := hf h110 e306
  replace k5 : hK h110 q1 = 2 := by rw [e306]; exact k5
  replace k8 : hK h110 a0 = 1 := by rw [e306]; exact k8
  replace k14 : hK h110 q10 = 3 := by rw [e306]; exact k14
  replace k22 : hK h110 q18 = 5 := by rw [e306]; exact k22
  replace k30 : hK h110 q26 = 8 := by rw [e306]; exact k30
  replace k37 : hK h110 b35 = 5 := by rw [e306]; exact k37
  replace k47 : hK h110 q43 = 9 := by rw [e306]; exact k47
  replace k55 : hK h110 q51 = 10 := by rw [e306]; exact k55
  replace k69 : hK h110 q65 = 11 := by rw [e306]; exact k69
  replace k79 : hK h110 q75 = 12 := by rw [e306]; exact k79
  replace k92 : hK h110 q87 = 1001 := by rw [e306]; exact k92
  replace k99 : hK h110 q95 = 6 := by rw [e306]; exact k99
  replace k107 : hK h110 q103 = 6 := by rw [e306]; exact k107
  refine x_aload_n (pc' := 168) 0 (dX1_init 78 rfl rfl) rfl rfl rfl ?_
  obtain ⟨n1, n2, hf⟩ := hf
  refine x_new (pc' := 171) (k := 5) (dX1_init 79 rfl rfl) q900 (by decide) rfl (by decide) n1 n2 (fun q111 h113 k112 e114 => ?_)
  replace hf := hf q111 k112 h113 e114
  replace k5 : hK h113 q1 = 2 := by rw [e114]; exact kNO k5 (by decide) k112
  replace k8 : hK h113 a0 = 1 := by rw [e114]; exact kNO k8 (by decide) k112
  replace k14 : hK h113 q10 = 3 := by rw [e114]; exact kNO k14 (by decide) k112
  replace k22 : hK h113 q18 = 5 := by rw [e114]; exact kNO k22 (by decide) k112
  replace k30 : hK h113 q26 = 8 := by rw [e114]; exact kNO k30 (by decide) k112
  replace k37 : hK h113 b35 = 5 := by rw [e114]; exact kNO k37 (by decide) k112
  replace k47 : hK h113 q43 = 9 := by rw [e114]; exact kNO k47 (by decide) k112
  replace k55 : hK h113 q51 = 10 := by rw [e114]; exact kNO k55 (by decide) k112
  replace k69 : hK h113 q65 = 11 := by rw [e114]; exact kNO k69 (by decide) k112
  replace k79 : hK h113 q75 = 12 := by rw [e114]; exact kNO k79 (by decide) k112
  replace k92 : hK h113 q87 = 1001 := by rw [e114]; exact kNO k92 (by decide) k112
  replace k99 : hK h113 q95 = 6 := by rw [e114]; exact kNO k99 (by decide) k112
  replace k107 : hK h113 q103 = 6 := by rw [e114]; exact kNO k107 (by decide) k112
  have k115 : hK h113 q111 = 6 := by rw [e114]; exact kNOs
  refine x_dup (pc' := 172) (dX1_init 80 rfl rfl) rfl rfl ?_
  refine x_inv (pc' := 175) (ν := mX7_init) (av := [_]) (st := [_, _]) rfl rfl (dX1_init 81 rfl rfl) (Nat.le_of_ble_eq_true rfl) wX7_init q221 (inv_N (host := "LetMill") (dX1_init 81 rfl rfl) (by decide) q560 q561 rfl (by decide) lX7_init) (fun b hb => by exact Or.inl (by have e : some _ = some b := hb; cases e; simp)) rfl ?_
  refine C.mono hf (fun _ _ => KV.g (fun h116 hf le117 => ?_))
  have k5 := leK le117 k5 (by decide)
  have k8 := leK le117 k8 (by decide)
  have k14 := leK le117 k14 (by decide)
  have k22 := leK le117 k22 (by decide)
  have k30 := leK le117 k30 (by decide)
  have k37 := leK le117 k37 (by decide)
  have k47 := leK le117 k47 (by decide)
  have k55 := leK le117 k55 (by decide)
  have k69 := leK le117 k69 (by decide)
  have k79 := leK le117 k79 (by decide)
  have k92 := leK le117 k92 (by decide)
  have k99 := leK le117 k99 (by decide)
  have k107 := leK le117 k107 (by decide)
  have k115 := leK le117 k115 (by decide)
  refine x_putR (pc' := 178) (dX1_init 82 rfl rfl) g15 q973 (Or.inl rfl) (Or.inr ⟨rfl, rfl, rfl, rfl⟩) (Or.inr rfl) rfl (hf_of 0 k8 rfl (by decide) m0_15) (fun h118 e305 => ?_)
  replace hf := hf h118 e305
  replace k5 : hK h118 q1 = 2 := by rw [e305]; exact k5
  replace k8 : hK h118 a0 = 1 := by rw [e305]; exact k8
  replace k14 : hK h118 q10 = 3 := by rw [e305]; exact k14
  replace k22 : hK h118 q18 = 5 := by rw [e305]; exact k22
  replace k30 : hK h118 q26 = 8 := by rw [e305]; exact k30
  replace k37 : hK h118 b35 = 5 := by rw [e305]; exact k37
  replace k47 : hK h118 q43 = 9 := by rw [e305]; exact k47
  replace k55 : hK h118 q51 = 10 := by rw [e305]; exact k55
  replace k69 : hK h118 q65 = 11 := by rw [e305]; exact k69
  replace k79 : hK h118 q75 = 12 := by rw [e305]; exact k79
  replace k92 : hK h118 q87 = 1001 := by rw [e305]; exact k92
  replace k99 : hK h118 q95 = 6 := by rw [e305]; exact k99
  replace k107 : hK h118 q103 = 6 := by rw [e305]; exact k107
  replace k115 : hK h118 q111 = 6 := by rw [e305]; exact k115
  refine x_aload_n (pc' := 179) 0 (dX1_init 83 rfl rfl) rfl rfl rfl ?_
  refine x_bipush (pc' := 181) (v := 64) (dX1_init 84 rfl rfl) (by decide) rfl ?_
  obtain ⟨z123, n1, n2, hf⟩ := hf
  refine x_newa0 (pc' := 183) (dX1_init 85 rfl rfl) rfl z123 (by decide) n1 n2 (fun q119 h121 k120 e122 => ?_)
  replace hf := hf q119 k120 h121 e122
  replace k5 : hK h121 q1 = 2 := by rw [e122]; exact kNA k5 (by decide) k120
  replace k8 : hK h121 a0 = 1 := by rw [e122]; exact kNA k8 (by decide) k120
  replace k14 : hK h121 q10 = 3 := by rw [e122]; exact kNA k14 (by decide) k120
  replace k22 : hK h121 q18 = 5 := by rw [e122]; exact kNA k22 (by decide) k120
  replace k30 : hK h121 q26 = 8 := by rw [e122]; exact kNA k30 (by decide) k120
  replace k37 : hK h121 b35 = 5 := by rw [e122]; exact kNA k37 (by decide) k120
  replace k47 : hK h121 q43 = 9 := by rw [e122]; exact kNA k47 (by decide) k120
  replace k55 : hK h121 q51 = 10 := by rw [e122]; exact kNA k55 (by decide) k120
  replace k69 : hK h121 q65 = 11 := by rw [e122]; exact kNA k69 (by decide) k120
  replace k79 : hK h121 q75 = 12 := by rw [e122]; exact kNA k79 (by decide) k120
  replace k92 : hK h121 q87 = 1001 := by rw [e122]; exact kNA k92 (by decide) k120
  replace k99 : hK h121 q95 = 6 := by rw [e122]; exact kNA k99 (by decide) k120
  replace k107 : hK h121 q103 = 6 := by rw [e122]; exact kNA k107 (by decide) k120
  replace k115 : hK h121 q111 = 6 := by rw [e122]; exact kNA k115 (by decide) k120
  have k124 : hK h121 q119 = 1000 := by rw [e122]; exact kNAs
  refine x_putR (pc' := 186) (dX1_init 86 rfl rfl) g17 q975 (Or.inl rfl) (Or.inl rfl) (Or.inr rfl) rfl (hf_of 0 k8 rfl (by decide) m0_17) (fun h125 e304 => ?_)
  replace hf := hf h125 e304
  replace k5 : hK h125 q1 = 2 := by rw [e304]; exact k5
  replace k8 : hK h125 a0 = 1 := by rw [e304]; exact k8
  replace k14 : hK h125 q10 = 3 := by rw [e304]; exact k14
  replace k22 : hK h125 q18 = 5 := by rw [e304]; exact k22
  replace k30 : hK h125 q26 = 8 := by rw [e304]; exact k30
  replace k37 : hK h125 b35 = 5 := by rw [e304]; exact k37
  replace k47 : hK h125 q43 = 9 := by rw [e304]; exact k47
  replace k55 : hK h125 q51 = 10 := by rw [e304]; exact k55
  replace k69 : hK h125 q65 = 11 := by rw [e304]; exact k69
  replace k79 : hK h125 q75 = 12 := by rw [e304]; exact k79
  replace k92 : hK h125 q87 = 1001 := by rw [e304]; exact k92
  replace k99 : hK h125 q95 = 6 := by rw [e304]; exact k99
  replace k107 : hK h125 q103 = 6 := by rw [e304]; exact k107
  replace k115 : hK h125 q111 = 6 := by rw [e304]; exact k115
  replace k124 : hK h125 q119 = 1000 := by rw [e304]; exact k124
  refine x_aload_n (pc' := 187) 0 (dX1_init 87 rfl rfl) rfl rfl rfl ?_
  refine x_bipush (pc' := 189) (v := 64) (dX1_init 88 rfl rfl) (by decide) rfl ?_
  obtain ⟨z130, n1, n2, hf⟩ := hf
  refine x_newa0 (pc' := 191) (dX1_init 89 rfl rfl) rfl z130 (by decide) n1 n2 (fun q126 h128 k127 e129 => ?_)
  replace hf := hf q126 k127 h128 e129
  replace k5 : hK h128 q1 = 2 := by rw [e129]; exact kNA k5 (by decide) k127
  replace k8 : hK h128 a0 = 1 := by rw [e129]; exact kNA k8 (by decide) k127
  replace k14 : hK h128 q10 = 3 := by rw [e129]; exact kNA k14 (by decide) k127
  replace k22 : hK h128 q18 = 5 := by rw [e129]; exact kNA k22 (by decide) k127
  replace k30 : hK h128 q26 = 8 := by rw [e129]; exact kNA k30 (by decide) k127
  replace k37 : hK h128 b35 = 5 := by rw [e129]; exact kNA k37 (by decide) k127
  replace k47 : hK h128 q43 = 9 := by rw [e129]; exact kNA k47 (by decide) k127
  replace k55 : hK h128 q51 = 10 := by rw [e129]; exact kNA k55 (by decide) k127
  replace k69 : hK h128 q65 = 11 := by rw [e129]; exact kNA k69 (by decide) k127
  replace k79 : hK h128 q75 = 12 := by rw [e129]; exact kNA k79 (by decide) k127
  replace k92 : hK h128 q87 = 1001 := by rw [e129]; exact kNA k92 (by decide) k127
  replace k99 : hK h128 q95 = 6 := by rw [e129]; exact kNA k99 (by decide) k127
  replace k107 : hK h128 q103 = 6 := by rw [e129]; exact kNA k107 (by decide) k127
  replace k115 : hK h128 q111 = 6 := by rw [e129]; exact kNA k115 (by decide) k127
  replace k124 : hK h128 q119 = 1000 := by rw [e129]; exact kNA k124 (by decide) k127
  have k131 : hK h128 q126 = 1000 := by rw [e129]; exact kNAs
  refine x_putR (pc' := 194) (dX1_init 90 rfl rfl) g18 q976 (Or.inl rfl) (Or.inl rfl) (Or.inr rfl) rfl (hf_of 0 k8 rfl (by decide) m0_18) (fun h132 e303 => ?_)
  replace hf := hf h132 e303
  replace k5 : hK h132 q1 = 2 := by rw [e303]; exact k5
  replace k8 : hK h132 a0 = 1 := by rw [e303]; exact k8
  replace k14 : hK h132 q10 = 3 := by rw [e303]; exact k14
  replace k22 : hK h132 q18 = 5 := by rw [e303]; exact k22
  replace k30 : hK h132 q26 = 8 := by rw [e303]; exact k30
  replace k37 : hK h132 b35 = 5 := by rw [e303]; exact k37
  replace k47 : hK h132 q43 = 9 := by rw [e303]; exact k47
  replace k55 : hK h132 q51 = 10 := by rw [e303]; exact k55
  replace k69 : hK h132 q65 = 11 := by rw [e303]; exact k69
  replace k79 : hK h132 q75 = 12 := by rw [e303]; exact k79
  replace k92 : hK h132 q87 = 1001 := by rw [e303]; exact k92
  replace k99 : hK h132 q95 = 6 := by rw [e303]; exact k99
  replace k107 : hK h132 q103 = 6 := by rw [e303]; exact k107
  replace k115 : hK h132 q111 = 6 := by rw [e303]; exact k115
  replace k124 : hK h132 q119 = 1000 := by rw [e303]; exact k124
  replace k131 : hK h132 q126 = 1000 := by rw [e303]; exact k131
  refine x_aload_n (pc' := 195) 0 (dX1_init 91 rfl rfl) rfl rfl rfl ?_
  obtain ⟨b133, e134, hf⟩ := hf
  refine x_getR (pc' := 198) (dX1_init 92 rfl rfl) g3 q961 (Or.inl rfl) rfl (hf_of 0 k8 rfl (by decide) m0_3) e134 ?_
  refine x_ldcS (pc' := 200) (tx := "not") (i := 0) (dX1_init 93 rfl rfl) (List.mem_of_getElem? (i := 0) rfl) rfl ?_
  refine x_aload_n (pc' := 201) 0 (dX1_init 94 rfl rfl) rfl rfl rfl ?_
  obtain ⟨b135, e136, hf⟩ := hf
  refine x_getR (pc' := 204) (dX1_init 95 rfl rfl) g2 q960 (Or.inl rfl) rfl (hf_of 0 k8 rfl (by decide) m0_2) e136 ?_
  refine x_iconst (pc' := 205) (v := 0) (dX1_init 96 rfl rfl) (by decide) rfl ?_
  obtain ⟨k139, hf⟩ := hf
  refine x_inv (pc' := 208) (ν := mX6_builtIn) (av := [_, _]) (st := [_, _]) rfl rfl (dX1_init 97 rfl rfl) (Nat.le_of_ble_eq_true rfl) wX6_builtIn q220 (inv_V (k := 4) (dX1_init 97 rfl rfl) q903 q904 q905 wX6_builtIn (by decide) lX6_builtIn (by decide) k139) (exN (by decide)) rfl ?_
  refine C.mono hf (fun _ _ => KI.g (fun x140 h137 hf le138 => ?_))
  have k5 := leK le138 k5 (by decide)
  have k8 := leK le138 k8 (by decide)
  have k14 := leK le138 k14 (by decide)
  have k22 := leK le138 k22 (by decide)
  have k30 := leK le138 k30 (by decide)
  have k37 := leK le138 k37 (by decide)
  have k47 := leK le138 k47 (by decide)
  have k55 := leK le138 k55 (by decide)
  have k69 := leK le138 k69 (by decide)
  have k79 := leK le138 k79 (by decide)
  have k92 := leK le138 k92 (by decide)
  have k99 := leK le138 k99 (by decide)
  have k107 := leK le138 k107 (by decide)
  have k115 := leK le138 k115 (by decide)
  have k124 := leK le138 k124 (by decide)
  have k131 := leK le138 k131 (by decide)
  have k139 := leK le138 k139 (by decide)
  refine x_iconst (pc' := 209) (v := 3) (dX1_init 98 rfl rfl) (by decide) rfl ?_
  obtain ⟨z145, n1, n2, hf⟩ := hf
  refine x_newa0 (pc' := 211) (dX1_init 99 rfl rfl) rfl z145 (by decide) n1 n2 (fun q141 h143 k142 e144 => ?_)
  replace hf := hf q141 k142 h143 e144
  replace k5 : hK h143 q1 = 2 := by rw [e144]; exact kNA k5 (by decide) k142
  replace k8 : hK h143 a0 = 1 := by rw [e144]; exact kNA k8 (by decide) k142
  replace k14 : hK h143 q10 = 3 := by rw [e144]; exact kNA k14 (by decide) k142
  replace k22 : hK h143 q18 = 5 := by rw [e144]; exact kNA k22 (by decide) k142
  replace k30 : hK h143 q26 = 8 := by rw [e144]; exact kNA k30 (by decide) k142
  replace k37 : hK h143 b35 = 5 := by rw [e144]; exact kNA k37 (by decide) k142
  replace k47 : hK h143 q43 = 9 := by rw [e144]; exact kNA k47 (by decide) k142
  replace k55 : hK h143 q51 = 10 := by rw [e144]; exact kNA k55 (by decide) k142
  replace k69 : hK h143 q65 = 11 := by rw [e144]; exact kNA k69 (by decide) k142
  replace k79 : hK h143 q75 = 12 := by rw [e144]; exact kNA k79 (by decide) k142
  replace k92 : hK h143 q87 = 1001 := by rw [e144]; exact kNA k92 (by decide) k142
  replace k99 : hK h143 q95 = 6 := by rw [e144]; exact kNA k99 (by decide) k142
  replace k107 : hK h143 q103 = 6 := by rw [e144]; exact kNA k107 (by decide) k142
  replace k115 : hK h143 q111 = 6 := by rw [e144]; exact kNA k115 (by decide) k142
  replace k124 : hK h143 q119 = 1000 := by rw [e144]; exact kNA k124 (by decide) k142
  replace k131 : hK h143 q126 = 1000 := by rw [e144]; exact kNA k131 (by decide) k142
  replace k139 : hK h143 b135 = 5 := by rw [e144]; exact kNA k139 (by decide) k142
  have k146 : hK h143 q141 = 1000 := by rw [e144]; exact kNAs
  refine x_dup (pc' := 212) (dX1_init 100 rfl rfl) rfl rfl ?_
  refine x_iconst (pc' := 213) (v := 0) (dX1_init 101 rfl rfl) (by decide) rfl ?_
  refine x_iconst (pc' := 214) (v := 0) (dX1_init 102 rfl rfl) (by decide) rfl ?_
  obtain ⟨n150, hf⟩ := hf
  obtain ⟨i147, hf⟩ := hf
  refine x_iast (pc' := 215) (dX1_init 103 rfl rfl) rfl k146 (Or.inr ⟨n150, by decide⟩) i147 (fun h148 e149 => ?_)
  replace hf := hf h148 e149
  replace k5 : hK h148 q1 = 2 := by rw [e149]; exact k5
  replace k8 : hK h148 a0 = 1 := by rw [e149]; exact k8
  replace k14 : hK h148 q10 = 3 := by rw [e149]; exact k14
  replace k22 : hK h148 q18 = 5 := by rw [e149]; exact k22
  replace k30 : hK h148 q26 = 8 := by rw [e149]; exact k30
  replace k37 : hK h148 b35 = 5 := by rw [e149]; exact k37
  replace k47 : hK h148 q43 = 9 := by rw [e149]; exact k47
  replace k55 : hK h148 q51 = 10 := by rw [e149]; exact k55
  replace k69 : hK h148 q65 = 11 := by rw [e149]; exact k69
  replace k79 : hK h148 q75 = 12 := by rw [e149]; exact k79
  replace k92 : hK h148 q87 = 1001 := by rw [e149]; exact k92
  replace k99 : hK h148 q95 = 6 := by rw [e149]; exact k99
  replace k107 : hK h148 q103 = 6 := by rw [e149]; exact k107
  replace k115 : hK h148 q111 = 6 := by rw [e149]; exact k115
  replace k124 : hK h148 q119 = 1000 := by rw [e149]; exact k124
  replace k131 : hK h148 q126 = 1000 := by rw [e149]; exact k131
  replace k139 : hK h148 b135 = 5 := by rw [e149]; exact k139
  replace k146 : hK h148 q141 = 1000 := by rw [e149]; exact k146
  refine x_dup (pc' := 216) (dX1_init 104 rfl rfl) rfl rfl ?_
  refine x_iconst (pc' := 217) (v := 1) (dX1_init 105 rfl rfl) (by decide) rfl ?_
  refine x_bipush (pc' := 219) (v := 8) (dX1_init 106 rfl rfl) (by decide) rfl ?_
  obtain ⟨n154, hf⟩ := hf
  obtain ⟨i151, hf⟩ := hf
  refine x_iast (pc' := 220) (dX1_init 107 rfl rfl) rfl k146 (Or.inr ⟨n154, by decide⟩) i151 (fun h152 e153 => ?_)
  replace hf := hf h152 e153
  replace k5 : hK h152 q1 = 2 := by rw [e153]; exact k5
  replace k8 : hK h152 a0 = 1 := by rw [e153]; exact k8
  replace k14 : hK h152 q10 = 3 := by rw [e153]; exact k14
  replace k22 : hK h152 q18 = 5 := by rw [e153]; exact k22
  replace k30 : hK h152 q26 = 8 := by rw [e153]; exact k30
  replace k37 : hK h152 b35 = 5 := by rw [e153]; exact k37
  replace k47 : hK h152 q43 = 9 := by rw [e153]; exact k47
  replace k55 : hK h152 q51 = 10 := by rw [e153]; exact k55
  replace k69 : hK h152 q65 = 11 := by rw [e153]; exact k69
  replace k79 : hK h152 q75 = 12 := by rw [e153]; exact k79
  replace k92 : hK h152 q87 = 1001 := by rw [e153]; exact k92
  replace k99 : hK h152 q95 = 6 := by rw [e153]; exact k99
  replace k107 : hK h152 q103 = 6 := by rw [e153]; exact k107
  replace k115 : hK h152 q111 = 6 := by rw [e153]; exact k115
  replace k124 : hK h152 q119 = 1000 := by rw [e153]; exact k124
  replace k131 : hK h152 q126 = 1000 := by rw [e153]; exact k131
  replace k139 : hK h152 b135 = 5 := by rw [e153]; exact k139
  replace k146 : hK h152 q141 = 1000 := by rw [e153]; exact k146
  refine x_dup (pc' := 221) (dX1_init 108 rfl rfl) rfl rfl ?_
  refine x_iconst (pc' := 222) (v := 2) (dX1_init 109 rfl rfl) (by decide) rfl ?_
  refine x_bipush (pc' := 224) (v := 8) (dX1_init 110 rfl rfl) (by decide) rfl ?_
  obtain ⟨n158, hf⟩ := hf
  obtain ⟨i155, hf⟩ := hf
  refine x_iast (pc' := 225) (dX1_init 111 rfl rfl) rfl k146 (Or.inr ⟨n158, by decide⟩) i155 (fun h156 e157 => ?_)
  replace hf := hf h156 e157
  replace k5 : hK h156 q1 = 2 := by rw [e157]; exact k5
  replace k8 : hK h156 a0 = 1 := by rw [e157]; exact k8
  replace k14 : hK h156 q10 = 3 := by rw [e157]; exact k14
  replace k22 : hK h156 q18 = 5 := by rw [e157]; exact k22
  replace k30 : hK h156 q26 = 8 := by rw [e157]; exact k30
  replace k37 : hK h156 b35 = 5 := by rw [e157]; exact k37
  replace k47 : hK h156 q43 = 9 := by rw [e157]; exact k47
  replace k55 : hK h156 q51 = 10 := by rw [e157]; exact k55
  replace k69 : hK h156 q65 = 11 := by rw [e157]; exact k69
  replace k79 : hK h156 q75 = 12 := by rw [e157]; exact k79
  replace k92 : hK h156 q87 = 1001 := by rw [e157]; exact k92
  replace k99 : hK h156 q95 = 6 := by rw [e157]; exact k99
  replace k107 : hK h156 q103 = 6 := by rw [e157]; exact k107
  replace k115 : hK h156 q111 = 6 := by rw [e157]; exact k115
  replace k124 : hK h156 q119 = 1000 := by rw [e157]; exact k124
  replace k131 : hK h156 q126 = 1000 := by rw [e157]; exact k131
  replace k139 : hK h156 b135 = 5 := by rw [e157]; exact k139
  replace k146 : hK h156 q141 = 1000 := by rw [e157]; exact k146
  obtain ⟨k161, hf⟩ := hf
  refine x_inv (pc' := 228) (ν := mX9_builtIn) (av := [_, _, _, _]) (st := []) rfl rfl (dX1_init 112 rfl rfl) (Nat.le_of_ble_eq_true rfl) wX9_builtIn q223 (inv_V (k := 7) (dX1_init 112 rfl rfl) q907 q908 q909 wX9_builtIn (by decide) lX9_builtIn (by decide) k161) (exN (by decide)) rfl ?_
  refine C.mono hf (fun _ _ => KV.g (fun h159 hf le160 => ?_))
  have k5 := leK le160 k5 (by decide)
  have k8 := leK le160 k8 (by decide)
  have k14 := leK le160 k14 (by decide)
  have k22 := leK le160 k22 (by decide)
  have k30 := leK le160 k30 (by decide)
  have k37 := leK le160 k37 (by decide)
  have k47 := leK le160 k47 (by decide)
  have k55 := leK le160 k55 (by decide)
  have k69 := leK le160 k69 (by decide)
  have k79 := leK le160 k79 (by decide)
  have k92 := leK le160 k92 (by decide)
  have k99 := leK le160 k99 (by decide)
  have k107 := leK le160 k107 (by decide)
  have k115 := leK le160 k115 (by decide)
  have k124 := leK le160 k124 (by decide)
  have k131 := leK le160 k131 (by decide)
  have k139 := leK le160 k139 (by decide)
  have k146 := leK le160 k146 (by decide)
  have k161 := leK le160 k161 (by decide)
  refine x_aload_n (pc' := 229) 0 (dX1_init 113 rfl rfl) rfl rfl rfl ?_
  obtain ⟨b162, e163, hf⟩ := hf
  refine x_getR (pc' := 232) (dX1_init 114 rfl rfl) g3 q961 (Or.inl rfl) rfl (hf_of 0 k8 rfl (by decide) m0_3) e163 ?_
  refine x_ldcS (pc' := 234) (tx := "ref") (i := 1) (dX1_init 115 rfl rfl) (List.mem_of_getElem? (i := 1) rfl) rfl ?_
  refine x_aload_n (pc' := 235) 0 (dX1_init 116 rfl rfl) rfl rfl rfl ?_
  obtain ⟨b164, e165, hf⟩ := hf
  refine x_getR (pc' := 238) (dX1_init 117 rfl rfl) g2 q960 (Or.inl rfl) rfl (hf_of 0 k8 rfl (by decide) m0_2) e165 ?_
  refine x_iconst (pc' := 239) (v := 1) (dX1_init 118 rfl rfl) (by decide) rfl ?_
  obtain ⟨k168, hf⟩ := hf
  refine x_inv (pc' := 242) (ν := mX6_builtIn) (av := [_, _]) (st := [_, _]) rfl rfl (dX1_init 119 rfl rfl) (Nat.le_of_ble_eq_true rfl) wX6_builtIn q220 (inv_V (k := 4) (dX1_init 119 rfl rfl) q903 q904 q905 wX6_builtIn (by decide) lX6_builtIn (by decide) k168) (exN (by decide)) rfl ?_
  refine C.mono hf (fun _ _ => KI.g (fun x169 h166 hf le167 => ?_))
  have k5 := leK le167 k5 (by decide)
  have k8 := leK le167 k8 (by decide)
  have k14 := leK le167 k14 (by decide)
  have k22 := leK le167 k22 (by decide)
  have k30 := leK le167 k30 (by decide)
  have k37 := leK le167 k37 (by decide)
  have k47 := leK le167 k47 (by decide)
  have k55 := leK le167 k55 (by decide)
  have k69 := leK le167 k69 (by decide)
  have k79 := leK le167 k79 (by decide)
  have k92 := leK le167 k92 (by decide)
  have k99 := leK le167 k99 (by decide)
  have k107 := leK le167 k107 (by decide)
  have k115 := leK le167 k115 (by decide)
  have k124 := leK le167 k124 (by decide)
  have k131 := leK le167 k131 (by decide)
  have k139 := leK le167 k139 (by decide)
  have k146 := leK le167 k146 (by decide)
  have k161 := leK le167 k161 (by decide)
  have k168 := leK le167 k168 (by decide)
  refine x_iconst (pc' := 243) (v := 4) (dX1_init 120 rfl rfl) (by decide) rfl ?_
  obtain ⟨z174, n1, n2, hf⟩ := hf
  refine x_newa0 (pc' := 245) (dX1_init 121 rfl rfl) rfl z174 (by decide) n1 n2 (fun q170 h172 k171 e173 => ?_)
  replace hf := hf q170 k171 h172 e173
  replace k5 : hK h172 q1 = 2 := by rw [e173]; exact kNA k5 (by decide) k171
  replace k8 : hK h172 a0 = 1 := by rw [e173]; exact kNA k8 (by decide) k171
  replace k14 : hK h172 q10 = 3 := by rw [e173]; exact kNA k14 (by decide) k171
  replace k22 : hK h172 q18 = 5 := by rw [e173]; exact kNA k22 (by decide) k171
  replace k30 : hK h172 q26 = 8 := by rw [e173]; exact kNA k30 (by decide) k171
  replace k37 : hK h172 b35 = 5 := by rw [e173]; exact kNA k37 (by decide) k171
  replace k47 : hK h172 q43 = 9 := by rw [e173]; exact kNA k47 (by decide) k171
  replace k55 : hK h172 q51 = 10 := by rw [e173]; exact kNA k55 (by decide) k171
  replace k69 : hK h172 q65 = 11 := by rw [e173]; exact kNA k69 (by decide) k171
  replace k79 : hK h172 q75 = 12 := by rw [e173]; exact kNA k79 (by decide) k171
  replace k92 : hK h172 q87 = 1001 := by rw [e173]; exact kNA k92 (by decide) k171
  replace k99 : hK h172 q95 = 6 := by rw [e173]; exact kNA k99 (by decide) k171
  replace k107 : hK h172 q103 = 6 := by rw [e173]; exact kNA k107 (by decide) k171
  replace k115 : hK h172 q111 = 6 := by rw [e173]; exact kNA k115 (by decide) k171
  replace k124 : hK h172 q119 = 1000 := by rw [e173]; exact kNA k124 (by decide) k171
  replace k131 : hK h172 q126 = 1000 := by rw [e173]; exact kNA k131 (by decide) k171
  replace k139 : hK h172 b135 = 5 := by rw [e173]; exact kNA k139 (by decide) k171
  replace k146 : hK h172 q141 = 1000 := by rw [e173]; exact kNA k146 (by decide) k171
  replace k161 : hK h172 b133 = 8 := by rw [e173]; exact kNA k161 (by decide) k171
  replace k168 : hK h172 b164 = 5 := by rw [e173]; exact kNA k168 (by decide) k171
  have k175 : hK h172 q170 = 1000 := by rw [e173]; exact kNAs
  refine x_dup (pc' := 246) (dX1_init 122 rfl rfl) rfl rfl ?_
  refine x_iconst (pc' := 247) (v := 0) (dX1_init 123 rfl rfl) (by decide) rfl ?_
  refine x_iconst (pc' := 248) (v := 0) (dX1_init 124 rfl rfl) (by decide) rfl ?_
  obtain ⟨n179, hf⟩ := hf
  obtain ⟨i176, hf⟩ := hf
  refine x_iast (pc' := 249) (dX1_init 125 rfl rfl) rfl k175 (Or.inr ⟨n179, by decide⟩) i176 (fun h177 e178 => ?_)
  replace hf := hf h177 e178
  replace k5 : hK h177 q1 = 2 := by rw [e178]; exact k5
  replace k8 : hK h177 a0 = 1 := by rw [e178]; exact k8
  replace k14 : hK h177 q10 = 3 := by rw [e178]; exact k14
  replace k22 : hK h177 q18 = 5 := by rw [e178]; exact k22
  replace k30 : hK h177 q26 = 8 := by rw [e178]; exact k30
  replace k37 : hK h177 b35 = 5 := by rw [e178]; exact k37
  replace k47 : hK h177 q43 = 9 := by rw [e178]; exact k47
  replace k55 : hK h177 q51 = 10 := by rw [e178]; exact k55
  replace k69 : hK h177 q65 = 11 := by rw [e178]; exact k69
  replace k79 : hK h177 q75 = 12 := by rw [e178]; exact k79
  replace k92 : hK h177 q87 = 1001 := by rw [e178]; exact k92
  replace k99 : hK h177 q95 = 6 := by rw [e178]; exact k99
  replace k107 : hK h177 q103 = 6 := by rw [e178]; exact k107
  replace k115 : hK h177 q111 = 6 := by rw [e178]; exact k115
  replace k124 : hK h177 q119 = 1000 := by rw [e178]; exact k124
  replace k131 : hK h177 q126 = 1000 := by rw [e178]; exact k131
  replace k139 : hK h177 b135 = 5 := by rw [e178]; exact k139
  replace k146 : hK h177 q141 = 1000 := by rw [e178]; exact k146
  replace k161 : hK h177 b133 = 8 := by rw [e178]; exact k161
  replace k168 : hK h177 b164 = 5 := by rw [e178]; exact k168
  replace k175 : hK h177 q170 = 1000 := by rw [e178]; exact k175
  refine x_dup (pc' := 250) (dX1_init 126 rfl rfl) rfl rfl ?_
  refine x_iconst (pc' := 251) (v := 1) (dX1_init 127 rfl rfl) (by decide) rfl ?_
  refine x_iconst (pc' := 252) (v := -1) (dX1_init 128 rfl rfl) (by decide) rfl ?_
  obtain ⟨n183, hf⟩ := hf
  obtain ⟨i180, hf⟩ := hf
  refine x_iast (pc' := 253) (dX1_init 129 rfl rfl) rfl k175 (Or.inr ⟨n183, by decide⟩) i180 (fun h181 e182 => ?_)
  replace hf := hf h181 e182
  replace k5 : hK h181 q1 = 2 := by rw [e182]; exact k5
  replace k8 : hK h181 a0 = 1 := by rw [e182]; exact k8
  replace k14 : hK h181 q10 = 3 := by rw [e182]; exact k14
  replace k22 : hK h181 q18 = 5 := by rw [e182]; exact k22
  replace k30 : hK h181 q26 = 8 := by rw [e182]; exact k30
  replace k37 : hK h181 b35 = 5 := by rw [e182]; exact k37
  replace k47 : hK h181 q43 = 9 := by rw [e182]; exact k47
  replace k55 : hK h181 q51 = 10 := by rw [e182]; exact k55
  replace k69 : hK h181 q65 = 11 := by rw [e182]; exact k69
  replace k79 : hK h181 q75 = 12 := by rw [e182]; exact k79
  replace k92 : hK h181 q87 = 1001 := by rw [e182]; exact k92
  replace k99 : hK h181 q95 = 6 := by rw [e182]; exact k99
  replace k107 : hK h181 q103 = 6 := by rw [e182]; exact k107
  replace k115 : hK h181 q111 = 6 := by rw [e182]; exact k115
  replace k124 : hK h181 q119 = 1000 := by rw [e182]; exact k124
  replace k131 : hK h181 q126 = 1000 := by rw [e182]; exact k131
  replace k139 : hK h181 b135 = 5 := by rw [e182]; exact k139
  replace k146 : hK h181 q141 = 1000 := by rw [e182]; exact k146
  replace k161 : hK h181 b133 = 8 := by rw [e182]; exact k161
  replace k168 : hK h181 b164 = 5 := by rw [e182]; exact k168
  replace k175 : hK h181 q170 = 1000 := by rw [e182]; exact k175
  refine x_dup (pc' := 254) (dX1_init 130 rfl rfl) rfl rfl ?_
  refine x_iconst (pc' := 255) (v := 2) (dX1_init 131 rfl rfl) (by decide) rfl ?_
  refine x_bipush (pc' := 257) (v := 11) (dX1_init 132 rfl rfl) (by decide) rfl ?_
  obtain ⟨n187, hf⟩ := hf
  obtain ⟨i184, hf⟩ := hf
  refine x_iast (pc' := 258) (dX1_init 133 rfl rfl) rfl k175 (Or.inr ⟨n187, by decide⟩) i184 (fun h185 e186 => ?_)
  replace hf := hf h185 e186
  replace k5 : hK h185 q1 = 2 := by rw [e186]; exact k5
  replace k8 : hK h185 a0 = 1 := by rw [e186]; exact k8
  replace k14 : hK h185 q10 = 3 := by rw [e186]; exact k14
  replace k22 : hK h185 q18 = 5 := by rw [e186]; exact k22
  replace k30 : hK h185 q26 = 8 := by rw [e186]; exact k30
  replace k37 : hK h185 b35 = 5 := by rw [e186]; exact k37
  replace k47 : hK h185 q43 = 9 := by rw [e186]; exact k47
  replace k55 : hK h185 q51 = 10 := by rw [e186]; exact k55
  replace k69 : hK h185 q65 = 11 := by rw [e186]; exact k69
  replace k79 : hK h185 q75 = 12 := by rw [e186]; exact k79
  replace k92 : hK h185 q87 = 1001 := by rw [e186]; exact k92
  replace k99 : hK h185 q95 = 6 := by rw [e186]; exact k99
  replace k107 : hK h185 q103 = 6 := by rw [e186]; exact k107
  replace k115 : hK h185 q111 = 6 := by rw [e186]; exact k115
  replace k124 : hK h185 q119 = 1000 := by rw [e186]; exact k124
  replace k131 : hK h185 q126 = 1000 := by rw [e186]; exact k131
  replace k139 : hK h185 b135 = 5 := by rw [e186]; exact k139
  replace k146 : hK h185 q141 = 1000 := by rw [e186]; exact k146
  replace k161 : hK h185 b133 = 8 := by rw [e186]; exact k161
  replace k168 : hK h185 b164 = 5 := by rw [e186]; exact k168
  replace k175 : hK h185 q170 = 1000 := by rw [e186]; exact k175
  refine x_dup (pc' := 259) (dX1_init 134 rfl rfl) rfl rfl ?_
  refine x_iconst (pc' := 260) (v := 3) (dX1_init 135 rfl rfl) (by decide) rfl ?_
  refine x_iconst (pc' := 261) (v := -1) (dX1_init 136 rfl rfl) (by decide) rfl ?_
  obtain ⟨n191, hf⟩ := hf
  obtain ⟨i188, hf⟩ := hf
  refine x_iast (pc' := 262) (dX1_init 137 rfl rfl) rfl k175 (Or.inr ⟨n191, by decide⟩) i188 (fun h189 e190 => ?_)
  replace hf := hf h189 e190
  replace k5 : hK h189 q1 = 2 := by rw [e190]; exact k5
  replace k8 : hK h189 a0 = 1 := by rw [e190]; exact k8
  replace k14 : hK h189 q10 = 3 := by rw [e190]; exact k14
  replace k22 : hK h189 q18 = 5 := by rw [e190]; exact k22
  replace k30 : hK h189 q26 = 8 := by rw [e190]; exact k30
  replace k37 : hK h189 b35 = 5 := by rw [e190]; exact k37
  replace k47 : hK h189 q43 = 9 := by rw [e190]; exact k47
  replace k55 : hK h189 q51 = 10 := by rw [e190]; exact k55
  replace k69 : hK h189 q65 = 11 := by rw [e190]; exact k69
  replace k79 : hK h189 q75 = 12 := by rw [e190]; exact k79
  replace k92 : hK h189 q87 = 1001 := by rw [e190]; exact k92
  replace k99 : hK h189 q95 = 6 := by rw [e190]; exact k99
  replace k107 : hK h189 q103 = 6 := by rw [e190]; exact k107
  replace k115 : hK h189 q111 = 6 := by rw [e190]; exact k115
  replace k124 : hK h189 q119 = 1000 := by rw [e190]; exact k124
  replace k131 : hK h189 q126 = 1000 := by rw [e190]; exact k131
  replace k139 : hK h189 b135 = 5 := by rw [e190]; exact k139
  replace k146 : hK h189 q141 = 1000 := by rw [e190]; exact k146
  replace k161 : hK h189 b133 = 8 := by rw [e190]; exact k161
  replace k168 : hK h189 b164 = 5 := by rw [e190]; exact k168
  replace k175 : hK h189 q170 = 1000 := by rw [e190]; exact k175
  obtain ⟨k194, hf⟩ := hf
  refine x_inv (pc' := 265) (ν := mX9_builtIn) (av := [_, _, _, _]) (st := []) rfl rfl (dX1_init 138 rfl rfl) (Nat.le_of_ble_eq_true rfl) wX9_builtIn q223 (inv_V (k := 7) (dX1_init 138 rfl rfl) q907 q908 q909 wX9_builtIn (by decide) lX9_builtIn (by decide) k194) (exN (by decide)) rfl ?_
  refine C.mono hf (fun _ _ => KV.g (fun h192 hf le193 => ?_))
  have k5 := leK le193 k5 (by decide)
  have k8 := leK le193 k8 (by decide)
  have k14 := leK le193 k14 (by decide)
  have k22 := leK le193 k22 (by decide)
  have k30 := leK le193 k30 (by decide)
  have k37 := leK le193 k37 (by decide)
  have k47 := leK le193 k47 (by decide)
  have k55 := leK le193 k55 (by decide)
  have k69 := leK le193 k69 (by decide)
  have k79 := leK le193 k79 (by decide)
  have k92 := leK le193 k92 (by decide)
  have k99 := leK le193 k99 (by decide)
  have k107 := leK le193 k107 (by decide)
  have k115 := leK le193 k115 (by decide)
  have k124 := leK le193 k124 (by decide)
  have k131 := leK le193 k131 (by decide)
  have k139 := leK le193 k139 (by decide)
  have k146 := leK le193 k146 (by decide)
  have k161 := leK le193 k161 (by decide)
  have k168 := leK le193 k168 (by decide)
  have k175 := leK le193 k175 (by decide)
  have k194 := leK le193 k194 (by decide)
  refine x_aload_n (pc' := 266) 0 (dX1_init 139 rfl rfl) rfl rfl rfl ?_
  obtain ⟨b195, e196, hf⟩ := hf
  refine x_getR (pc' := 269) (dX1_init 140 rfl rfl) g3 q961 (Or.inl rfl) rfl (hf_of 0 k8 rfl (by decide) m0_3) e196 ?_
  refine x_ldcS (pc' := 271) (tx := "ignore") (i := 2) (dX1_init 141 rfl rfl) (List.mem_of_getElem? (i := 2) rfl) rfl ?_
  refine x_aload_n (pc' := 272) 0 (dX1_init 142 rfl rfl) rfl rfl rfl ?_
  obtain ⟨b197, e198, hf⟩ := hf
  refine x_getR (pc' := 275) (dX1_init 143 rfl rfl) g2 q960 (Or.inl rfl) rfl (hf_of 0 k8 rfl (by decide) m0_2) e198 ?_
  refine x_iconst (pc' := 276) (v := 4) (dX1_init 144 rfl rfl) (by decide) rfl ?_
  obtain ⟨k201, hf⟩ := hf
  refine x_inv (pc' := 279) (ν := mX6_builtIn) (av := [_, _]) (st := [_, _]) rfl rfl (dX1_init 145 rfl rfl) (Nat.le_of_ble_eq_true rfl) wX6_builtIn q220 (inv_V (k := 4) (dX1_init 145 rfl rfl) q903 q904 q905 wX6_builtIn (by decide) lX6_builtIn (by decide) k201) (exN (by decide)) rfl ?_
  refine C.mono hf (fun _ _ => KI.g (fun x202 h199 hf le200 => ?_))
  have k5 := leK le200 k5 (by decide)
  have k8 := leK le200 k8 (by decide)
  have k14 := leK le200 k14 (by decide)
  have k22 := leK le200 k22 (by decide)
  have k30 := leK le200 k30 (by decide)
  have k37 := leK le200 k37 (by decide)
  have k47 := leK le200 k47 (by decide)
  have k55 := leK le200 k55 (by decide)
  have k69 := leK le200 k69 (by decide)
  have k79 := leK le200 k79 (by decide)
  have k92 := leK le200 k92 (by decide)
  have k99 := leK le200 k99 (by decide)
  have k107 := leK le200 k107 (by decide)
  have k115 := leK le200 k115 (by decide)
  have k124 := leK le200 k124 (by decide)
  have k131 := leK le200 k131 (by decide)
  have k139 := leK le200 k139 (by decide)
  have k146 := leK le200 k146 (by decide)
  have k161 := leK le200 k161 (by decide)
  have k168 := leK le200 k168 (by decide)
  have k175 := leK le200 k175 (by decide)
  have k194 := leK le200 k194 (by decide)
  have k201 := leK le200 k201 (by decide)
  refine x_iconst (pc' := 280) (v := 3) (dX1_init 146 rfl rfl) (by decide) rfl ?_
  obtain ⟨z207, n1, n2, hf⟩ := hf
  refine x_newa0 (pc' := 282) (dX1_init 147 rfl rfl) rfl z207 (by decide) n1 n2 (fun q203 h205 k204 e206 => ?_)
  replace hf := hf q203 k204 h205 e206
  replace k5 : hK h205 q1 = 2 := by rw [e206]; exact kNA k5 (by decide) k204
  replace k8 : hK h205 a0 = 1 := by rw [e206]; exact kNA k8 (by decide) k204
  replace k14 : hK h205 q10 = 3 := by rw [e206]; exact kNA k14 (by decide) k204
  replace k22 : hK h205 q18 = 5 := by rw [e206]; exact kNA k22 (by decide) k204
  replace k30 : hK h205 q26 = 8 := by rw [e206]; exact kNA k30 (by decide) k204
  replace k37 : hK h205 b35 = 5 := by rw [e206]; exact kNA k37 (by decide) k204
  replace k47 : hK h205 q43 = 9 := by rw [e206]; exact kNA k47 (by decide) k204
  replace k55 : hK h205 q51 = 10 := by rw [e206]; exact kNA k55 (by decide) k204
  replace k69 : hK h205 q65 = 11 := by rw [e206]; exact kNA k69 (by decide) k204
  replace k79 : hK h205 q75 = 12 := by rw [e206]; exact kNA k79 (by decide) k204
  replace k92 : hK h205 q87 = 1001 := by rw [e206]; exact kNA k92 (by decide) k204
  replace k99 : hK h205 q95 = 6 := by rw [e206]; exact kNA k99 (by decide) k204
  replace k107 : hK h205 q103 = 6 := by rw [e206]; exact kNA k107 (by decide) k204
  replace k115 : hK h205 q111 = 6 := by rw [e206]; exact kNA k115 (by decide) k204
  replace k124 : hK h205 q119 = 1000 := by rw [e206]; exact kNA k124 (by decide) k204
  replace k131 : hK h205 q126 = 1000 := by rw [e206]; exact kNA k131 (by decide) k204
  replace k139 : hK h205 b135 = 5 := by rw [e206]; exact kNA k139 (by decide) k204
  replace k146 : hK h205 q141 = 1000 := by rw [e206]; exact kNA k146 (by decide) k204
  replace k161 : hK h205 b133 = 8 := by rw [e206]; exact kNA k161 (by decide) k204
  replace k168 : hK h205 b164 = 5 := by rw [e206]; exact kNA k168 (by decide) k204
  replace k175 : hK h205 q170 = 1000 := by rw [e206]; exact kNA k175 (by decide) k204
  replace k194 : hK h205 b162 = 8 := by rw [e206]; exact kNA k194 (by decide) k204
  replace k201 : hK h205 b197 = 5 := by rw [e206]; exact kNA k201 (by decide) k204
  have k208 : hK h205 q203 = 1000 := by rw [e206]; exact kNAs
  refine x_dup (pc' := 283) (dX1_init 148 rfl rfl) rfl rfl ?_
  refine x_iconst (pc' := 284) (v := 0) (dX1_init 149 rfl rfl) (by decide) rfl ?_
  refine x_iconst (pc' := 285) (v := 0) (dX1_init 150 rfl rfl) (by decide) rfl ?_
  obtain ⟨n212, hf⟩ := hf
  obtain ⟨i209, hf⟩ := hf
  refine x_iast (pc' := 286) (dX1_init 151 rfl rfl) rfl k208 (Or.inr ⟨n212, by decide⟩) i209 (fun h210 e211 => ?_)
  replace hf := hf h210 e211
  replace k5 : hK h210 q1 = 2 := by rw [e211]; exact k5
  replace k8 : hK h210 a0 = 1 := by rw [e211]; exact k8
  replace k14 : hK h210 q10 = 3 := by rw [e211]; exact k14
  replace k22 : hK h210 q18 = 5 := by rw [e211]; exact k22
  replace k30 : hK h210 q26 = 8 := by rw [e211]; exact k30
  replace k37 : hK h210 b35 = 5 := by rw [e211]; exact k37
  replace k47 : hK h210 q43 = 9 := by rw [e211]; exact k47
  replace k55 : hK h210 q51 = 10 := by rw [e211]; exact k55
  replace k69 : hK h210 q65 = 11 := by rw [e211]; exact k69
  replace k79 : hK h210 q75 = 12 := by rw [e211]; exact k79
  replace k92 : hK h210 q87 = 1001 := by rw [e211]; exact k92
  replace k99 : hK h210 q95 = 6 := by rw [e211]; exact k99
  replace k107 : hK h210 q103 = 6 := by rw [e211]; exact k107
  replace k115 : hK h210 q111 = 6 := by rw [e211]; exact k115
  replace k124 : hK h210 q119 = 1000 := by rw [e211]; exact k124
  replace k131 : hK h210 q126 = 1000 := by rw [e211]; exact k131
  replace k139 : hK h210 b135 = 5 := by rw [e211]; exact k139
  replace k146 : hK h210 q141 = 1000 := by rw [e211]; exact k146
  replace k161 : hK h210 b133 = 8 := by rw [e211]; exact k161
  replace k168 : hK h210 b164 = 5 := by rw [e211]; exact k168
  replace k175 : hK h210 q170 = 1000 := by rw [e211]; exact k175
  replace k194 : hK h210 b162 = 8 := by rw [e211]; exact k194
  replace k201 : hK h210 b197 = 5 := by rw [e211]; exact k201
  replace k208 : hK h210 q203 = 1000 := by rw [e211]; exact k208
  refine x_dup (pc' := 287) (dX1_init 152 rfl rfl) rfl rfl ?_
  refine x_iconst (pc' := 288) (v := 1) (dX1_init 153 rfl rfl) (by decide) rfl ?_
  refine x_iconst (pc' := 289) (v := -1) (dX1_init 154 rfl rfl) (by decide) rfl ?_
  obtain ⟨n216, hf⟩ := hf
  obtain ⟨i213, hf⟩ := hf
  refine x_iast (pc' := 290) (dX1_init 155 rfl rfl) rfl k208 (Or.inr ⟨n216, by decide⟩) i213 (fun h214 e215 => ?_)
  replace hf := hf h214 e215
  replace k5 : hK h214 q1 = 2 := by rw [e215]; exact k5
  replace k8 : hK h214 a0 = 1 := by rw [e215]; exact k8
  replace k14 : hK h214 q10 = 3 := by rw [e215]; exact k14
  replace k22 : hK h214 q18 = 5 := by rw [e215]; exact k22
  replace k30 : hK h214 q26 = 8 := by rw [e215]; exact k30
  replace k37 : hK h214 b35 = 5 := by rw [e215]; exact k37
  replace k47 : hK h214 q43 = 9 := by rw [e215]; exact k47
  replace k55 : hK h214 q51 = 10 := by rw [e215]; exact k55
  replace k69 : hK h214 q65 = 11 := by rw [e215]; exact k69
  replace k79 : hK h214 q75 = 12 := by rw [e215]; exact k79
  replace k92 : hK h214 q87 = 1001 := by rw [e215]; exact k92
  replace k99 : hK h214 q95 = 6 := by rw [e215]; exact k99
  replace k107 : hK h214 q103 = 6 := by rw [e215]; exact k107
  replace k115 : hK h214 q111 = 6 := by rw [e215]; exact k115
  replace k124 : hK h214 q119 = 1000 := by rw [e215]; exact k124
  replace k131 : hK h214 q126 = 1000 := by rw [e215]; exact k131
  replace k139 : hK h214 b135 = 5 := by rw [e215]; exact k139
  replace k146 : hK h214 q141 = 1000 := by rw [e215]; exact k146
  replace k161 : hK h214 b133 = 8 := by rw [e215]; exact k161
  replace k168 : hK h214 b164 = 5 := by rw [e215]; exact k168
  replace k175 : hK h214 q170 = 1000 := by rw [e215]; exact k175
  replace k194 : hK h214 b162 = 8 := by rw [e215]; exact k194
  replace k201 : hK h214 b197 = 5 := by rw [e215]; exact k201
  replace k208 : hK h214 q203 = 1000 := by rw [e215]; exact k208
  refine x_dup (pc' := 291) (dX1_init 156 rfl rfl) rfl rfl ?_
  refine x_iconst (pc' := 292) (v := 2) (dX1_init 157 rfl rfl) (by decide) rfl ?_
  refine x_bipush (pc' := 294) (v := 9) (dX1_init 158 rfl rfl) (by decide) rfl ?_
  obtain ⟨n220, hf⟩ := hf
  obtain ⟨i217, hf⟩ := hf
  refine x_iast (pc' := 295) (dX1_init 159 rfl rfl) rfl k208 (Or.inr ⟨n220, by decide⟩) i217 (fun h218 e219 => ?_)
  replace hf := hf h218 e219
  replace k5 : hK h218 q1 = 2 := by rw [e219]; exact k5
  replace k8 : hK h218 a0 = 1 := by rw [e219]; exact k8
  replace k14 : hK h218 q10 = 3 := by rw [e219]; exact k14
  replace k22 : hK h218 q18 = 5 := by rw [e219]; exact k22
  replace k30 : hK h218 q26 = 8 := by rw [e219]; exact k30
  replace k37 : hK h218 b35 = 5 := by rw [e219]; exact k37
  replace k47 : hK h218 q43 = 9 := by rw [e219]; exact k47
  replace k55 : hK h218 q51 = 10 := by rw [e219]; exact k55
  replace k69 : hK h218 q65 = 11 := by rw [e219]; exact k69
  replace k79 : hK h218 q75 = 12 := by rw [e219]; exact k79
  replace k92 : hK h218 q87 = 1001 := by rw [e219]; exact k92
  replace k99 : hK h218 q95 = 6 := by rw [e219]; exact k99
  replace k107 : hK h218 q103 = 6 := by rw [e219]; exact k107
  replace k115 : hK h218 q111 = 6 := by rw [e219]; exact k115
  replace k124 : hK h218 q119 = 1000 := by rw [e219]; exact k124
  replace k131 : hK h218 q126 = 1000 := by rw [e219]; exact k131
  replace k139 : hK h218 b135 = 5 := by rw [e219]; exact k139
  replace k146 : hK h218 q141 = 1000 := by rw [e219]; exact k146
  replace k161 : hK h218 b133 = 8 := by rw [e219]; exact k161
  replace k168 : hK h218 b164 = 5 := by rw [e219]; exact k168
  replace k175 : hK h218 q170 = 1000 := by rw [e219]; exact k175
  replace k194 : hK h218 b162 = 8 := by rw [e219]; exact k194
  replace k201 : hK h218 b197 = 5 := by rw [e219]; exact k201
  replace k208 : hK h218 q203 = 1000 := by rw [e219]; exact k208
  obtain ⟨k223, hf⟩ := hf
  refine x_inv (pc' := 298) (ν := mX9_builtIn) (av := [_, _, _, _]) (st := []) rfl rfl (dX1_init 160 rfl rfl) (Nat.le_of_ble_eq_true rfl) wX9_builtIn q223 (inv_V (k := 7) (dX1_init 160 rfl rfl) q907 q908 q909 wX9_builtIn (by decide) lX9_builtIn (by decide) k223) (exN (by decide)) rfl ?_
  refine C.mono hf (fun _ _ => KV.g (fun h221 hf le222 => ?_))
  have k5 := leK le222 k5 (by decide)
  have k8 := leK le222 k8 (by decide)
  have k14 := leK le222 k14 (by decide)
  have k22 := leK le222 k22 (by decide)
  have k30 := leK le222 k30 (by decide)
  have k37 := leK le222 k37 (by decide)
  have k47 := leK le222 k47 (by decide)
  have k55 := leK le222 k55 (by decide)
  have k69 := leK le222 k69 (by decide)
  have k79 := leK le222 k79 (by decide)
  have k92 := leK le222 k92 (by decide)
  have k99 := leK le222 k99 (by decide)
  have k107 := leK le222 k107 (by decide)
  have k115 := leK le222 k115 (by decide)
  have k124 := leK le222 k124 (by decide)
  have k131 := leK le222 k131 (by decide)
  have k139 := leK le222 k139 (by decide)
  have k146 := leK le222 k146 (by decide)
  have k161 := leK le222 k161 (by decide)
  have k168 := leK le222 k168 (by decide)
  have k175 := leK le222 k175 (by decide)
  have k194 := leK le222 k194 (by decide)
  have k201 := leK le222 k201 (by decide)
  have k208 := leK le222 k208 (by decide)
  have k223 := leK le222 k223 (by decide)
  refine x_aload_n (pc' := 299) 0 (dX1_init 161 rfl rfl) rfl rfl rfl ?_
  obtain ⟨b224, e225, hf⟩ := hf
  refine x_getR (pc' := 302) (dX1_init 162 rfl rfl) g3 q961 (Or.inl rfl) rfl (hf_of 0 k8 rfl (by decide) m0_3) e225 ?_
  refine x_ldcS (pc' := 304) (tx := "fst") (i := 3) (dX1_init 163 rfl rfl) (List.mem_of_getElem? (i := 3) rfl) rfl ?_
  refine x_aload_n (pc' := 305) 0 (dX1_init 164 rfl rfl) rfl rfl rfl ?_
  obtain ⟨b226, e227, hf⟩ := hf
  refine x_getR (pc' := 308) (dX1_init 165 rfl rfl) g2 q960 (Or.inl rfl) rfl (hf_of 0 k8 rfl (by decide) m0_2) e227 ?_
  refine x_iconst (pc' := 309) (v := 5) (dX1_init 166 rfl rfl) (by decide) rfl ?_
  obtain ⟨k230, hf⟩ := hf
  refine x_inv (pc' := 312) (ν := mX6_builtIn) (av := [_, _]) (st := [_, _]) rfl rfl (dX1_init 167 rfl rfl) (Nat.le_of_ble_eq_true rfl) wX6_builtIn q220 (inv_V (k := 4) (dX1_init 167 rfl rfl) q903 q904 q905 wX6_builtIn (by decide) lX6_builtIn (by decide) k230) (exN (by decide)) rfl ?_
  refine C.mono hf (fun _ _ => KI.g (fun x231 h228 hf le229 => ?_))
  have k5 := leK le229 k5 (by decide)
  have k8 := leK le229 k8 (by decide)
  have k14 := leK le229 k14 (by decide)
  have k22 := leK le229 k22 (by decide)
  have k30 := leK le229 k30 (by decide)
  have k37 := leK le229 k37 (by decide)
  have k47 := leK le229 k47 (by decide)
  have k55 := leK le229 k55 (by decide)
  have k69 := leK le229 k69 (by decide)
  have k79 := leK le229 k79 (by decide)
  have k92 := leK le229 k92 (by decide)
  have k99 := leK le229 k99 (by decide)
  have k107 := leK le229 k107 (by decide)
  have k115 := leK le229 k115 (by decide)
  have k124 := leK le229 k124 (by decide)
  have k131 := leK le229 k131 (by decide)
  have k139 := leK le229 k139 (by decide)
  have k146 := leK le229 k146 (by decide)
  have k161 := leK le229 k161 (by decide)
  have k168 := leK le229 k168 (by decide)
  have k175 := leK le229 k175 (by decide)
  have k194 := leK le229 k194 (by decide)
  have k201 := leK le229 k201 (by decide)
  have k208 := leK le229 k208 (by decide)
  have k223 := leK le229 k223 (by decide)
  have k230 := leK le229 k230 (by decide)
  refine x_iconst (pc' := 313) (v := 5) (dX1_init 168 rfl rfl) (by decide) rfl ?_
  obtain ⟨z236, n1, n2, hf⟩ := hf
  refine x_newa0 (pc' := 315) (dX1_init 169 rfl rfl) rfl z236 (by decide) n1 n2 (fun q232 h234 k233 e235 => ?_)
  replace hf := hf q232 k233 h234 e235
  replace k5 : hK h234 q1 = 2 := by rw [e235]; exact kNA k5 (by decide) k233
  replace k8 : hK h234 a0 = 1 := by rw [e235]; exact kNA k8 (by decide) k233
  replace k14 : hK h234 q10 = 3 := by rw [e235]; exact kNA k14 (by decide) k233
  replace k22 : hK h234 q18 = 5 := by rw [e235]; exact kNA k22 (by decide) k233
  replace k30 : hK h234 q26 = 8 := by rw [e235]; exact kNA k30 (by decide) k233
  replace k37 : hK h234 b35 = 5 := by rw [e235]; exact kNA k37 (by decide) k233
  replace k47 : hK h234 q43 = 9 := by rw [e235]; exact kNA k47 (by decide) k233
  replace k55 : hK h234 q51 = 10 := by rw [e235]; exact kNA k55 (by decide) k233
  replace k69 : hK h234 q65 = 11 := by rw [e235]; exact kNA k69 (by decide) k233
  replace k79 : hK h234 q75 = 12 := by rw [e235]; exact kNA k79 (by decide) k233
  replace k92 : hK h234 q87 = 1001 := by rw [e235]; exact kNA k92 (by decide) k233
  replace k99 : hK h234 q95 = 6 := by rw [e235]; exact kNA k99 (by decide) k233
  replace k107 : hK h234 q103 = 6 := by rw [e235]; exact kNA k107 (by decide) k233
  replace k115 : hK h234 q111 = 6 := by rw [e235]; exact kNA k115 (by decide) k233
  replace k124 : hK h234 q119 = 1000 := by rw [e235]; exact kNA k124 (by decide) k233
  replace k131 : hK h234 q126 = 1000 := by rw [e235]; exact kNA k131 (by decide) k233
  replace k139 : hK h234 b135 = 5 := by rw [e235]; exact kNA k139 (by decide) k233
  replace k146 : hK h234 q141 = 1000 := by rw [e235]; exact kNA k146 (by decide) k233
  replace k161 : hK h234 b133 = 8 := by rw [e235]; exact kNA k161 (by decide) k233
  replace k168 : hK h234 b164 = 5 := by rw [e235]; exact kNA k168 (by decide) k233
  replace k175 : hK h234 q170 = 1000 := by rw [e235]; exact kNA k175 (by decide) k233
  replace k194 : hK h234 b162 = 8 := by rw [e235]; exact kNA k194 (by decide) k233
  replace k201 : hK h234 b197 = 5 := by rw [e235]; exact kNA k201 (by decide) k233
  replace k208 : hK h234 q203 = 1000 := by rw [e235]; exact kNA k208 (by decide) k233
  replace k223 : hK h234 b195 = 8 := by rw [e235]; exact kNA k223 (by decide) k233
  replace k230 : hK h234 b226 = 5 := by rw [e235]; exact kNA k230 (by decide) k233
  have k237 : hK h234 q232 = 1000 := by rw [e235]; exact kNAs
  refine x_dup (pc' := 316) (dX1_init 170 rfl rfl) rfl rfl ?_
  refine x_iconst (pc' := 317) (v := 0) (dX1_init 171 rfl rfl) (by decide) rfl ?_
  refine x_iconst (pc' := 318) (v := 0) (dX1_init 172 rfl rfl) (by decide) rfl ?_
  obtain ⟨n241, hf⟩ := hf
  obtain ⟨i238, hf⟩ := hf
  refine x_iast (pc' := 319) (dX1_init 173 rfl rfl) rfl k237 (Or.inr ⟨n241, by decide⟩) i238 (fun h239 e240 => ?_)
  replace hf := hf h239 e240
  replace k5 : hK h239 q1 = 2 := by rw [e240]; exact k5
  replace k8 : hK h239 a0 = 1 := by rw [e240]; exact k8
  replace k14 : hK h239 q10 = 3 := by rw [e240]; exact k14
  replace k22 : hK h239 q18 = 5 := by rw [e240]; exact k22
  replace k30 : hK h239 q26 = 8 := by rw [e240]; exact k30
  replace k37 : hK h239 b35 = 5 := by rw [e240]; exact k37
  replace k47 : hK h239 q43 = 9 := by rw [e240]; exact k47
  replace k55 : hK h239 q51 = 10 := by rw [e240]; exact k55
  replace k69 : hK h239 q65 = 11 := by rw [e240]; exact k69
  replace k79 : hK h239 q75 = 12 := by rw [e240]; exact k79
  replace k92 : hK h239 q87 = 1001 := by rw [e240]; exact k92
  replace k99 : hK h239 q95 = 6 := by rw [e240]; exact k99
  replace k107 : hK h239 q103 = 6 := by rw [e240]; exact k107
  replace k115 : hK h239 q111 = 6 := by rw [e240]; exact k115
  replace k124 : hK h239 q119 = 1000 := by rw [e240]; exact k124
  replace k131 : hK h239 q126 = 1000 := by rw [e240]; exact k131
  replace k139 : hK h239 b135 = 5 := by rw [e240]; exact k139
  replace k146 : hK h239 q141 = 1000 := by rw [e240]; exact k146
  replace k161 : hK h239 b133 = 8 := by rw [e240]; exact k161
  replace k168 : hK h239 b164 = 5 := by rw [e240]; exact k168
  replace k175 : hK h239 q170 = 1000 := by rw [e240]; exact k175
  replace k194 : hK h239 b162 = 8 := by rw [e240]; exact k194
  replace k201 : hK h239 b197 = 5 := by rw [e240]; exact k201
  replace k208 : hK h239 q203 = 1000 := by rw [e240]; exact k208
  replace k223 : hK h239 b195 = 8 := by rw [e240]; exact k223
  replace k230 : hK h239 b226 = 5 := by rw [e240]; exact k230
  replace k237 : hK h239 q232 = 1000 := by rw [e240]; exact k237
  refine x_dup (pc' := 320) (dX1_init 174 rfl rfl) rfl rfl ?_
  refine x_iconst (pc' := 321) (v := 1) (dX1_init 175 rfl rfl) (by decide) rfl ?_
  refine x_iconst (pc' := 322) (v := 2) (dX1_init 176 rfl rfl) (by decide) rfl ?_
  obtain ⟨n245, hf⟩ := hf
  obtain ⟨i242, hf⟩ := hf
  refine x_iast (pc' := 323) (dX1_init 177 rfl rfl) rfl k237 (Or.inr ⟨n245, by decide⟩) i242 (fun h243 e244 => ?_)
  replace hf := hf h243 e244
  replace k5 : hK h243 q1 = 2 := by rw [e244]; exact k5
  replace k8 : hK h243 a0 = 1 := by rw [e244]; exact k8
  replace k14 : hK h243 q10 = 3 := by rw [e244]; exact k14
  replace k22 : hK h243 q18 = 5 := by rw [e244]; exact k22
  replace k30 : hK h243 q26 = 8 := by rw [e244]; exact k30
  replace k37 : hK h243 b35 = 5 := by rw [e244]; exact k37
  replace k47 : hK h243 q43 = 9 := by rw [e244]; exact k47
  replace k55 : hK h243 q51 = 10 := by rw [e244]; exact k55
  replace k69 : hK h243 q65 = 11 := by rw [e244]; exact k69
  replace k79 : hK h243 q75 = 12 := by rw [e244]; exact k79
  replace k92 : hK h243 q87 = 1001 := by rw [e244]; exact k92
  replace k99 : hK h243 q95 = 6 := by rw [e244]; exact k99
  replace k107 : hK h243 q103 = 6 := by rw [e244]; exact k107
  replace k115 : hK h243 q111 = 6 := by rw [e244]; exact k115
  replace k124 : hK h243 q119 = 1000 := by rw [e244]; exact k124
  replace k131 : hK h243 q126 = 1000 := by rw [e244]; exact k131
  replace k139 : hK h243 b135 = 5 := by rw [e244]; exact k139
  replace k146 : hK h243 q141 = 1000 := by rw [e244]; exact k146
  replace k161 : hK h243 b133 = 8 := by rw [e244]; exact k161
  replace k168 : hK h243 b164 = 5 := by rw [e244]; exact k168
  replace k175 : hK h243 q170 = 1000 := by rw [e244]; exact k175
  replace k194 : hK h243 b162 = 8 := by rw [e244]; exact k194
  replace k201 : hK h243 b197 = 5 := by rw [e244]; exact k201
  replace k208 : hK h243 q203 = 1000 := by rw [e244]; exact k208
  replace k223 : hK h243 b195 = 8 := by rw [e244]; exact k223
  replace k230 : hK h243 b226 = 5 := by rw [e244]; exact k230
  replace k237 : hK h243 q232 = 1000 := by rw [e244]; exact k237
  refine x_dup (pc' := 324) (dX1_init 178 rfl rfl) rfl rfl ?_
  refine x_iconst (pc' := 325) (v := 2) (dX1_init 179 rfl rfl) (by decide) rfl ?_
  refine x_iconst (pc' := 326) (v := -1) (dX1_init 180 rfl rfl) (by decide) rfl ?_
  obtain ⟨n249, hf⟩ := hf
  obtain ⟨i246, hf⟩ := hf
  refine x_iast (pc' := 327) (dX1_init 181 rfl rfl) rfl k237 (Or.inr ⟨n249, by decide⟩) i246 (fun h247 e248 => ?_)
  replace hf := hf h247 e248
  replace k5 : hK h247 q1 = 2 := by rw [e248]; exact k5
  replace k8 : hK h247 a0 = 1 := by rw [e248]; exact k8
  replace k14 : hK h247 q10 = 3 := by rw [e248]; exact k14
  replace k22 : hK h247 q18 = 5 := by rw [e248]; exact k22
  replace k30 : hK h247 q26 = 8 := by rw [e248]; exact k30
  replace k37 : hK h247 b35 = 5 := by rw [e248]; exact k37
  replace k47 : hK h247 q43 = 9 := by rw [e248]; exact k47
  replace k55 : hK h247 q51 = 10 := by rw [e248]; exact k55
  replace k69 : hK h247 q65 = 11 := by rw [e248]; exact k69
  replace k79 : hK h247 q75 = 12 := by rw [e248]; exact k79
  replace k92 : hK h247 q87 = 1001 := by rw [e248]; exact k92
  replace k99 : hK h247 q95 = 6 := by rw [e248]; exact k99
  replace k107 : hK h247 q103 = 6 := by rw [e248]; exact k107
  replace k115 : hK h247 q111 = 6 := by rw [e248]; exact k115
  replace k124 : hK h247 q119 = 1000 := by rw [e248]; exact k124
  replace k131 : hK h247 q126 = 1000 := by rw [e248]; exact k131
  replace k139 : hK h247 b135 = 5 := by rw [e248]; exact k139
  replace k146 : hK h247 q141 = 1000 := by rw [e248]; exact k146
  replace k161 : hK h247 b133 = 8 := by rw [e248]; exact k161
  replace k168 : hK h247 b164 = 5 := by rw [e248]; exact k168
  replace k175 : hK h247 q170 = 1000 := by rw [e248]; exact k175
  replace k194 : hK h247 b162 = 8 := by rw [e248]; exact k194
  replace k201 : hK h247 b197 = 5 := by rw [e248]; exact k201
  replace k208 : hK h247 q203 = 1000 := by rw [e248]; exact k208
  replace k223 : hK h247 b195 = 8 := by rw [e248]; exact k223
  replace k230 : hK h247 b226 = 5 := by rw [e248]; exact k230
  replace k237 : hK h247 q232 = 1000 := by rw [e248]; exact k237
  refine x_dup (pc' := 328) (dX1_init 182 rfl rfl) rfl rfl ?_
  refine x_iconst (pc' := 329) (v := 3) (dX1_init 183 rfl rfl) (by decide) rfl ?_
  refine x_bipush (pc' := 331) (v := -2) (dX1_init 184 rfl rfl) (by decide) rfl ?_
  obtain ⟨n253, hf⟩ := hf
  obtain ⟨i250, hf⟩ := hf
  refine x_iast (pc' := 332) (dX1_init 185 rfl rfl) rfl k237 (Or.inr ⟨n253, by decide⟩) i250 (fun h251 e252 => ?_)
  replace hf := hf h251 e252
  replace k5 : hK h251 q1 = 2 := by rw [e252]; exact k5
  replace k8 : hK h251 a0 = 1 := by rw [e252]; exact k8
  replace k14 : hK h251 q10 = 3 := by rw [e252]; exact k14
  replace k22 : hK h251 q18 = 5 := by rw [e252]; exact k22
  replace k30 : hK h251 q26 = 8 := by rw [e252]; exact k30
  replace k37 : hK h251 b35 = 5 := by rw [e252]; exact k37
  replace k47 : hK h251 q43 = 9 := by rw [e252]; exact k47
  replace k55 : hK h251 q51 = 10 := by rw [e252]; exact k55
  replace k69 : hK h251 q65 = 11 := by rw [e252]; exact k69
  replace k79 : hK h251 q75 = 12 := by rw [e252]; exact k79
  replace k92 : hK h251 q87 = 1001 := by rw [e252]; exact k92
  replace k99 : hK h251 q95 = 6 := by rw [e252]; exact k99
  replace k107 : hK h251 q103 = 6 := by rw [e252]; exact k107
  replace k115 : hK h251 q111 = 6 := by rw [e252]; exact k115
  replace k124 : hK h251 q119 = 1000 := by rw [e252]; exact k124
  replace k131 : hK h251 q126 = 1000 := by rw [e252]; exact k131
  replace k139 : hK h251 b135 = 5 := by rw [e252]; exact k139
  replace k146 : hK h251 q141 = 1000 := by rw [e252]; exact k146
  replace k161 : hK h251 b133 = 8 := by rw [e252]; exact k161
  replace k168 : hK h251 b164 = 5 := by rw [e252]; exact k168
  replace k175 : hK h251 q170 = 1000 := by rw [e252]; exact k175
  replace k194 : hK h251 b162 = 8 := by rw [e252]; exact k194
  replace k201 : hK h251 b197 = 5 := by rw [e252]; exact k201
  replace k208 : hK h251 q203 = 1000 := by rw [e252]; exact k208
  replace k223 : hK h251 b195 = 8 := by rw [e252]; exact k223
  replace k230 : hK h251 b226 = 5 := by rw [e252]; exact k230
  replace k237 : hK h251 q232 = 1000 := by rw [e252]; exact k237
  refine x_dup (pc' := 333) (dX1_init 186 rfl rfl) rfl rfl ?_
  refine x_iconst (pc' := 334) (v := 4) (dX1_init 187 rfl rfl) (by decide) rfl ?_
  refine x_iconst (pc' := 335) (v := -1) (dX1_init 188 rfl rfl) (by decide) rfl ?_
  obtain ⟨n257, hf⟩ := hf
  obtain ⟨i254, hf⟩ := hf
  refine x_iast (pc' := 336) (dX1_init 189 rfl rfl) rfl k237 (Or.inr ⟨n257, by decide⟩) i254 (fun h255 e256 => ?_)
  replace hf := hf h255 e256
  replace k5 : hK h255 q1 = 2 := by rw [e256]; exact k5
  replace k8 : hK h255 a0 = 1 := by rw [e256]; exact k8
  replace k14 : hK h255 q10 = 3 := by rw [e256]; exact k14
  replace k22 : hK h255 q18 = 5 := by rw [e256]; exact k22
  replace k30 : hK h255 q26 = 8 := by rw [e256]; exact k30
  replace k37 : hK h255 b35 = 5 := by rw [e256]; exact k37
  replace k47 : hK h255 q43 = 9 := by rw [e256]; exact k47
  replace k55 : hK h255 q51 = 10 := by rw [e256]; exact k55
  replace k69 : hK h255 q65 = 11 := by rw [e256]; exact k69
  replace k79 : hK h255 q75 = 12 := by rw [e256]; exact k79
  replace k92 : hK h255 q87 = 1001 := by rw [e256]; exact k92
  replace k99 : hK h255 q95 = 6 := by rw [e256]; exact k99
  replace k107 : hK h255 q103 = 6 := by rw [e256]; exact k107
  replace k115 : hK h255 q111 = 6 := by rw [e256]; exact k115
  replace k124 : hK h255 q119 = 1000 := by rw [e256]; exact k124
  replace k131 : hK h255 q126 = 1000 := by rw [e256]; exact k131
  replace k139 : hK h255 b135 = 5 := by rw [e256]; exact k139
  replace k146 : hK h255 q141 = 1000 := by rw [e256]; exact k146
  replace k161 : hK h255 b133 = 8 := by rw [e256]; exact k161
  replace k168 : hK h255 b164 = 5 := by rw [e256]; exact k168
  replace k175 : hK h255 q170 = 1000 := by rw [e256]; exact k175
  replace k194 : hK h255 b162 = 8 := by rw [e256]; exact k194
  replace k201 : hK h255 b197 = 5 := by rw [e256]; exact k201
  replace k208 : hK h255 q203 = 1000 := by rw [e256]; exact k208
  replace k223 : hK h255 b195 = 8 := by rw [e256]; exact k223
  replace k230 : hK h255 b226 = 5 := by rw [e256]; exact k230
  replace k237 : hK h255 q232 = 1000 := by rw [e256]; exact k237
  obtain ⟨k260, hf⟩ := hf
  refine x_inv (pc' := 339) (ν := mX9_builtIn) (av := [_, _, _, _]) (st := []) rfl rfl (dX1_init 190 rfl rfl) (Nat.le_of_ble_eq_true rfl) wX9_builtIn q223 (inv_V (k := 7) (dX1_init 190 rfl rfl) q907 q908 q909 wX9_builtIn (by decide) lX9_builtIn (by decide) k260) (exN (by decide)) rfl ?_
  refine C.mono hf (fun _ _ => KV.g (fun h258 hf le259 => ?_))
  have k5 := leK le259 k5 (by decide)
  have k8 := leK le259 k8 (by decide)
  have k14 := leK le259 k14 (by decide)
  have k22 := leK le259 k22 (by decide)
  have k30 := leK le259 k30 (by decide)
  have k37 := leK le259 k37 (by decide)
  have k47 := leK le259 k47 (by decide)
  have k55 := leK le259 k55 (by decide)
  have k69 := leK le259 k69 (by decide)
  have k79 := leK le259 k79 (by decide)
  have k92 := leK le259 k92 (by decide)
  have k99 := leK le259 k99 (by decide)
  have k107 := leK le259 k107 (by decide)
  have k115 := leK le259 k115 (by decide)
  have k124 := leK le259 k124 (by decide)
  have k131 := leK le259 k131 (by decide)
  have k139 := leK le259 k139 (by decide)
  have k146 := leK le259 k146 (by decide)
  have k161 := leK le259 k161 (by decide)
  have k168 := leK le259 k168 (by decide)
  have k175 := leK le259 k175 (by decide)
  have k194 := leK le259 k194 (by decide)
  have k201 := leK le259 k201 (by decide)
  have k208 := leK le259 k208 (by decide)
  have k223 := leK le259 k223 (by decide)
  have k230 := leK le259 k230 (by decide)
  have k237 := leK le259 k237 (by decide)
  have k260 := leK le259 k260 (by decide)
  refine x_aload_n (pc' := 340) 0 (dX1_init 191 rfl rfl) rfl rfl rfl ?_
  obtain ⟨b261, e262, hf⟩ := hf
  refine x_getR (pc' := 343) (dX1_init 192 rfl rfl) g3 q961 (Or.inl rfl) rfl (hf_of 0 k8 rfl (by decide) m0_3) e262 ?_
  refine x_ldcS (pc' := 345) (tx := "snd") (i := 4) (dX1_init 193 rfl rfl) (List.mem_of_getElem? (i := 4) rfl) rfl ?_
  refine x_aload_n (pc' := 346) 0 (dX1_init 194 rfl rfl) rfl rfl rfl ?_
  obtain ⟨b263, e264, hf⟩ := hf
  refine x_getR (pc' := 349) (dX1_init 195 rfl rfl) g2 q960 (Or.inl rfl) rfl (hf_of 0 k8 rfl (by decide) m0_2) e264 ?_
  refine x_bipush (pc' := 351) (v := 6) (dX1_init 196 rfl rfl) (by decide) rfl ?_
  obtain ⟨k267, hf⟩ := hf
  refine x_inv (pc' := 354) (ν := mX6_builtIn) (av := [_, _]) (st := [_, _]) rfl rfl (dX1_init 197 rfl rfl) (Nat.le_of_ble_eq_true rfl) wX6_builtIn q220 (inv_V (k := 4) (dX1_init 197 rfl rfl) q903 q904 q905 wX6_builtIn (by decide) lX6_builtIn (by decide) k267) (exN (by decide)) rfl ?_
  refine C.mono hf (fun _ _ => KI.g (fun x268 h265 hf le266 => ?_))
  have k5 := leK le266 k5 (by decide)
  have k8 := leK le266 k8 (by decide)
  have k14 := leK le266 k14 (by decide)
  have k22 := leK le266 k22 (by decide)
  have k30 := leK le266 k30 (by decide)
  have k37 := leK le266 k37 (by decide)
  have k47 := leK le266 k47 (by decide)
  have k55 := leK le266 k55 (by decide)
  have k69 := leK le266 k69 (by decide)
  have k79 := leK le266 k79 (by decide)
  have k92 := leK le266 k92 (by decide)
  have k99 := leK le266 k99 (by decide)
  have k107 := leK le266 k107 (by decide)
  have k115 := leK le266 k115 (by decide)
  have k124 := leK le266 k124 (by decide)
  have k131 := leK le266 k131 (by decide)
  have k139 := leK le266 k139 (by decide)
  have k146 := leK le266 k146 (by decide)
  have k161 := leK le266 k161 (by decide)
  have k168 := leK le266 k168 (by decide)
  have k175 := leK le266 k175 (by decide)
  have k194 := leK le266 k194 (by decide)
  have k201 := leK le266 k201 (by decide)
  have k208 := leK le266 k208 (by decide)
  have k223 := leK le266 k223 (by decide)
  have k230 := leK le266 k230 (by decide)
  have k237 := leK le266 k237 (by decide)
  have k260 := leK le266 k260 (by decide)
  have k267 := leK le266 k267 (by decide)
  refine x_iconst (pc' := 355) (v := 5) (dX1_init 198 rfl rfl) (by decide) rfl ?_
  obtain ⟨z273, n1, n2, hf⟩ := hf
  refine x_newa0 (pc' := 357) (dX1_init 199 rfl rfl) rfl z273 (by decide) n1 n2 (fun q269 h271 k270 e272 => ?_)
  replace hf := hf q269 k270 h271 e272
  replace k5 : hK h271 q1 = 2 := by rw [e272]; exact kNA k5 (by decide) k270
  replace k8 : hK h271 a0 = 1 := by rw [e272]; exact kNA k8 (by decide) k270
  replace k14 : hK h271 q10 = 3 := by rw [e272]; exact kNA k14 (by decide) k270
  replace k22 : hK h271 q18 = 5 := by rw [e272]; exact kNA k22 (by decide) k270
  replace k30 : hK h271 q26 = 8 := by rw [e272]; exact kNA k30 (by decide) k270
  replace k37 : hK h271 b35 = 5 := by rw [e272]; exact kNA k37 (by decide) k270
  replace k47 : hK h271 q43 = 9 := by rw [e272]; exact kNA k47 (by decide) k270
  replace k55 : hK h271 q51 = 10 := by rw [e272]; exact kNA k55 (by decide) k270
  replace k69 : hK h271 q65 = 11 := by rw [e272]; exact kNA k69 (by decide) k270
  replace k79 : hK h271 q75 = 12 := by rw [e272]; exact kNA k79 (by decide) k270
  replace k92 : hK h271 q87 = 1001 := by rw [e272]; exact kNA k92 (by decide) k270
  replace k99 : hK h271 q95 = 6 := by rw [e272]; exact kNA k99 (by decide) k270
  replace k107 : hK h271 q103 = 6 := by rw [e272]; exact kNA k107 (by decide) k270
  replace k115 : hK h271 q111 = 6 := by rw [e272]; exact kNA k115 (by decide) k270
  replace k124 : hK h271 q119 = 1000 := by rw [e272]; exact kNA k124 (by decide) k270
  replace k131 : hK h271 q126 = 1000 := by rw [e272]; exact kNA k131 (by decide) k270
  replace k139 : hK h271 b135 = 5 := by rw [e272]; exact kNA k139 (by decide) k270
  replace k146 : hK h271 q141 = 1000 := by rw [e272]; exact kNA k146 (by decide) k270
  replace k161 : hK h271 b133 = 8 := by rw [e272]; exact kNA k161 (by decide) k270
  replace k168 : hK h271 b164 = 5 := by rw [e272]; exact kNA k168 (by decide) k270
  replace k175 : hK h271 q170 = 1000 := by rw [e272]; exact kNA k175 (by decide) k270
  replace k194 : hK h271 b162 = 8 := by rw [e272]; exact kNA k194 (by decide) k270
  replace k201 : hK h271 b197 = 5 := by rw [e272]; exact kNA k201 (by decide) k270
  replace k208 : hK h271 q203 = 1000 := by rw [e272]; exact kNA k208 (by decide) k270
  replace k223 : hK h271 b195 = 8 := by rw [e272]; exact kNA k223 (by decide) k270
  replace k230 : hK h271 b226 = 5 := by rw [e272]; exact kNA k230 (by decide) k270
  replace k237 : hK h271 q232 = 1000 := by rw [e272]; exact kNA k237 (by decide) k270
  replace k260 : hK h271 b224 = 8 := by rw [e272]; exact kNA k260 (by decide) k270
  replace k267 : hK h271 b263 = 5 := by rw [e272]; exact kNA k267 (by decide) k270
  have k274 : hK h271 q269 = 1000 := by rw [e272]; exact kNAs
  refine x_dup (pc' := 358) (dX1_init 200 rfl rfl) rfl rfl ?_
  refine x_iconst (pc' := 359) (v := 0) (dX1_init 201 rfl rfl) (by decide) rfl ?_
  refine x_iconst (pc' := 360) (v := 0) (dX1_init 202 rfl rfl) (by decide) rfl ?_
  obtain ⟨n278, hf⟩ := hf
  obtain ⟨i275, hf⟩ := hf
  refine x_iast (pc' := 361) (dX1_init 203 rfl rfl) rfl k274 (Or.inr ⟨n278, by decide⟩) i275 (fun h276 e277 => ?_)
  replace hf := hf h276 e277
  replace k5 : hK h276 q1 = 2 := by rw [e277]; exact k5
  replace k8 : hK h276 a0 = 1 := by rw [e277]; exact k8
  replace k14 : hK h276 q10 = 3 := by rw [e277]; exact k14
  replace k22 : hK h276 q18 = 5 := by rw [e277]; exact k22
  replace k30 : hK h276 q26 = 8 := by rw [e277]; exact k30
  replace k37 : hK h276 b35 = 5 := by rw [e277]; exact k37
  replace k47 : hK h276 q43 = 9 := by rw [e277]; exact k47
  replace k55 : hK h276 q51 = 10 := by rw [e277]; exact k55
  replace k69 : hK h276 q65 = 11 := by rw [e277]; exact k69
  replace k79 : hK h276 q75 = 12 := by rw [e277]; exact k79
  replace k92 : hK h276 q87 = 1001 := by rw [e277]; exact k92
  replace k99 : hK h276 q95 = 6 := by rw [e277]; exact k99
  replace k107 : hK h276 q103 = 6 := by rw [e277]; exact k107
  replace k115 : hK h276 q111 = 6 := by rw [e277]; exact k115
  replace k124 : hK h276 q119 = 1000 := by rw [e277]; exact k124
  replace k131 : hK h276 q126 = 1000 := by rw [e277]; exact k131
  replace k139 : hK h276 b135 = 5 := by rw [e277]; exact k139
  replace k146 : hK h276 q141 = 1000 := by rw [e277]; exact k146
  replace k161 : hK h276 b133 = 8 := by rw [e277]; exact k161
  replace k168 : hK h276 b164 = 5 := by rw [e277]; exact k168
  replace k175 : hK h276 q170 = 1000 := by rw [e277]; exact k175
  replace k194 : hK h276 b162 = 8 := by rw [e277]; exact k194
  replace k201 : hK h276 b197 = 5 := by rw [e277]; exact k201
  replace k208 : hK h276 q203 = 1000 := by rw [e277]; exact k208
  replace k223 : hK h276 b195 = 8 := by rw [e277]; exact k223
  replace k230 : hK h276 b226 = 5 := by rw [e277]; exact k230
  replace k237 : hK h276 q232 = 1000 := by rw [e277]; exact k237
  replace k260 : hK h276 b224 = 8 := by rw [e277]; exact k260
  replace k267 : hK h276 b263 = 5 := by rw [e277]; exact k267
  replace k274 : hK h276 q269 = 1000 := by rw [e277]; exact k274
  refine x_dup (pc' := 362) (dX1_init 204 rfl rfl) rfl rfl ?_
  refine x_iconst (pc' := 363) (v := 1) (dX1_init 205 rfl rfl) (by decide) rfl ?_
  refine x_iconst (pc' := 364) (v := 2) (dX1_init 206 rfl rfl) (by decide) rfl ?_
  obtain ⟨n282, hf⟩ := hf
  obtain ⟨i279, hf⟩ := hf
  refine x_iast (pc' := 365) (dX1_init 207 rfl rfl) rfl k274 (Or.inr ⟨n282, by decide⟩) i279 (fun h280 e281 => ?_)
  replace hf := hf h280 e281
  replace k5 : hK h280 q1 = 2 := by rw [e281]; exact k5
  replace k8 : hK h280 a0 = 1 := by rw [e281]; exact k8
  replace k14 : hK h280 q10 = 3 := by rw [e281]; exact k14
  replace k22 : hK h280 q18 = 5 := by rw [e281]; exact k22
  replace k30 : hK h280 q26 = 8 := by rw [e281]; exact k30
  replace k37 : hK h280 b35 = 5 := by rw [e281]; exact k37
  replace k47 : hK h280 q43 = 9 := by rw [e281]; exact k47
  replace k55 : hK h280 q51 = 10 := by rw [e281]; exact k55
  replace k69 : hK h280 q65 = 11 := by rw [e281]; exact k69
  replace k79 : hK h280 q75 = 12 := by rw [e281]; exact k79
  replace k92 : hK h280 q87 = 1001 := by rw [e281]; exact k92
  replace k99 : hK h280 q95 = 6 := by rw [e281]; exact k99
  replace k107 : hK h280 q103 = 6 := by rw [e281]; exact k107
  replace k115 : hK h280 q111 = 6 := by rw [e281]; exact k115
  replace k124 : hK h280 q119 = 1000 := by rw [e281]; exact k124
  replace k131 : hK h280 q126 = 1000 := by rw [e281]; exact k131
  replace k139 : hK h280 b135 = 5 := by rw [e281]; exact k139
  replace k146 : hK h280 q141 = 1000 := by rw [e281]; exact k146
  replace k161 : hK h280 b133 = 8 := by rw [e281]; exact k161
  replace k168 : hK h280 b164 = 5 := by rw [e281]; exact k168
  replace k175 : hK h280 q170 = 1000 := by rw [e281]; exact k175
  replace k194 : hK h280 b162 = 8 := by rw [e281]; exact k194
  replace k201 : hK h280 b197 = 5 := by rw [e281]; exact k201
  replace k208 : hK h280 q203 = 1000 := by rw [e281]; exact k208
  replace k223 : hK h280 b195 = 8 := by rw [e281]; exact k223
  replace k230 : hK h280 b226 = 5 := by rw [e281]; exact k230
  replace k237 : hK h280 q232 = 1000 := by rw [e281]; exact k237
  replace k260 : hK h280 b224 = 8 := by rw [e281]; exact k260
  replace k267 : hK h280 b263 = 5 := by rw [e281]; exact k267
  replace k274 : hK h280 q269 = 1000 := by rw [e281]; exact k274
  refine x_dup (pc' := 366) (dX1_init 208 rfl rfl) rfl rfl ?_
  refine x_iconst (pc' := 367) (v := 2) (dX1_init 209 rfl rfl) (by decide) rfl ?_
  refine x_iconst (pc' := 368) (v := -1) (dX1_init 210 rfl rfl) (by decide) rfl ?_
  obtain ⟨n286, hf⟩ := hf
  obtain ⟨i283, hf⟩ := hf
  refine x_iast (pc' := 369) (dX1_init 211 rfl rfl) rfl k274 (Or.inr ⟨n286, by decide⟩) i283 (fun h284 e285 => ?_)
  replace hf := hf h284 e285
  replace k5 : hK h284 q1 = 2 := by rw [e285]; exact k5
  replace k8 : hK h284 a0 = 1 := by rw [e285]; exact k8
  replace k14 : hK h284 q10 = 3 := by rw [e285]; exact k14
  replace k22 : hK h284 q18 = 5 := by rw [e285]; exact k22
  replace k30 : hK h284 q26 = 8 := by rw [e285]; exact k30
  replace k37 : hK h284 b35 = 5 := by rw [e285]; exact k37
  replace k47 : hK h284 q43 = 9 := by rw [e285]; exact k47
  replace k55 : hK h284 q51 = 10 := by rw [e285]; exact k55
  replace k69 : hK h284 q65 = 11 := by rw [e285]; exact k69
  replace k79 : hK h284 q75 = 12 := by rw [e285]; exact k79
  replace k92 : hK h284 q87 = 1001 := by rw [e285]; exact k92
  replace k99 : hK h284 q95 = 6 := by rw [e285]; exact k99
  replace k107 : hK h284 q103 = 6 := by rw [e285]; exact k107
  replace k115 : hK h284 q111 = 6 := by rw [e285]; exact k115
  replace k124 : hK h284 q119 = 1000 := by rw [e285]; exact k124
  replace k131 : hK h284 q126 = 1000 := by rw [e285]; exact k131
  replace k139 : hK h284 b135 = 5 := by rw [e285]; exact k139
  replace k146 : hK h284 q141 = 1000 := by rw [e285]; exact k146
  replace k161 : hK h284 b133 = 8 := by rw [e285]; exact k161
  replace k168 : hK h284 b164 = 5 := by rw [e285]; exact k168
  replace k175 : hK h284 q170 = 1000 := by rw [e285]; exact k175
  replace k194 : hK h284 b162 = 8 := by rw [e285]; exact k194
  replace k201 : hK h284 b197 = 5 := by rw [e285]; exact k201
  replace k208 : hK h284 q203 = 1000 := by rw [e285]; exact k208
  replace k223 : hK h284 b195 = 8 := by rw [e285]; exact k223
  replace k230 : hK h284 b226 = 5 := by rw [e285]; exact k230
  replace k237 : hK h284 q232 = 1000 := by rw [e285]; exact k237
  replace k260 : hK h284 b224 = 8 := by rw [e285]; exact k260
  replace k267 : hK h284 b263 = 5 := by rw [e285]; exact k267
  replace k274 : hK h284 q269 = 1000 := by rw [e285]; exact k274
  refine x_dup (pc' := 370) (dX1_init 212 rfl rfl) rfl rfl ?_
  refine x_iconst (pc' := 371) (v := 3) (dX1_init 213 rfl rfl) (by decide) rfl ?_
  refine x_bipush (pc' := 373) (v := -2) (dX1_init 214 rfl rfl) (by decide) rfl ?_
  obtain ⟨n290, hf⟩ := hf
  obtain ⟨i287, hf⟩ := hf
  refine x_iast (pc' := 374) (dX1_init 215 rfl rfl) rfl k274 (Or.inr ⟨n290, by decide⟩) i287 (fun h288 e289 => ?_)
  replace hf := hf h288 e289
  replace k5 : hK h288 q1 = 2 := by rw [e289]; exact k5
  replace k8 : hK h288 a0 = 1 := by rw [e289]; exact k8
  replace k14 : hK h288 q10 = 3 := by rw [e289]; exact k14
  replace k22 : hK h288 q18 = 5 := by rw [e289]; exact k22
  replace k30 : hK h288 q26 = 8 := by rw [e289]; exact k30
  replace k37 : hK h288 b35 = 5 := by rw [e289]; exact k37
  replace k47 : hK h288 q43 = 9 := by rw [e289]; exact k47
  replace k55 : hK h288 q51 = 10 := by rw [e289]; exact k55
  replace k69 : hK h288 q65 = 11 := by rw [e289]; exact k69
  replace k79 : hK h288 q75 = 12 := by rw [e289]; exact k79
  replace k92 : hK h288 q87 = 1001 := by rw [e289]; exact k92
  replace k99 : hK h288 q95 = 6 := by rw [e289]; exact k99
  replace k107 : hK h288 q103 = 6 := by rw [e289]; exact k107
  replace k115 : hK h288 q111 = 6 := by rw [e289]; exact k115
  replace k124 : hK h288 q119 = 1000 := by rw [e289]; exact k124
  replace k131 : hK h288 q126 = 1000 := by rw [e289]; exact k131
  replace k139 : hK h288 b135 = 5 := by rw [e289]; exact k139
  replace k146 : hK h288 q141 = 1000 := by rw [e289]; exact k146
  replace k161 : hK h288 b133 = 8 := by rw [e289]; exact k161
  replace k168 : hK h288 b164 = 5 := by rw [e289]; exact k168
  replace k175 : hK h288 q170 = 1000 := by rw [e289]; exact k175
  replace k194 : hK h288 b162 = 8 := by rw [e289]; exact k194
  replace k201 : hK h288 b197 = 5 := by rw [e289]; exact k201
  replace k208 : hK h288 q203 = 1000 := by rw [e289]; exact k208
  replace k223 : hK h288 b195 = 8 := by rw [e289]; exact k223
  replace k230 : hK h288 b226 = 5 := by rw [e289]; exact k230
  replace k237 : hK h288 q232 = 1000 := by rw [e289]; exact k237
  replace k260 : hK h288 b224 = 8 := by rw [e289]; exact k260
  replace k267 : hK h288 b263 = 5 := by rw [e289]; exact k267
  replace k274 : hK h288 q269 = 1000 := by rw [e289]; exact k274
  refine x_dup (pc' := 375) (dX1_init 216 rfl rfl) rfl rfl ?_
  refine x_iconst (pc' := 376) (v := 4) (dX1_init 217 rfl rfl) (by decide) rfl ?_
  refine x_bipush (pc' := 378) (v := -2) (dX1_init 218 rfl rfl) (by decide) rfl ?_
  obtain ⟨n294, hf⟩ := hf
  obtain ⟨i291, hf⟩ := hf
  refine x_iast (pc' := 379) (dX1_init 219 rfl rfl) rfl k274 (Or.inr ⟨n294, by decide⟩) i291 (fun h292 e293 => ?_)
  replace hf := hf h292 e293
  replace k5 : hK h292 q1 = 2 := by rw [e293]; exact k5
  replace k8 : hK h292 a0 = 1 := by rw [e293]; exact k8
  replace k14 : hK h292 q10 = 3 := by rw [e293]; exact k14
  replace k22 : hK h292 q18 = 5 := by rw [e293]; exact k22
  replace k30 : hK h292 q26 = 8 := by rw [e293]; exact k30
  replace k37 : hK h292 b35 = 5 := by rw [e293]; exact k37
  replace k47 : hK h292 q43 = 9 := by rw [e293]; exact k47
  replace k55 : hK h292 q51 = 10 := by rw [e293]; exact k55
  replace k69 : hK h292 q65 = 11 := by rw [e293]; exact k69
  replace k79 : hK h292 q75 = 12 := by rw [e293]; exact k79
  replace k92 : hK h292 q87 = 1001 := by rw [e293]; exact k92
  replace k99 : hK h292 q95 = 6 := by rw [e293]; exact k99
  replace k107 : hK h292 q103 = 6 := by rw [e293]; exact k107
  replace k115 : hK h292 q111 = 6 := by rw [e293]; exact k115
  replace k124 : hK h292 q119 = 1000 := by rw [e293]; exact k124
  replace k131 : hK h292 q126 = 1000 := by rw [e293]; exact k131
  replace k139 : hK h292 b135 = 5 := by rw [e293]; exact k139
  replace k146 : hK h292 q141 = 1000 := by rw [e293]; exact k146
  replace k161 : hK h292 b133 = 8 := by rw [e293]; exact k161
  replace k168 : hK h292 b164 = 5 := by rw [e293]; exact k168
  replace k175 : hK h292 q170 = 1000 := by rw [e293]; exact k175
  replace k194 : hK h292 b162 = 8 := by rw [e293]; exact k194
  replace k201 : hK h292 b197 = 5 := by rw [e293]; exact k201
  replace k208 : hK h292 q203 = 1000 := by rw [e293]; exact k208
  replace k223 : hK h292 b195 = 8 := by rw [e293]; exact k223
  replace k230 : hK h292 b226 = 5 := by rw [e293]; exact k230
  replace k237 : hK h292 q232 = 1000 := by rw [e293]; exact k237
  replace k260 : hK h292 b224 = 8 := by rw [e293]; exact k260
  replace k267 : hK h292 b263 = 5 := by rw [e293]; exact k267
  replace k274 : hK h292 q269 = 1000 := by rw [e293]; exact k274
  obtain ⟨k297, hf⟩ := hf
  refine x_inv (pc' := 382) (ν := mX9_builtIn) (av := [_, _, _, _]) (st := []) rfl rfl (dX1_init 220 rfl rfl) (Nat.le_of_ble_eq_true rfl) wX9_builtIn q223 (inv_V (k := 7) (dX1_init 220 rfl rfl) q907 q908 q909 wX9_builtIn (by decide) lX9_builtIn (by decide) k297) (exN (by decide)) rfl ?_
  refine C.mono hf (fun _ _ => KV.g (fun h295 hf le296 => ?_))
  have k5 := leK le296 k5 (by decide)
  have k8 := leK le296 k8 (by decide)
  have k14 := leK le296 k14 (by decide)
  have k22 := leK le296 k22 (by decide)
  have k30 := leK le296 k30 (by decide)
  have k37 := leK le296 k37 (by decide)
  have k47 := leK le296 k47 (by decide)
  have k55 := leK le296 k55 (by decide)
  have k69 := leK le296 k69 (by decide)
  have k79 := leK le296 k79 (by decide)
  have k92 := leK le296 k92 (by decide)
  have k99 := leK le296 k99 (by decide)
  have k107 := leK le296 k107 (by decide)
  have k115 := leK le296 k115 (by decide)
  have k124 := leK le296 k124 (by decide)
  have k131 := leK le296 k131 (by decide)
  have k139 := leK le296 k139 (by decide)
  have k146 := leK le296 k146 (by decide)
  have k161 := leK le296 k161 (by decide)
  have k168 := leK le296 k168 (by decide)
  have k175 := leK le296 k175 (by decide)
  have k194 := leK le296 k194 (by decide)
  have k201 := leK le296 k201 (by decide)
  have k208 := leK le296 k208 (by decide)
  have k223 := leK le296 k223 (by decide)
  have k230 := leK le296 k230 (by decide)
  have k237 := leK le296 k237 (by decide)
  have k260 := leK le296 k260 (by decide)
  have k267 := leK le296 k267 (by decide)
  have k274 := leK le296 k274 (by decide)
  have k297 := leK le296 k297 (by decide)
  refine x_aload_n (pc' := 383) 0 (dX1_init 221 rfl rfl) rfl rfl rfl ?_
  refine x_aload_n (pc' := 384) 0 (dX1_init 222 rfl rfl) rfl rfl rfl ?_
  obtain ⟨b298, e299, hf⟩ := hf
  refine x_getR (pc' := 387) (dX1_init 223 rfl rfl) g1 q959 (Or.inl rfl) rfl (hf_of 0 k8 rfl (by decide) m0_1) e299 ?_
  obtain ⟨k300, hf⟩ := hf
  refine x_getI (pc' := 390) (dX1_init 224 rfl rfl) g41 q490 (Or.inl rfl) rfl (hf_of 2 k300 rfl (by decide) m2_41) ?_
  refine x_putI (pc' := 393) (dX1_init 225 rfl rfl) g20 q978 (Or.inl rfl) (Or.inl rfl) (Or.inr rfl) rfl (hf_of 0 k8 rfl (by decide) m0_20) (fun h301 e302 => ?_)
  replace hf := hf h301 e302
  replace k5 : hK h301 q1 = 2 := by rw [e302]; exact k5
  replace k8 : hK h301 a0 = 1 := by rw [e302]; exact k8
  replace k14 : hK h301 q10 = 3 := by rw [e302]; exact k14
  replace k22 : hK h301 q18 = 5 := by rw [e302]; exact k22
  replace k30 : hK h301 q26 = 8 := by rw [e302]; exact k30
  replace k37 : hK h301 b35 = 5 := by rw [e302]; exact k37
  replace k47 : hK h301 q43 = 9 := by rw [e302]; exact k47
  replace k55 : hK h301 q51 = 10 := by rw [e302]; exact k55
  replace k69 : hK h301 q65 = 11 := by rw [e302]; exact k69
  replace k79 : hK h301 q75 = 12 := by rw [e302]; exact k79
  replace k92 : hK h301 q87 = 1001 := by rw [e302]; exact k92
  replace k99 : hK h301 q95 = 6 := by rw [e302]; exact k99
  replace k107 : hK h301 q103 = 6 := by rw [e302]; exact k107
  replace k115 : hK h301 q111 = 6 := by rw [e302]; exact k115
  replace k124 : hK h301 q119 = 1000 := by rw [e302]; exact k124
  replace k131 : hK h301 q126 = 1000 := by rw [e302]; exact k131
  replace k139 : hK h301 b135 = 5 := by rw [e302]; exact k139
  replace k146 : hK h301 q141 = 1000 := by rw [e302]; exact k146
  replace k161 : hK h301 b133 = 8 := by rw [e302]; exact k161
  replace k168 : hK h301 b164 = 5 := by rw [e302]; exact k168
  replace k175 : hK h301 q170 = 1000 := by rw [e302]; exact k175
  replace k194 : hK h301 b162 = 8 := by rw [e302]; exact k194
  replace k201 : hK h301 b197 = 5 := by rw [e302]; exact k201
  replace k208 : hK h301 q203 = 1000 := by rw [e302]; exact k208
  replace k223 : hK h301 b195 = 8 := by rw [e302]; exact k223
  replace k230 : hK h301 b226 = 5 := by rw [e302]; exact k230
  replace k237 : hK h301 q232 = 1000 := by rw [e302]; exact k237
  replace k260 : hK h301 b224 = 8 := by rw [e302]; exact k260
  replace k267 : hK h301 b263 = 5 := by rw [e302]; exact k267
  replace k274 : hK h301 q269 = 1000 := by rw [e302]; exact k274
  replace k297 : hK h301 b261 = 8 := by rw [e302]; exact k297
  replace k300 : hK h301 b298 = 3 := by rw [e302]; exact k300
  exact x_vret (dX1_init 226 rfl rfl) rfl hf
theorem bX1_clear (G : Gh) (d : Nat) (h : AH) (Q : Outcome → AH → Prop)  (s0 : So 0 (gW G) h) (s2 : So 2 (gW G) h) (s3 : So 3 (gW G) h) (s4 : So 4 (gW G) h) (s8 : So 8 (gW G) h) (hf : ∀ h1, h1 = pI h (gW G 0) 9 0 → (∀ h2, h2 = pI h1 (gW G 0) 10 0 → (∀ h3, h3 = pI h2 (gW G 0) 11 ((-1)) → (∀ h4, h4 = pR h3 (gW G 0) 12 none → (∀ h5, h5 = pI h4 (gW G 0) 19 0 → (∀ h6, h6 = pI h5 (gW G 8) 120 0 → (C G mX9_clear d [.ref (gW G 4)] h6 (KV Q (fun h7 => C G mX6_clear d [.ref (gW G 3)] h7 (KV Q (fun h9 => ∀ h11, h11 = pI h9 (gW G 0) 20 12 → (C G mX3_back d [.ref (gW G 2), .int (fI h11 (gW G 0) 20)] h11 (KV Q (fun h12 => Q (.returned none) h12)))))))))))))) : C G mX1_clear (d + 1) [.ref (gW G 0)] h Q := by
  refine C.of_X (by decide +kernel) (Nat.le_of_ble_eq_true rfl) wX1_clear ?_
  show X G mX1_clear (d + 1) none [] 0 [(0, .ref (gW G 0))] [] h Q
  refine x_aload_n (pc' := 1) 0 (dX1_clear 0 rfl rfl) rfl rfl rfl ?_
  refine x_iconst (pc' := 2) (v := 0) (dX1_clear 1 rfl rfl) (by decide) rfl ?_
  refine x_putI (pc' := 5) (dX1_clear 2 rfl rfl) g9 q967 (Or.inl rfl) (Or.inl rfl) (Or.inl (by decide)) rfl (hf_of 0 s0.1 rfl (by decide) m0_9) (fun h1 e20 => ?_)
  replace hf := hf h1 e20
  replace s0 : So 0 (gW G) h1 := by rw [e20]; exact s0.le sc0 (pI_le (Or.inl rfl))
  replace s2 : So 2 (gW G) h1 := by rw [e20]; exact s2.le sc2 (pI_le (Or.inl rfl))
  replace s3 : So 3 (gW G) h1 := by rw [e20]; exact s3.le sc3 (pI_le (Or.inl rfl))
  replace s4 : So 4 (gW G) h1 := by rw [e20]; exact s4.le sc4 (pI_le (Or.inl rfl))
  replace s8 : So 8 (gW G) h1 := by rw [e20]; exact s8.le sc8 (pI_le (Or.inl rfl))
  refine x_aload_n (pc' := 6) 0 (dX1_clear 3 rfl rfl) rfl rfl rfl ?_
  refine x_iconst (pc' := 7) (v := 0) (dX1_clear 4 rfl rfl) (by decide) rfl ?_
  refine x_putI (pc' := 10) (dX1_clear 5 rfl rfl) g10 q968 (Or.inl rfl) (Or.inl rfl) (Or.inl (by decide)) rfl (hf_of 0 s0.1 rfl (by decide) m0_10) (fun h2 e19 => ?_)
  replace hf := hf h2 e19
  replace s0 : So 0 (gW G) h2 := by rw [e19]; exact s0.le sc0 (pI_le (Or.inl rfl))
  replace s2 : So 2 (gW G) h2 := by rw [e19]; exact s2.le sc2 (pI_le (Or.inl rfl))
  replace s3 : So 3 (gW G) h2 := by rw [e19]; exact s3.le sc3 (pI_le (Or.inl rfl))
  replace s4 : So 4 (gW G) h2 := by rw [e19]; exact s4.le sc4 (pI_le (Or.inl rfl))
  replace s8 : So 8 (gW G) h2 := by rw [e19]; exact s8.le sc8 (pI_le (Or.inl rfl))
  refine x_aload_n (pc' := 11) 0 (dX1_clear 6 rfl rfl) rfl rfl rfl ?_
  refine x_iconst (pc' := 12) (v := -1) (dX1_clear 7 rfl rfl) (by decide) rfl ?_
  refine x_putI (pc' := 15) (dX1_clear 8 rfl rfl) g11 q969 (Or.inl rfl) (Or.inl rfl) (Or.inl (by decide)) rfl (hf_of 0 s0.1 rfl (by decide) m0_11) (fun h3 e18 => ?_)
  replace hf := hf h3 e18
  replace s0 : So 0 (gW G) h3 := by rw [e18]; exact s0.le sc0 (pI_le (Or.inl rfl))
  replace s2 : So 2 (gW G) h3 := by rw [e18]; exact s2.le sc2 (pI_le (Or.inl rfl))
  replace s3 : So 3 (gW G) h3 := by rw [e18]; exact s3.le sc3 (pI_le (Or.inl rfl))
  replace s4 : So 4 (gW G) h3 := by rw [e18]; exact s4.le sc4 (pI_le (Or.inl rfl))
  replace s8 : So 8 (gW G) h3 := by rw [e18]; exact s8.le sc8 (pI_le (Or.inl rfl))
  refine x_aload_n (pc' := 16) 0 (dX1_clear 9 rfl rfl) rfl rfl rfl ?_
  refine x_null (pc' := 17) (dX1_clear 10 rfl rfl) rfl ?_
  refine x_putN (pc' := 20) (dX1_clear 11 rfl rfl) g12 q970 (Or.inl rfl) (Or.inl rfl) (Or.inl (by decide)) rfl (hf_of 0 s0.1 rfl (by decide) m0_12) (fun h4 e17 => ?_)
  replace hf := hf h4 e17
  replace s0 : So 0 (gW G) h4 := by rw [e17]; exact s0.le sc0 (pR_le (Or.inl rfl))
  replace s2 : So 2 (gW G) h4 := by rw [e17]; exact s2.le sc2 (pR_le (Or.inl rfl))
  replace s3 : So 3 (gW G) h4 := by rw [e17]; exact s3.le sc3 (pR_le (Or.inl rfl))
  replace s4 : So 4 (gW G) h4 := by rw [e17]; exact s4.le sc4 (pR_le (Or.inl rfl))
  replace s8 : So 8 (gW G) h4 := by rw [e17]; exact s8.le sc8 (pR_le (Or.inl rfl))
  refine x_aload_n (pc' := 21) 0 (dX1_clear 12 rfl rfl) rfl rfl rfl ?_
  refine x_iconst (pc' := 22) (v := 0) (dX1_clear 13 rfl rfl) (by decide) rfl ?_
  refine x_putI (pc' := 25) (dX1_clear 14 rfl rfl) g19 q977 (Or.inl rfl) (Or.inl rfl) (Or.inl (by decide)) rfl (hf_of 0 s0.1 rfl (by decide) m0_19) (fun h5 e16 => ?_)
  replace hf := hf h5 e16
  replace s0 : So 0 (gW G) h5 := by rw [e16]; exact s0.le sc0 (pI_le (Or.inl rfl))
  replace s2 : So 2 (gW G) h5 := by rw [e16]; exact s2.le sc2 (pI_le (Or.inl rfl))
  replace s3 : So 3 (gW G) h5 := by rw [e16]; exact s3.le sc3 (pI_le (Or.inl rfl))
  replace s4 : So 4 (gW G) h5 := by rw [e16]; exact s4.le sc4 (pI_le (Or.inl rfl))
  replace s8 : So 8 (gW G) h5 := by rw [e16]; exact s8.le sc8 (pI_le (Or.inl rfl))
  refine x_aload_n (pc' := 26) 0 (dX1_clear 15 rfl rfl) rfl rfl rfl ?_
  refine x_getR (pc' := 29) (dX1_clear 16 rfl rfl) g7 q965 (Or.inl rfl) rfl (hf_of 0 s0.1 rfl (by decide) m0_7) (s0.2 7 _ rfl rfl).1 ?_
  refine x_iconst (pc' := 30) (v := 0) (dX1_clear 17 rfl rfl) (by decide) rfl ?_
  refine x_putI (pc' := 33) (dX1_clear 18 rfl rfl) g120 q882 (Or.inl rfl) (Or.inl rfl) (Or.inl (by decide)) rfl (hf_of 11 s8.1 rfl (by decide) m11_120) (fun h6 e15 => ?_)
  replace hf := hf h6 e15
  replace s0 : So 0 (gW G) h6 := by rw [e15]; exact s0.le sc0 (pI_le (Or.inl rfl))
  replace s2 : So 2 (gW G) h6 := by rw [e15]; exact s2.le sc2 (pI_le (Or.inl rfl))
  replace s3 : So 3 (gW G) h6 := by rw [e15]; exact s3.le sc3 (pI_le (Or.inl rfl))
  replace s4 : So 4 (gW G) h6 := by rw [e15]; exact s4.le sc4 (pI_le (Or.inl rfl))
  replace s8 : So 8 (gW G) h6 := by rw [e15]; exact s8.le sc8 (pI_le (Or.inl rfl))
  refine x_aload_n (pc' := 34) 0 (dX1_clear 19 rfl rfl) rfl rfl rfl ?_
  refine x_getR (pc' := 37) (dX1_clear 20 rfl rfl) g3 q961 (Or.inl rfl) rfl (hf_of 0 s0.1 rfl (by decide) m0_3) (s0.2 3 _ rfl rfl).1 ?_
  refine x_inv (pc' := 40) (ν := mX9_clear) (av := [_]) (st := []) rfl rfl (dX1_clear 21 rfl rfl) (Nat.le_of_ble_eq_true rfl) wX9_clear q223 (inv_V (k := 7) (dX1_clear 21 rfl rfl) q1026 q1027 q1028 wX9_clear (by decide) lX9_clear (by decide) s4.1) (exN (by decide)) rfl ?_
  refine C.mono hf (fun _ _ => KV.g (fun h7 hf le8 => ?_))
  replace s0 := s0.le sc0 (le8)
  replace s2 := s2.le sc2 (le8)
  replace s3 := s3.le sc3 (le8)
  replace s4 := s4.le sc4 (le8)
  replace s8 := s8.le sc8 (le8)
  refine x_aload_n (pc' := 41) 0 (dX1_clear 22 rfl rfl) rfl rfl rfl ?_
  refine x_getR (pc' := 44) (dX1_clear 23 rfl rfl) g2 q960 (Or.inl rfl) rfl (hf_of 0 s0.1 rfl (by decide) m0_2) (s0.2 2 _ rfl rfl).1 ?_
  refine x_inv (pc' := 47) (ν := mX6_clear) (av := [_]) (st := []) rfl rfl (dX1_clear 24 rfl rfl) (Nat.le_of_ble_eq_true rfl) wX6_clear q220 (inv_V (k := 4) (dX1_clear 24 rfl rfl) q1030 q586 q587 wX6_clear (by decide) lX6_clear (by decide) s3.1) (exN (by decide)) rfl ?_
  refine C.mono hf (fun _ _ => KV.g (fun h9 hf le10 => ?_))
  replace s0 := s0.le sc0 (le10)
  replace s2 := s2.le sc2 (le10)
  replace s3 := s3.le sc3 (le10)
  replace s4 := s4.le sc4 (le10)
  replace s8 := s8.le sc8 (le10)
  refine x_aload_n (pc' := 48) 0 (dX1_clear 25 rfl rfl) rfl rfl rfl ?_
  refine x_bipush (pc' := 50) (v := 12) (dX1_clear 26 rfl rfl) (by decide) rfl ?_
  refine x_putI (pc' := 53) (dX1_clear 27 rfl rfl) g20 q978 (Or.inl rfl) (Or.inl rfl) (Or.inl (by decide)) rfl (hf_of 0 s0.1 rfl (by decide) m0_20) (fun h11 e14 => ?_)
  replace hf := hf h11 e14
  replace s0 : So 0 (gW G) h11 := by rw [e14]; exact s0.le sc0 (pI_le (Or.inl rfl))
  replace s2 : So 2 (gW G) h11 := by rw [e14]; exact s2.le sc2 (pI_le (Or.inl rfl))
  replace s3 : So 3 (gW G) h11 := by rw [e14]; exact s3.le sc3 (pI_le (Or.inl rfl))
  replace s4 : So 4 (gW G) h11 := by rw [e14]; exact s4.le sc4 (pI_le (Or.inl rfl))
  replace s8 : So 8 (gW G) h11 := by rw [e14]; exact s8.le sc8 (pI_le (Or.inl rfl))
  refine x_aload_n (pc' := 54) 0 (dX1_clear 28 rfl rfl) rfl rfl rfl ?_
  refine x_getR (pc' := 57) (dX1_clear 29 rfl rfl) g1 q959 (Or.inl rfl) rfl (hf_of 0 s0.1 rfl (by decide) m0_1) (s0.2 1 _ rfl rfl).1 ?_
  refine x_aload_n (pc' := 58) 0 (dX1_clear 30 rfl rfl) rfl rfl rfl ?_
  refine x_getI (pc' := 61) (dX1_clear 31 rfl rfl) g20 q978 (Or.inl rfl) rfl (hf_of 0 s0.1 rfl (by decide) m0_20) ?_
  refine x_inv (pc' := 64) (ν := mX3_back) (av := [_, _]) (st := []) rfl rfl (dX1_clear 32 rfl rfl) (Nat.le_of_ble_eq_true rfl) wX3_back q213 (inv_V (k := 2) (dX1_clear 32 rfl rfl) q1031 q1032 q1033 wX3_back (by decide) lX3_back (by decide) s2.1) (exN (by decide)) rfl ?_
  refine C.mono hf (fun _ _ => KV.g (fun h12 hf le13 => ?_))
  replace s0 := s0.le sc0 (le13)
  replace s2 := s2.le sc2 (le13)
  replace s3 := s3.le sc3 (le13)
  replace s4 := s4.le sc4 (le13)
  replace s8 := s8.le sc8 (le13)
  exact x_vret (dX1_clear 33 rfl rfl) rfl hf
theorem bX1_count (G : Gh) (d : Nat) (h : AH) (Q : Outcome → AH → Prop) (p1 : Int32) (s0 : So 0 (gW G) h) (s3 : So 3 (gW G) h) (s4 : So 4 (gW G) h) (hf : (p1 = 0 → (Q (.returned (some (.int (fI h (gW G 0) 9)))) h)) ∧ (p1 = 1 → (Q (.returned (some (.int (fI h (gW G 0) 10)))) h)) ∧ (p1 = 2 → (Q (.returned (some (.int (fI h (gW G 0) 11)))) h)) ∧ (p1 = 3 → (Q (.returned (some (.int (fI h (gW G 0) 19)))) h)) ∧ (p1 = 4 → (Q (.returned (some (.int (fI h (gW G 1087) 78)))) h)) ∧ (p1 = 5 → (Q (.returned (some (.int (fI h (gW G 3) 70)))) h)) ∧ (p1 = 6 → (Q (.returned (some (.int (fI h (gW G 3) 71)))) h)) ∧ (p1 = 7 → (OC (fR h (gW G 0) 12) (Q (.returned (some (.int 0))) h) (fun b2 => Q (.returned (some (.int 1))) h))) ∧ (p1 = 8 → (Q (.returned (some (.int (fI h (gW G 3) 76)))) h)) ∧ (¬ p1 = 0 ∧ ¬ p1 = 1 ∧ ¬ p1 = 2 ∧ ¬ p1 = 3 ∧ ¬ p1 = 4 ∧ ¬ p1 = 5 ∧ ¬ p1 = 6 ∧ ¬ p1 = 7 ∧ ¬ p1 = 8 → (Q (.returned (some (.int ((-1))))) h))) : C G mX1_count d [.ref (gW G 0), .int (p1)] h Q := by
  refine C.of_X (by decide +kernel) (Nat.le_of_ble_eq_true rfl) wX1_count ?_
  show X G mX1_count d none [] 0 [(0, .ref (gW G 0)), (1, .int (p1))] [] h Q
  refine x_iload_n (pc' := 1) 1 (dX1_count 0 rfl rfl) rfl rfl rfl ?_
  by_cases c10 : p1 = 0
  · replace hf := hf.1 c10
    refine x_ts (v := 0) (tgt := 52) (swX1_count_1) (by rw [c10]; decide) (by decide) (by decide) (by decide) ?_
    refine x_aload_n (pc' := 53) 0 (dX1_count 2 rfl rfl) rfl rfl rfl ?_
    refine x_getI (pc' := 56) (dX1_count 3 rfl rfl) g9 q967 (Or.inl rfl) rfl (hf_of 0 s0.1 rfl (by decide) m0_9) ?_
    exact x_iret (dX1_count 4 rfl rfl) rfl hf
  by_cases c11 : p1 = 1
  · replace hf := hf.2.1 c11
    refine x_ts (v := 1) (tgt := 57) (swX1_count_1) (by rw [c11]; decide) (by decide) (by decide) (by decide) ?_
    refine x_aload_n (pc' := 58) 0 (dX1_count 5 rfl rfl) rfl rfl rfl ?_
    refine x_getI (pc' := 61) (dX1_count 6 rfl rfl) g10 q968 (Or.inl rfl) rfl (hf_of 0 s0.1 rfl (by decide) m0_10) ?_
    exact x_iret (dX1_count 7 rfl rfl) rfl hf
  by_cases c12 : p1 = 2
  · replace hf := hf.2.2.1 c12
    refine x_ts (v := 2) (tgt := 62) (swX1_count_1) (by rw [c12]; decide) (by decide) (by decide) (by decide) ?_
    refine x_aload_n (pc' := 63) 0 (dX1_count 8 rfl rfl) rfl rfl rfl ?_
    refine x_getI (pc' := 66) (dX1_count 9 rfl rfl) g11 q969 (Or.inl rfl) rfl (hf_of 0 s0.1 rfl (by decide) m0_11) ?_
    exact x_iret (dX1_count 10 rfl rfl) rfl hf
  by_cases c13 : p1 = 3
  · replace hf := hf.2.2.2.1 c13
    refine x_ts (v := 3) (tgt := 67) (swX1_count_1) (by rw [c13]; decide) (by decide) (by decide) (by decide) ?_
    refine x_aload_n (pc' := 68) 0 (dX1_count 11 rfl rfl) rfl rfl rfl ?_
    refine x_getI (pc' := 71) (dX1_count 12 rfl rfl) g19 q977 (Or.inl rfl) rfl (hf_of 0 s0.1 rfl (by decide) m0_19) ?_
    exact x_iret (dX1_count 13 rfl rfl) rfl hf
  by_cases c14 : p1 = 4
  · replace hf := hf.2.2.2.2.1 c14
    refine x_ts (v := 4) (tgt := 72) (swX1_count_1) (by rw [c14]; decide) (by decide) (by decide) (by decide) ?_
    refine x_aload_n (pc' := 73) 0 (dX1_count 14 rfl rfl) rfl rfl rfl ?_
    refine x_getR (pc' := 76) (dX1_count 15 rfl rfl) g3 q961 (Or.inl rfl) rfl (hf_of 0 s0.1 rfl (by decide) m0_3) (s0.2 3 _ rfl rfl).1 ?_
    refine x_getR (pc' := 79) (dX1_count 16 rfl rfl) g87 q698 (Or.inl rfl) rfl (hf_of 7 s4.1 rfl (by decide) m7_87) (s4.2 4 _ rfl rfl).1 ?_
    refine x_getI (pc' := 82) (dX1_count 17 rfl rfl) g78 q576 (Or.inl rfl) rfl (hf_of 5 (s4.2 4 _ rfl rfl).2.1 rfl (by decide) m5_78) ?_
    exact x_iret (dX1_count 18 rfl rfl) rfl hf
  by_cases c15 : p1 = 5
  · replace hf := hf.2.2.2.2.2.1 c15
    refine x_ts (v := 5) (tgt := 83) (swX1_count_1) (by rw [c15]; decide) (by decide) (by decide) (by decide) ?_
    refine x_aload_n (pc' := 84) 0 (dX1_count 19 rfl rfl) rfl rfl rfl ?_
    refine x_getR (pc' := 87) (dX1_count 20 rfl rfl) g2 q960 (Or.inl rfl) rfl (hf_of 0 s0.1 rfl (by decide) m0_2) (s0.2 2 _ rfl rfl).1 ?_
    refine x_getI (pc' := 90) (dX1_count 21 rfl rfl) g70 q620 (Or.inl rfl) rfl (hf_of 4 s3.1 rfl (by decide) m4_70) ?_
    exact x_iret (dX1_count 22 rfl rfl) rfl hf
  by_cases c16 : p1 = 6
  · replace hf := hf.2.2.2.2.2.2.1 c16
    refine x_ts (v := 6) (tgt := 91) (swX1_count_1) (by rw [c16]; decide) (by decide) (by decide) (by decide) ?_
    refine x_aload_n (pc' := 92) 0 (dX1_count 23 rfl rfl) rfl rfl rfl ?_
    refine x_getR (pc' := 95) (dX1_count 24 rfl rfl) g2 q960 (Or.inl rfl) rfl (hf_of 0 s0.1 rfl (by decide) m0_2) (s0.2 2 _ rfl rfl).1 ?_
    refine x_getI (pc' := 98) (dX1_count 25 rfl rfl) g71 q622 (Or.inl rfl) rfl (hf_of 4 s3.1 rfl (by decide) m4_71) ?_
    exact x_iret (dX1_count 26 rfl rfl) rfl hf
  by_cases c17 : p1 = 7
  · replace hf := hf.2.2.2.2.2.2.2.1 c17
    refine x_ts (v := 7) (tgt := 99) (swX1_count_1) (by rw [c17]; decide) (by decide) (by decide) (by decide) ?_
    refine x_aload_n (pc' := 100) 0 (dX1_count 27 rfl rfl) rfl rfl rfl ?_
    obtain ⟨ho0, ho1⟩ := hf
    rcases hr : fR _ (gW G 0) 12 with _ | b2
    · replace hf := ho0 hr
      refine x_getN (pc' := 103) (dX1_count 28 rfl rfl) g12 q970 (Or.inl rfl) rfl (hf_of 0 s0.1 rfl (by decide) m0_12) hr ?_
      refine x_ifnullN (tgt := 110) (dX1_count 29 rfl rfl) (by decide) ?_
      refine x_iconst (pc' := 111) (v := 0) (dX1_count 32 rfl rfl) (by decide) rfl ?_
      exact x_iret (dX1_count 33 rfl rfl) rfl hf
    · replace hf := ho1 _ hr
      refine x_getR (pc' := 103) (dX1_count 28 rfl rfl) g12 q970 (Or.inl rfl) rfl (hf_of 0 s0.1 rfl (by decide) m0_12) hr ?_
      refine x_ifnull (pc' := 106) (dX1_count 29 rfl rfl) rfl ?_
      refine x_iconst (pc' := 107) (v := 1) (dX1_count 30 rfl rfl) (by decide) rfl ?_
      refine x_goto (tgt := 111) (dX1_count 31 rfl rfl) (by decide) ?_
      exact x_iret (dX1_count 33 rfl rfl) rfl hf
  by_cases c18 : p1 = 8
  · replace hf := hf.2.2.2.2.2.2.2.2.1 c18
    refine x_ts (v := 8) (tgt := 112) (swX1_count_1) (by rw [c18]; decide) (by decide) (by decide) (by decide) ?_
    refine x_aload_n (pc' := 113) 0 (dX1_count 34 rfl rfl) rfl rfl rfl ?_
    refine x_getR (pc' := 116) (dX1_count 35 rfl rfl) g2 q960 (Or.inl rfl) rfl (hf_of 0 s0.1 rfl (by decide) m0_2) (s0.2 2 _ rfl rfl).1 ?_
    refine x_getI (pc' := 119) (dX1_count 36 rfl rfl) g76 q628 (Or.inl rfl) rfl (hf_of 4 s3.1 rfl (by decide) m4_76) ?_
    exact x_iret (dX1_count 37 rfl rfl) rfl hf
  replace hf := hf.2.2.2.2.2.2.2.2.2 ⟨c10, c11, c12, c13, c14, c15, c16, c17, c18⟩
  refine x_td (vs := [0, 1, 2, 3, 4, 5, 6, 7, 8]) (tgt := 120) (swX1_count_1) ?_ (by decide) (by decide) (by decide) ?_
  · intro v hv
    simp only [List.mem_cons, List.not_mem_nil, or_false] at hv
    rcases hv with rfl | rfl | rfl | rfl | rfl | rfl | rfl | rfl | rfl
    · exact i32_ne (by decide) c10
    · exact i32_ne (by decide) c11
    · exact i32_ne (by decide) c12
    · exact i32_ne (by decide) c13
    · exact i32_ne (by decide) c14
    · exact i32_ne (by decide) c15
    · exact i32_ne (by decide) c16
    · exact i32_ne (by decide) c17
    · exact i32_ne (by decide) c18
  · refine x_iconst (pc' := 121) (v := -1) (dX1_count 38 rfl rfl) (by decide) rfl ?_
    exact x_iret (dX1_count 39 rfl rfl) rfl hf
theorem bX1_feed (G : Gh) (d : Nat) (h : AH) (Q : Outcome → AH → Prop) (p1 : Int32) (p2 : Int32) (p3 : Int32) (p4 : Int32) (p5 : Int32) (s0 : So 0 (gW G) h) (hf : (((fI h (gW G 0) 9) + 20) ≤ 4096 → (C G mX1_word d [.ref (gW G 0), .int (p1)] h (KV Q (fun h2 => C G mX1_word d [.ref (gW G 0), .int (p2)] h2 (KV Q (fun h4 => C G mX1_word d [.ref (gW G 0), .int (p3)] h4 (KV Q (fun h6 => C G mX1_word d [.ref (gW G 0), .int (p4)] h6 (KV Q (fun h8 => C G mX1_word d [.ref (gW G 0), .int (p5)] h8 (KV Q (fun h10 => Q (.returned (some (.int (fI h10 (gW G 0) 9)))) h10)))))))))))) ∧ (¬ (((fI h (gW G 0) 9) + 20) ≤ 4096) → ((hc h + 1 ≤ MC) ∧ (hs h + 6 ≤ MS) ∧ ∀ q12, hK h q12 = 0 → ∀ h14, h14 = nO h q12 14 → (C G mJ7_init d [.ref (q12)] h14 (KV Q (fun h17 => Q (.threw q12) h17)))))) : C G mX1_feed (d + 1) [.ref (gW G 0), .int (p1), .int (p2), .int (p3), .int (p4), .int (p5)] h Q := by
  refine C.of_X (by decide +kernel) (Nat.le_of_ble_eq_true rfl) wX1_feed ?_
  show X G mX1_feed (d + 1) none [] 0 [(0, .ref (gW G 0)), (1, .int (p1)), (2, .int (p2)), (3, .int (p3)), (4, .int (p4)), (5, .int (p5))] [] h Q
  refine x_aload_n (pc' := 1) 0 (dX1_feed 0 rfl rfl) rfl rfl rfl ?_
  refine x_getI (pc' := 4) (dX1_feed 1 rfl rfl) g9 q967 (Or.inl rfl) rfl (hf_of 0 s0.1 rfl (by decide) m0_9) ?_
  refine x_bipush (pc' := 6) (v := 20) (dX1_feed 2 rfl rfl) (by decide) rfl ?_
  refine x_iadd (pc' := 7) (dX1_feed 3 rfl rfl) rfl ?_
  refine x_sipush (pc' := 10) (v := 4096) (dX1_feed 4 rfl rfl) (by decide) rfl ?_
  refine x_icmp_le (pc' := 13) (tgt := 21) (dX1_feed 5 rfl rfl) (by decide) rfl (fun c1 => ?_) (fun c1 => ?_)
  · replace hf := hf.1 c1
    refine x_aload_n (pc' := 22) 0 (dX1_feed 10 rfl rfl) rfl rfl rfl ?_
    refine x_iload_n (pc' := 23) 1 (dX1_feed 11 rfl rfl) rfl rfl rfl ?_
    refine x_inv (pc' := 26) (ν := mX1_word) (av := [_, _]) (st := []) rfl rfl (dX1_feed 12 rfl rfl) (Nat.le_of_ble_eq_true rfl) wX1_word q211 (inv_V (k := 0) (dX1_feed 12 rfl rfl) q1112 q1114 qs3 wX1_word (by decide) lX1_word (by decide) s0.1) (exN (by decide)) rfl ?_
    refine C.mono hf (fun _ _ => KV.g (fun h2 hf le3 => ?_))
    replace s0 := s0.le sc0 (le3)
    refine x_aload_n (pc' := 27) 0 (dX1_feed 13 rfl rfl) rfl rfl rfl ?_
    refine x_iload_n (pc' := 28) 2 (dX1_feed 14 rfl rfl) rfl rfl rfl ?_
    refine x_inv (pc' := 31) (ν := mX1_word) (av := [_, _]) (st := []) rfl rfl (dX1_feed 15 rfl rfl) (Nat.le_of_ble_eq_true rfl) wX1_word q211 (inv_V (k := 0) (dX1_feed 15 rfl rfl) q1112 q1114 qs3 wX1_word (by decide) lX1_word (by decide) s0.1) (exN (by decide)) rfl ?_
    refine C.mono hf (fun _ _ => KV.g (fun h4 hf le5 => ?_))
    replace s0 := s0.le sc0 (le5)
    refine x_aload_n (pc' := 32) 0 (dX1_feed 16 rfl rfl) rfl rfl rfl ?_
    refine x_iload_n (pc' := 33) 3 (dX1_feed 17 rfl rfl) rfl rfl rfl ?_
    refine x_inv (pc' := 36) (ν := mX1_word) (av := [_, _]) (st := []) rfl rfl (dX1_feed 18 rfl rfl) (Nat.le_of_ble_eq_true rfl) wX1_word q211 (inv_V (k := 0) (dX1_feed 18 rfl rfl) q1112 q1114 qs3 wX1_word (by decide) lX1_word (by decide) s0.1) (exN (by decide)) rfl ?_
    refine C.mono hf (fun _ _ => KV.g (fun h6 hf le7 => ?_))
    replace s0 := s0.le sc0 (le7)
    refine x_aload_n (pc' := 37) 0 (dX1_feed 19 rfl rfl) rfl rfl rfl ?_
    refine x_iload (pc' := 39) 4 (dX1_feed 20 rfl rfl) rfl rfl ?_
    refine x_inv (pc' := 42) (ν := mX1_word) (av := [_, _]) (st := []) rfl rfl (dX1_feed 21 rfl rfl) (Nat.le_of_ble_eq_true rfl) wX1_word q211 (inv_V (k := 0) (dX1_feed 21 rfl rfl) q1112 q1114 qs3 wX1_word (by decide) lX1_word (by decide) s0.1) (exN (by decide)) rfl ?_
    refine C.mono hf (fun _ _ => KV.g (fun h8 hf le9 => ?_))
    replace s0 := s0.le sc0 (le9)
    refine x_aload_n (pc' := 43) 0 (dX1_feed 22 rfl rfl) rfl rfl rfl ?_
    refine x_iload (pc' := 45) 5 (dX1_feed 23 rfl rfl) rfl rfl ?_
    refine x_inv (pc' := 48) (ν := mX1_word) (av := [_, _]) (st := []) rfl rfl (dX1_feed 24 rfl rfl) (Nat.le_of_ble_eq_true rfl) wX1_word q211 (inv_V (k := 0) (dX1_feed 24 rfl rfl) q1112 q1114 qs3 wX1_word (by decide) lX1_word (by decide) s0.1) (exN (by decide)) rfl ?_
    refine C.mono hf (fun _ _ => KV.g (fun h10 hf le11 => ?_))
    replace s0 := s0.le sc0 (le11)
    refine x_aload_n (pc' := 49) 0 (dX1_feed 25 rfl rfl) rfl rfl rfl ?_
    refine x_getI (pc' := 52) (dX1_feed 26 rfl rfl) g9 q967 (Or.inl rfl) rfl (hf_of 0 s0.1 rfl (by decide) m0_9) ?_
    exact x_iret (dX1_feed 27 rfl rfl) rfl hf
  · replace hf := hf.2 c1
    obtain ⟨n1, n2, hf⟩ := hf
    refine x_new (pc' := 16) (k := 14) (dX1_feed 6 rfl rfl) q1047 (by decide) rfl (by decide) n1 n2 (fun q12 h14 k13 e15 => ?_)
    replace hf := hf q12 k13 h14 e15
    replace s0 : So 0 (gW G) h14 := by rw [e15]; exact s0.le sc0 (nO_le k13)
    have k16 : hK h14 q12 = 15 := by rw [e15]; exact kNOs
    refine x_dup (pc' := 17) (dX1_feed 7 rfl rfl) rfl rfl ?_
    refine x_inv (pc' := 20) (ν := mJ7_init) (av := [_]) (st := [_]) rfl rfl (dX1_feed 8 rfl rfl) (Nat.le_of_ble_eq_true rfl) wJ7_init q233 (inv_I (dX1_feed 8 rfl rfl) q1090 q1091 q1092 rfl (by decide) lJ7_init) (fun b hb => by exact Or.inl (by have e : some _ = some b := hb; cases e; simp)) rfl ?_
    refine C.mono hf (fun _ _ => KV.g (fun h17 hf le18 => ?_))
    replace s0 := s0.leX sc0 le18 k16 (by decide)
    have k16 := leK le18 k16 (by decide)
    exact x_athrow (dX1_feed 9 rfl rfl) rfl hf
theorem bX1_word (G : Gh) (d : Nat) (h : AH) (Q : Outcome → AH → Prop) (p1 : Int32) (hf : X G mX1_word d none [] 3 [(0, .ref (gW G 0)), (1, .int (p1)), (2, .int (24))] [] h Q) : C G mX1_word d [.ref (gW G 0), .int (p1)] h Q := by
  refine C.of_X (by decide +kernel) (Nat.le_of_ble_eq_true rfl) wX1_word ?_
  show X G mX1_word d none [] 0 [(0, .ref (gW G 0)), (1, .int (p1))] [] h Q
  refine x_bipush (pc' := 2) (v := 24) (dX1_word 0 rfl rfl) (by decide) rfl ?_
  refine x_istore_n (pc' := 3) (dX1_word 1 rfl rfl) rfl (by decide) rfl rfl ?_
  exact X.sub [1, 2, 0] rfl (by simp) hf
theorem bX1_word_3 (G : Gh) (d : Nat) (h : AH) (Q : Outcome → AH → Prop) (l1 : Int32) (l2 : Int32) (s0 : So 0 (gW G) h) (hf : (l2 < 0 → (Q (.returned none) h)) ∧ (¬ (l2 < 0) → (vp_in (fI h (gW G 0) 9) 4096 ∧ ∀ h3, h3 = sI h (gW G 1008) (fI h (gW G 0) 9).toNatClampNeg (vp_nar .byte (((l1.toUInt32 >>> (l2.toUInt32 &&& Int32.toUInt32 31)).toInt32 : Int32).toInt8.toInt32)) → (∀ h5, h5 = pI h3 (gW G 0) 9 ((fI h3 (gW G 0) 9) + 1) → (∀ x6 : Int32, x6 = l2 + (-8) → (X G mX1_word d none [] 3 [(0, .ref (gW G 0)), (1, .int (l1)), (2, .int (x6))] [] h5 Q)))))) : X G mX1_word d none [] 3 [(0, .ref (gW G 0)), (1, .int (l1)), (2, .int (l2))] [] h Q := by
  refine x_iload_n (pc' := 4) 2 (dX1_word 2 rfl rfl) rfl rfl rfl ?_
  refine x_if_lt (pc' := 7) (tgt := 36) (dX1_word 3 rfl rfl) (by decide) rfl (fun c1 => ?_) (fun c1 => ?_)
  · replace hf := hf.1 c1
    exact x_vret (dX1_word 21 rfl rfl) rfl hf
  · replace hf := hf.2 c1
    refine x_aload_n (pc' := 8) 0 (dX1_word 4 rfl rfl) rfl rfl rfl ?_
    refine x_getR (pc' := 11) (dX1_word 5 rfl rfl) g8 q966 (Or.inl rfl) rfl (hf_of 0 s0.1 rfl (by decide) m0_8) (s0.2 8 _ rfl rfl).1 ?_
    refine x_aload_n (pc' := 12) 0 (dX1_word 6 rfl rfl) rfl rfl rfl ?_
    refine x_getI (pc' := 15) (dX1_word 7 rfl rfl) g9 q967 (Or.inl rfl) rfl (hf_of 0 s0.1 rfl (by decide) m0_9) ?_
    refine x_iload_n (pc' := 16) 1 (dX1_word 8 rfl rfl) rfl rfl rfl ?_
    refine x_iload_n (pc' := 17) 2 (dX1_word 9 rfl rfl) rfl rfl rfl ?_
    refine x_iushr (pc' := 18) (dX1_word 10 rfl rfl) rfl ?_
    refine x_i2b (pc' := 19) (dX1_word 11 rfl rfl) rfl ?_
    obtain ⟨i2, hf⟩ := hf
    refine x_bast (pc' := 20) (dX1_word 12 rfl rfl) rfl (s0.2 8 _ rfl rfl).2.1 (Or.inl ⟨8, by decide, rfl, by decide⟩) (by rw [(s0.2 8 _ rfl rfl).2.2.2 (by decide)]; exact i2) (fun h3 e4 => ?_)
    replace hf := hf h3 e4
    replace s0 : So 0 (gW G) h3 := by rw [e4]; exact s0.le sc0 (sI_le )
    refine x_aload_n (pc' := 21) 0 (dX1_word 13 rfl rfl) rfl rfl rfl ?_
    refine x_dup (pc' := 22) (dX1_word 14 rfl rfl) rfl rfl ?_
    refine x_getI (pc' := 25) (dX1_word 15 rfl rfl) g9 q967 (Or.inl rfl) rfl (hf_of 0 s0.1 rfl (by decide) m0_9) ?_
    refine x_iconst (pc' := 26) (v := 1) (dX1_word 16 rfl rfl) (by decide) rfl ?_
    refine x_iadd (pc' := 27) (dX1_word 17 rfl rfl) rfl ?_
    refine x_putI (pc' := 30) (dX1_word 18 rfl rfl) g9 q967 (Or.inl rfl) (Or.inl rfl) (Or.inl (by decide)) rfl (hf_of 0 s0.1 rfl (by decide) m0_9) (fun h5 e7 => ?_)
    replace hf := hf h5 e7
    replace s0 : So 0 (gW G) h5 := by rw [e7]; exact s0.le sc0 (pI_le (Or.inl rfl))
    replace hf := hf _ rfl
    refine x_iinc (pc' := 33) 2 (dX1_word 19 rfl rfl) rfl (by rfl) (by decide) rfl rfl ?_
    refine x_goto (tgt := 3) (dX1_word 20 rfl rfl) (by decide) ?_
    exact X.sub [1, 2, 0] rfl (by simp) hf
theorem bX1_end (G : Gh) (d : Nat) (h : AH) (Q : Outcome → AH → Prop) (p1 : Int32) (s0 : So 0 (gW G) h) (hf : (p1 < 0 → (C G mX1_check d [.int (0)] h (KV Q (fun h2 => ∀ h4, h4 = pI h2 (gW G 0) 9 ((fI h2 (gW G 0) 9) - p1) → (Q (.returned (some (.int (fI h4 (gW G 0) 9)))) h4))))) ∧ (¬ (p1 < 0) → (((fI h (gW G 0) 9) < p1 → (C G mX1_check d [.int (0)] h (KV Q (fun h7 => ∀ h9, h9 = pI h7 (gW G 0) 9 ((fI h7 (gW G 0) 9) - p1) → (Q (.returned (some (.int (fI h9 (gW G 0) 9)))) h9))))) ∧ (¬ ((fI h (gW G 0) 9) < p1) → (C G mX1_check d [.int (1)] h (KV Q (fun h11 => ∀ h13, h13 = pI h11 (gW G 0) 9 ((fI h11 (gW G 0) 9) - p1) → (Q (.returned (some (.int (fI h13 (gW G 0) 9)))) h13)))))))) : C G mX1_end (d + 1) [.ref (gW G 0), .int (p1)] h Q := by
  refine C.of_X (by decide +kernel) (Nat.le_of_ble_eq_true rfl) wX1_end ?_
  show X G mX1_end (d + 1) none [] 0 [(0, .ref (gW G 0)), (1, .int (p1))] [] h Q
  refine x_iload_n (pc' := 1) 1 (dX1_end 0 rfl rfl) rfl rfl rfl ?_
  refine x_if_lt (pc' := 4) (tgt := 16) (dX1_end 1 rfl rfl) (by decide) rfl (fun c1 => ?_) (fun c1 => ?_)
  · replace hf := hf.1 c1
    refine x_iconst (pc' := 17) (v := 0) (dX1_end 8 rfl rfl) (by decide) rfl ?_
    refine x_inv (pc' := 20) (ν := mX1_check) (av := [_]) (st := []) rfl rfl (dX1_end 9 rfl rfl) (Nat.le_of_ble_eq_true rfl) wX1_check q211 (inv_S (dX1_end 9 rfl rfl) q1124 q1125 q211 wX1_check (by decide) lX1_check) (exN (by decide)) rfl ?_
    refine C.mono hf (fun _ _ => KV.g (fun h2 hf le3 => ?_))
    replace s0 := s0.le sc0 (le3)
    refine x_aload_n (pc' := 21) 0 (dX1_end 10 rfl rfl) rfl rfl rfl ?_
    refine x_dup (pc' := 22) (dX1_end 11 rfl rfl) rfl rfl ?_
    refine x_getI (pc' := 25) (dX1_end 12 rfl rfl) g9 q967 (Or.inl rfl) rfl (hf_of 0 s0.1 rfl (by decide) m0_9) ?_
    refine x_iload_n (pc' := 26) 1 (dX1_end 13 rfl rfl) rfl rfl rfl ?_
    refine x_isub (pc' := 27) (dX1_end 14 rfl rfl) rfl ?_
    refine x_putI (pc' := 30) (dX1_end 15 rfl rfl) g9 q967 (Or.inl rfl) (Or.inl rfl) (Or.inl (by decide)) rfl (hf_of 0 s0.1 rfl (by decide) m0_9) (fun h4 e5 => ?_)
    replace hf := hf h4 e5
    replace s0 : So 0 (gW G) h4 := by rw [e5]; exact s0.le sc0 (pI_le (Or.inl rfl))
    refine x_aload_n (pc' := 31) 0 (dX1_end 16 rfl rfl) rfl rfl rfl ?_
    refine x_getI (pc' := 34) (dX1_end 17 rfl rfl) g9 q967 (Or.inl rfl) rfl (hf_of 0 s0.1 rfl (by decide) m0_9) ?_
    exact x_iret (dX1_end 18 rfl rfl) rfl hf
  · replace hf := hf.2 c1
    refine x_iload_n (pc' := 5) 1 (dX1_end 2 rfl rfl) rfl rfl rfl ?_
    refine x_aload_n (pc' := 6) 0 (dX1_end 3 rfl rfl) rfl rfl rfl ?_
    refine x_getI (pc' := 9) (dX1_end 4 rfl rfl) g9 q967 (Or.inl rfl) rfl (hf_of 0 s0.1 rfl (by decide) m0_9) ?_
    refine x_icmp_gt (pc' := 12) (tgt := 16) (dX1_end 5 rfl rfl) (by decide) rfl (fun c6 => ?_) (fun c6 => ?_)
    · replace hf := hf.1 c6
      refine x_iconst (pc' := 17) (v := 0) (dX1_end 8 rfl rfl) (by decide) rfl ?_
      refine x_inv (pc' := 20) (ν := mX1_check) (av := [_]) (st := []) rfl rfl (dX1_end 9 rfl rfl) (Nat.le_of_ble_eq_true rfl) wX1_check q211 (inv_S (dX1_end 9 rfl rfl) q1124 q1125 q211 wX1_check (by decide) lX1_check) (exN (by decide)) rfl ?_
      refine C.mono hf (fun _ _ => KV.g (fun h7 hf le8 => ?_))
      replace s0 := s0.le sc0 (le8)
      refine x_aload_n (pc' := 21) 0 (dX1_end 10 rfl rfl) rfl rfl rfl ?_
      refine x_dup (pc' := 22) (dX1_end 11 rfl rfl) rfl rfl ?_
      refine x_getI (pc' := 25) (dX1_end 12 rfl rfl) g9 q967 (Or.inl rfl) rfl (hf_of 0 s0.1 rfl (by decide) m0_9) ?_
      refine x_iload_n (pc' := 26) 1 (dX1_end 13 rfl rfl) rfl rfl rfl ?_
      refine x_isub (pc' := 27) (dX1_end 14 rfl rfl) rfl ?_
      refine x_putI (pc' := 30) (dX1_end 15 rfl rfl) g9 q967 (Or.inl rfl) (Or.inl rfl) (Or.inl (by decide)) rfl (hf_of 0 s0.1 rfl (by decide) m0_9) (fun h9 e10 => ?_)
      replace hf := hf h9 e10
      replace s0 : So 0 (gW G) h9 := by rw [e10]; exact s0.le sc0 (pI_le (Or.inl rfl))
      refine x_aload_n (pc' := 31) 0 (dX1_end 16 rfl rfl) rfl rfl rfl ?_
      refine x_getI (pc' := 34) (dX1_end 17 rfl rfl) g9 q967 (Or.inl rfl) rfl (hf_of 0 s0.1 rfl (by decide) m0_9) ?_
      exact x_iret (dX1_end 18 rfl rfl) rfl hf
    · replace hf := hf.2 c6
      refine x_iconst (pc' := 13) (v := 1) (dX1_end 6 rfl rfl) (by decide) rfl ?_
      refine x_goto (tgt := 17) (dX1_end 7 rfl rfl) (by decide) ?_
      refine x_inv (pc' := 20) (ν := mX1_check) (av := [_]) (st := []) rfl rfl (dX1_end 9 rfl rfl) (Nat.le_of_ble_eq_true rfl) wX1_check q211 (inv_S (dX1_end 9 rfl rfl) q1124 q1125 q211 wX1_check (by decide) lX1_check) (exN (by decide)) rfl ?_
      refine C.mono hf (fun _ _ => KV.g (fun h11 hf le12 => ?_))
      replace s0 := s0.le sc0 (le12)
      refine x_aload_n (pc' := 21) 0 (dX1_end 10 rfl rfl) rfl rfl rfl ?_
      refine x_dup (pc' := 22) (dX1_end 11 rfl rfl) rfl rfl ?_
      refine x_getI (pc' := 25) (dX1_end 12 rfl rfl) g9 q967 (Or.inl rfl) rfl (hf_of 0 s0.1 rfl (by decide) m0_9) ?_
      refine x_iload_n (pc' := 26) 1 (dX1_end 13 rfl rfl) rfl rfl rfl ?_
      refine x_isub (pc' := 27) (dX1_end 14 rfl rfl) rfl ?_
      refine x_putI (pc' := 30) (dX1_end 15 rfl rfl) g9 q967 (Or.inl rfl) (Or.inl rfl) (Or.inl (by decide)) rfl (hf_of 0 s0.1 rfl (by decide) m0_9) (fun h13 e14 => ?_)
      replace hf := hf h13 e14
      replace s0 : So 0 (gW G) h13 := by rw [e14]; exact s0.le sc0 (pI_le (Or.inl rfl))
      refine x_aload_n (pc' := 31) 0 (dX1_end 16 rfl rfl) rfl rfl rfl ?_
      refine x_getI (pc' := 34) (dX1_end 17 rfl rfl) g9 q967 (Or.inl rfl) rfl (hf_of 0 s0.1 rfl (by decide) m0_9) ?_
      exact x_iret (dX1_end 18 rfl rfl) rfl hf
theorem bX1_check (G : Gh) (d : Nat) (h : AH) (Q : Outcome → AH → Prop) (p0 : Int32) (hf : (p0 = 0 → ((hc h + 1 ≤ MC) ∧ (hs h + 6 ≤ MS) ∧ ∀ q2, hK h q2 = 0 → ∀ h4, h4 = nO h q2 15 → (C G mJ8_init d [.ref (q2)] h4 (KV Q (fun h7 => Q (.threw q2) h7))))) ∧ (¬ p0 = 0 → (Q (.returned none) h))) : C G mX1_check (d + 1) [.int (p0)] h Q := by
  refine C.of_X (by decide +kernel) (Nat.le_of_ble_eq_true rfl) wX1_check ?_
  show X G mX1_check (d + 1) none [] 0 [(0, .int (p0))] [] h Q
  refine x_iload_n (pc' := 1) 0 (dX1_check 0 rfl rfl) rfl rfl rfl ?_
  refine x_if_ne (pc' := 4) (tgt := 12) (dX1_check 1 rfl rfl) (by decide) rfl (fun c1 => ?_) (fun c1 => ?_)
  · replace hf := hf.2 c1
    exact x_vret (dX1_check 6 rfl rfl) rfl hf
  · replace hf := hf.1 (Classical.not_not.mp c1)
    replace c1 := Classical.not_not.mp c1
    obtain ⟨n1, n2, hf⟩ := hf
    refine x_new (pc' := 7) (k := 15) (dX1_check 2 rfl rfl) q1127 (by decide) rfl (by decide) n1 n2 (fun q2 h4 k3 e5 => ?_)
    replace hf := hf q2 k3 h4 e5
    have k6 : hK h4 q2 = 16 := by rw [e5]; exact kNOs
    refine x_dup (pc' := 8) (dX1_check 3 rfl rfl) rfl rfl ?_
    refine x_inv (pc' := 11) (ν := mJ8_init) (av := [_]) (st := [_]) rfl rfl (dX1_check 4 rfl rfl) (Nat.le_of_ble_eq_true rfl) wJ8_init q234 (inv_I (dX1_check 4 rfl rfl) q1136 q1137 q1138 rfl (by decide) lJ8_init) (fun b hb => by exact Or.inl (by have e : some _ = some b := hb; cases e; simp)) rfl ?_
    refine C.mono hf (fun _ _ => KV.g (fun h7 hf le8 => ?_))
    have k6 := leK le8 k6 (by decide)
    exact x_athrow (dX1_check 5 rfl rfl) rfl hf
theorem bX1_build (G : Gh) (d : Nat) (h : AH) (Q : Outcome → AH → Prop)  (s0 : So 0 (gW G) h) (s2 : So 2 (gW G) h) (s4 : So 4 (gW G) h) (s5 : So 5 (gW G) h) (s6 : So 6 (gW G) h) (s7 : So 7 (gW G) h) (hf : C G mX1_cut d [.ref (gW G 0)] h (KV Q (fun h1 => C G mX3_back d [.ref (gW G 2), .int (fI h1 (gW G 0) 20)] h1 (KV Q (fun h3 => C G mX10_begin d [.ref (gW G 5)] h3 (KV Q (fun h5 => C G mX9_begin d [.ref (gW G 4)] h5 (KV Q (fun h7 => ∀ h9, h9 = pI h7 (gW G 6) 112 0 → ((hc h9 + 1 ≤ MC) ∧ (hs h9 + 4 ≤ MS) ∧ ∀ q10, hK h9 q10 = 0 → ∀ h12, h12 = nO h9 q10 16 → (C G mX12_read d [.ref (gW G 7)] h12 (KX (KR Q (fun b17 h15 => C G mX17_init d [.ref (q10), .int (0), .ref (b17), .null] h15 (KX (KV Q (fun h18 => C G mX17_resolve d [.ref (q10), .ref (gW G 4)] h18 (KX (KV Q (fun h20 => ((fI h20 (gW G 4) 91) = 0 → (C G mX1_inferred d [.ref (gW G 0), .ref (q10)] h20 (KX (KV Q (fun h23 => C G mX1_keep d [.ref (gW G 0), .ref (q10)] h23 (KX (KV Q (fun h25 => OC (fR h25 (gW G 0) 12) (False) (fun b27 => hK h25 b27 = 17 ∧ (∃ b30, fR h25 b27 298 = some b30 ∧ (hK h25 b30 = 6 ∧ (Q (.returned (some (.int (fI h25 b30 78)))) h25)))))) (fun a33 h25 => (hK h25 a33 = 18 ∧ X G mX1_build (d + 1) none [] 107 [(0, .ref (gW G 0))] [.ref (a33)] h25 Q))))) (fun a35 h23 => (hK h23 a35 = 18 ∧ X G mX1_build (d + 1) none [] 107 [(0, .ref (gW G 0))] [.ref (a35)] h23 Q))))) ∧ (¬ ((fI h20 (gW G 4) 91) = 0) → ((hc h20 + 1 ≤ MC) ∧ (hs h20 + 8 ≤ MS) ∧ ∀ q37, hK h20 q37 = 0 → ∀ h39, h39 = nO h20 q37 17 → (C G mX18_init d [.ref (q37), .int (fI h39 (gW G 4) 91), .int (fI h39 (gW G 4) 92)] h39 (KX (KV Q (fun h42 => (hK h42 q37 = 18 ∧ X G mX1_build (d + 1) none [] 107 [(0, .ref (gW G 0))] [.ref (q37)] h42 Q))) (fun a45 h42 => (hK h42 a45 = 18 ∧ X G mX1_build (d + 1) none [] 107 [(0, .ref (gW G 0))] [.ref (a45)] h42 Q)))))))) (fun a47 h20 => (hK h20 a47 = 18 ∧ X G mX1_build (d + 1) none [] 107 [(0, .ref (gW G 0))] [.ref (a47)] h20 Q))))) (fun a49 h18 => (hK h18 a49 = 18 ∧ X G mX1_build (d + 1) none [] 107 [(0, .ref (gW G 0))] [.ref (a49)] h18 Q))))) (fun a51 h15 => (hK h15 a51 = 18 ∧ X G mX1_build (d + 1) none [] 107 [(0, .ref (gW G 0))] [.ref (a51)] h15 Q)))))))))))))) : C G mX1_build (d + 1) [.ref (gW G 0)] h Q := by
  refine C.of_X (by decide +kernel) (Nat.le_of_ble_eq_true rfl) wX1_build ?_
  show X G mX1_build (d + 1) none [] 0 [(0, .ref (gW G 0))] [] h Q
  refine x_aload_n (pc' := 1) 0 (dX1_build 0 rfl rfl) rfl rfl rfl ?_
  refine x_inv (pc' := 4) (ν := mX1_cut) (av := [_]) (st := []) rfl rfl (dX1_build 1 rfl rfl) (Nat.le_of_ble_eq_true rfl) wX1_cut q211 (inv_V (k := 0) (dX1_build 1 rfl rfl) q1151 q1153 qs4 wX1_cut (by decide) lX1_cut (by decide) s0.1) (exN (by decide)) rfl ?_
  refine C.mono hf (fun _ _ => KV.g (fun h1 hf le2 => ?_))
  replace s0 := s0.le sc0 (le2)
  replace s2 := s2.le sc2 (le2)
  replace s4 := s4.le sc4 (le2)
  replace s5 := s5.le sc5 (le2)
  replace s6 := s6.le sc6 (le2)
  replace s7 := s7.le sc7 (le2)
  refine x_aload_n (pc' := 5) 0 (dX1_build 2 rfl rfl) rfl rfl rfl ?_
  refine x_getR (pc' := 8) (dX1_build 3 rfl rfl) g1 q959 (Or.inl rfl) rfl (hf_of 0 s0.1 rfl (by decide) m0_1) (s0.2 1 _ rfl rfl).1 ?_
  refine x_aload_n (pc' := 9) 0 (dX1_build 4 rfl rfl) rfl rfl rfl ?_
  refine x_getI (pc' := 12) (dX1_build 5 rfl rfl) g20 q978 (Or.inl rfl) rfl (hf_of 0 s0.1 rfl (by decide) m0_20) ?_
  refine x_inv (pc' := 15) (ν := mX3_back) (av := [_, _]) (st := []) rfl rfl (dX1_build 6 rfl rfl) (Nat.le_of_ble_eq_true rfl) wX3_back q213 (inv_V (k := 2) (dX1_build 6 rfl rfl) q1031 q1032 q1033 wX3_back (by decide) lX3_back (by decide) s2.1) (exN (by decide)) rfl ?_
  refine C.mono hf (fun _ _ => KV.g (fun h3 hf le4 => ?_))
  replace s0 := s0.le sc0 (le4)
  replace s2 := s2.le sc2 (le4)
  replace s4 := s4.le sc4 (le4)
  replace s5 := s5.le sc5 (le4)
  replace s6 := s6.le sc6 (le4)
  replace s7 := s7.le sc7 (le4)
  refine x_aload_n (pc' := 16) 0 (dX1_build 7 rfl rfl) rfl rfl rfl ?_
  refine x_getR (pc' := 19) (dX1_build 8 rfl rfl) g4 q962 (Or.inl rfl) rfl (hf_of 0 s0.1 rfl (by decide) m0_4) (s0.2 4 _ rfl rfl).1 ?_
  refine x_inv (pc' := 22) (ν := mX10_begin) (av := [_]) (st := []) rfl rfl (dX1_build 9 rfl rfl) (Nat.le_of_ble_eq_true rfl) wX10_begin q224 (inv_V (k := 8) (dX1_build 9 rfl rfl) q1261 q1262 q1263 wX10_begin (by decide) lX10_begin (by decide) s5.1) (exN (by decide)) rfl ?_
  refine C.mono hf (fun _ _ => KV.g (fun h5 hf le6 => ?_))
  replace s0 := s0.le sc0 (le6)
  replace s2 := s2.le sc2 (le6)
  replace s4 := s4.le sc4 (le6)
  replace s5 := s5.le sc5 (le6)
  replace s6 := s6.le sc6 (le6)
  replace s7 := s7.le sc7 (le6)
  refine x_aload_n (pc' := 23) 0 (dX1_build 10 rfl rfl) rfl rfl rfl ?_
  refine x_getR (pc' := 26) (dX1_build 11 rfl rfl) g3 q961 (Or.inl rfl) rfl (hf_of 0 s0.1 rfl (by decide) m0_3) (s0.2 3 _ rfl rfl).1 ?_
  refine x_inv (pc' := 29) (ν := mX9_begin) (av := [_]) (st := []) rfl rfl (dX1_build 12 rfl rfl) (Nat.le_of_ble_eq_true rfl) wX9_begin q223 (inv_V (k := 7) (dX1_build 12 rfl rfl) q1265 q1266 q1267 wX9_begin (by decide) lX9_begin (by decide) s4.1) (exN (by decide)) rfl ?_
  refine C.mono hf (fun _ _ => KV.g (fun h7 hf le8 => ?_))
  replace s0 := s0.le sc0 (le8)
  replace s2 := s2.le sc2 (le8)
  replace s4 := s4.le sc4 (le8)
  replace s5 := s5.le sc5 (le8)
  replace s6 := s6.le sc6 (le8)
  replace s7 := s7.le sc7 (le8)
  refine x_aload_n (pc' := 30) 0 (dX1_build 13 rfl rfl) rfl rfl rfl ?_
  refine x_getR (pc' := 33) (dX1_build 14 rfl rfl) g5 q963 (Or.inl rfl) rfl (hf_of 0 s0.1 rfl (by decide) m0_5) (s0.2 5 _ rfl rfl).1 ?_
  refine x_iconst (pc' := 34) (v := 0) (dX1_build 15 rfl rfl) (by decide) rfl ?_
  refine x_putI (pc' := 37) (dX1_build 16 rfl rfl) g112 q837 (Or.inl rfl) (Or.inl rfl) (Or.inl (by decide)) rfl (hf_of 9 s6.1 rfl (by decide) m9_112) (fun h9 e53 => ?_)
  replace hf := hf h9 e53
  replace s0 : So 0 (gW G) h9 := by rw [e53]; exact s0.le sc0 (pI_le (Or.inl rfl))
  replace s2 : So 2 (gW G) h9 := by rw [e53]; exact s2.le sc2 (pI_le (Or.inl rfl))
  replace s4 : So 4 (gW G) h9 := by rw [e53]; exact s4.le sc4 (pI_le (Or.inl rfl))
  replace s5 : So 5 (gW G) h9 := by rw [e53]; exact s5.le sc5 (pI_le (Or.inl rfl))
  replace s6 : So 6 (gW G) h9 := by rw [e53]; exact s6.le sc6 (pI_le (Or.inl rfl))
  replace s7 : So 7 (gW G) h9 := by rw [e53]; exact s7.le sc7 (pI_le (Or.inl rfl))
  obtain ⟨n1, n2, hf⟩ := hf
  refine x_new (pc' := 40) (k := 16) (dX1_build 17 rfl rfl) q1269 (by decide) rfl (by decide) n1 n2 (fun q10 h12 k11 e13 => ?_)
  replace hf := hf q10 k11 h12 e13
  replace s0 : So 0 (gW G) h12 := by rw [e13]; exact s0.le sc0 (nO_le k11)
  replace s2 : So 2 (gW G) h12 := by rw [e13]; exact s2.le sc2 (nO_le k11)
  replace s4 : So 4 (gW G) h12 := by rw [e13]; exact s4.le sc4 (nO_le k11)
  replace s5 : So 5 (gW G) h12 := by rw [e13]; exact s5.le sc5 (nO_le k11)
  replace s6 : So 6 (gW G) h12 := by rw [e13]; exact s6.le sc6 (nO_le k11)
  replace s7 : So 7 (gW G) h12 := by rw [e13]; exact s7.le sc7 (nO_le k11)
  have k14 : hK h12 q10 = 17 := by rw [e13]; exact kNOs
  refine x_dup (pc' := 41) (dX1_build 18 rfl rfl) rfl rfl ?_
  refine x_iconst (pc' := 42) (v := 0) (dX1_build 19 rfl rfl) (by decide) rfl ?_
  refine x_aload_n (pc' := 43) 0 (dX1_build 20 rfl rfl) rfl rfl rfl ?_
  refine x_getR (pc' := 46) (dX1_build 21 rfl rfl) g6 q964 (Or.inl rfl) rfl (hf_of 0 s0.1 rfl (by decide) m0_6) (s0.2 6 _ rfl rfl).1 ?_
  refine x_inv0 (pc' := 49) (ν := mX12_read) (av := [_]) (st := [_, _, _]) rfl (dX1_build 22 rfl rfl) (Nat.le_of_ble_eq_true rfl) wX12_read q226 (inv_V (k := 10) (dX1_build 22 rfl rfl) q1271 q1272 q1273 wX12_read (by decide) lX12_read (by decide) s7.1) (exN (by decide)) rfl ?_
  refine C.kx hf (fun _ _ => KR.g (fun b17 h15 hf le16 => ?_)) (fun a51 h15 hf => ?_)
  · have k14 := leK le16 k14 (by decide)
    replace s0 := s0.le sc0 (le16)
    replace s2 := s2.le sc2 (le16)
    replace s4 := s4.le sc4 (le16)
    replace s5 := s5.le sc5 (le16)
    replace s6 := s6.le sc6 (le16)
    replace s7 := s7.le sc7 (le16)
    refine x_null (pc' := 50) (dX1_build 23 rfl rfl) rfl ?_
    refine x_inv0 (pc' := 53) (ν := mX17_init) (av := [_, _, _, _]) (st := [_]) rfl (dX1_build 24 rfl rfl) (Nat.le_of_ble_eq_true rfl) wX17_init q238 (inv_I (dX1_build 24 rfl rfl) q2023 q1728 q1729 rfl (by decide) lX17_init) (fun b hb => by exact Or.inl (by have e : some _ = some b := hb; cases e; simp)) rfl ?_
    refine C.kx hf (fun _ _ => KV.g (fun h18 hf le19 => ?_)) (fun a49 h18 hf => ?_)
    · replace s0 := s0.leX sc0 le19 k14 (by decide)
      replace s2 := s2.leX sc2 le19 k14 (by decide)
      replace s4 := s4.leX sc4 le19 k14 (by decide)
      replace s5 := s5.leX sc5 le19 k14 (by decide)
      replace s6 := s6.leX sc6 le19 k14 (by decide)
      replace s7 := s7.leX sc7 le19 k14 (by decide)
      have k14 := leK le19 k14 (by decide)
      refine x_astore_n (pc' := 54) (dX1_build 25 rfl rfl) rfl (by decide) rfl rfl ?_
      refine x_aload_n (pc' := 55) 0 (dX1_build 26 rfl rfl) rfl rfl rfl ?_
      refine x_aload_n (pc' := 56) 1 (dX1_build 27 rfl rfl) rfl rfl rfl ?_
      refine x_getR (pc' := 59) (dX1_build 28 rfl rfl) g3 q961 (Or.inl rfl) rfl (hf_of 0 s0.1 rfl (by decide) m0_3) (s0.2 3 _ rfl rfl).1 ?_
      refine x_inv0 (pc' := 62) (ν := mX17_resolve) (av := [_, _]) (st := []) rfl (dX1_build 29 rfl rfl) (Nat.le_of_ble_eq_true rfl) wX17_resolve q238 (inv_V (k := 16) (dX1_build 29 rfl rfl) q2024 q2025 q2026 wX17_resolve (by decide) lX17_resolve (by decide) k14) (exN (by decide)) rfl ?_
      refine C.kx hf (fun _ _ => KV.g (fun h20 hf le21 => ?_)) (fun a47 h20 hf => ?_)
      · have k14 := leK le21 k14 (by decide)
        replace s0 := s0.le sc0 (le21)
        replace s2 := s2.le sc2 (le21)
        replace s4 := s4.le sc4 (le21)
        replace s5 := s5.le sc5 (le21)
        replace s6 := s6.le sc6 (le21)
        replace s7 := s7.le sc7 (le21)
        refine x_aload_n (pc' := 63) 1 (dX1_build 30 rfl rfl) rfl rfl rfl ?_
        refine x_getR (pc' := 66) (dX1_build 31 rfl rfl) g3 q961 (Or.inl rfl) rfl (hf_of 0 s0.1 rfl (by decide) m0_3) (s0.2 3 _ rfl rfl).1 ?_
        refine x_getI (pc' := 69) (dX1_build 32 rfl rfl) g91 q703 (Or.inl rfl) rfl (hf_of 7 s4.1 rfl (by decide) m7_91) ?_
        refine x_if_eq (pc' := 72) (tgt := 94) (dX1_build 33 rfl rfl) (by decide) rfl (fun c22 => ?_) (fun c22 => ?_)
        · replace hf := hf.1 c22
          refine x_aload_n (pc' := 95) 1 (dX1_build 44 rfl rfl) rfl rfl rfl ?_
          refine x_aload_n (pc' := 96) 0 (dX1_build 45 rfl rfl) rfl rfl rfl ?_
          refine x_inv0 (pc' := 99) (ν := mX1_inferred) (av := [_, _]) (st := []) rfl (dX1_build 46 rfl rfl) (Nat.le_of_ble_eq_true rfl) wX1_inferred q211 (inv_V (k := 0) (dX1_build 46 rfl rfl) q2323 q2325 qs38 wX1_inferred (by decide) lX1_inferred (by decide) s0.1) (exN (by decide)) rfl ?_
          refine C.kx hf (fun _ _ => KV.g (fun h23 hf le24 => ?_)) (fun a35 h23 hf => ?_)
          · have k14 := leK le24 k14 (by decide)
            replace s0 := s0.le sc0 (le24)
            replace s2 := s2.le sc2 (le24)
            replace s4 := s4.le sc4 (le24)
            replace s5 := s5.le sc5 (le24)
            replace s6 := s6.le sc6 (le24)
            replace s7 := s7.le sc7 (le24)
            refine x_aload_n (pc' := 100) 1 (dX1_build 47 rfl rfl) rfl rfl rfl ?_
            refine x_aload_n (pc' := 101) 0 (dX1_build 48 rfl rfl) rfl rfl rfl ?_
            refine x_inv0 (pc' := 104) (ν := mX1_keep) (av := [_, _]) (st := []) rfl (dX1_build 49 rfl rfl) (Nat.le_of_ble_eq_true rfl) wX1_keep q211 (inv_V (k := 0) (dX1_build 49 rfl rfl) q2820 q2822 qs54 wX1_keep (by decide) lX1_keep (by decide) s0.1) (exN (by decide)) rfl ?_
            refine C.kx hf (fun _ _ => KV.g (fun h25 hf le26 => ?_)) (fun a33 h25 hf => ?_)
            · have k14 := leK le26 k14 (by decide)
              replace s0 := s0.le sc0 (le26)
              replace s2 := s2.le sc2 (le26)
              replace s4 := s4.le sc4 (le26)
              replace s5 := s5.le sc5 (le26)
              replace s6 := s6.le sc6 (le26)
              replace s7 := s7.le sc7 (le26)
              refine x_goto (tgt := 150) (dX1_build 50 rfl rfl) (by decide) ?_
              refine x_aload_n (pc' := 151) 1 (dX1_build 72 rfl rfl) rfl rfl rfl ?_
              obtain ⟨ho0, ho1⟩ := hf
              rcases hr : fR _ (gW G 0) 12 with _ | b27
              · replace hf := ho0 hr
                refine x_getN (pc' := 154) (dX1_build 73 rfl rfl) g12 q970 (Or.inl rfl) rfl (hf_of 0 s0.1 rfl (by decide) m0_12) hr ?_
                exact hf.elim
              · replace hf := ho1 _ hr
                refine x_getR (pc' := 154) (dX1_build 73 rfl rfl) g12 q970 (Or.inl rfl) rfl (hf_of 0 s0.1 rfl (by decide) m0_12) hr ?_
                obtain ⟨k29, hf⟩ := hf
                obtain ⟨b30, e31, hf⟩ := hf
                refine x_getR (pc' := 157) (dX1_build 74 rfl rfl) g298 q1732 (Or.inl rfl) rfl (hf_of 16 k29 rfl (by decide) m16_298) e31 ?_
                obtain ⟨k32, hf⟩ := hf
                refine x_getI (pc' := 160) (dX1_build 75 rfl rfl) g78 q576 (Or.inl rfl) rfl (hf_of 5 k32 rfl (by decide) m5_78) ?_
                exact x_iret (dX1_build 76 rfl rfl) rfl hf
            · obtain ⟨k34, hf⟩ := hf
              refine XT.caught (pc2 := 107) hokX1_build rfl (Or.inr (Or.inr (Or.inl rfl))) k34 ?_
              exact X.sub [1] rfl (by simp) hf
          · obtain ⟨k36, hf⟩ := hf
            refine XT.caught (pc2 := 107) hokX1_build rfl (Or.inr (Or.inr (Or.inl rfl))) k36 ?_
            exact X.sub [1] rfl (by simp) hf
        · replace hf := hf.2 c22
          obtain ⟨n1, n2, hf⟩ := hf
          refine x_new (pc' := 75) (k := 17) (dX1_build 34 rfl rfl) q1150 (by decide) rfl (by decide) n1 n2 (fun q37 h39 k38 e40 => ?_)
          replace hf := hf q37 k38 h39 e40
          replace k14 : hK h39 q10 = 17 := by rw [e40]; exact kNO k14 (by decide) k38
          replace s0 : So 0 (gW G) h39 := by rw [e40]; exact s0.le sc0 (nO_le k38)
          replace s2 : So 2 (gW G) h39 := by rw [e40]; exact s2.le sc2 (nO_le k38)
          replace s4 : So 4 (gW G) h39 := by rw [e40]; exact s4.le sc4 (nO_le k38)
          replace s5 : So 5 (gW G) h39 := by rw [e40]; exact s5.le sc5 (nO_le k38)
          replace s6 : So 6 (gW G) h39 := by rw [e40]; exact s6.le sc6 (nO_le k38)
          replace s7 : So 7 (gW G) h39 := by rw [e40]; exact s7.le sc7 (nO_le k38)
          have k41 : hK h39 q37 = 18 := by rw [e40]; exact kNOs
          refine x_dup (pc' := 76) (dX1_build 35 rfl rfl) rfl rfl ?_
          refine x_aload_n (pc' := 77) 1 (dX1_build 36 rfl rfl) rfl rfl rfl ?_
          refine x_getR (pc' := 80) (dX1_build 37 rfl rfl) g3 q961 (Or.inl rfl) rfl (hf_of 0 s0.1 rfl (by decide) m0_3) (s0.2 3 _ rfl rfl).1 ?_
          refine x_getI (pc' := 83) (dX1_build 38 rfl rfl) g91 q703 (Or.inl rfl) rfl (hf_of 7 s4.1 rfl (by decide) m7_91) ?_
          refine x_aload_n (pc' := 84) 1 (dX1_build 39 rfl rfl) rfl rfl rfl ?_
          refine x_getR (pc' := 87) (dX1_build 40 rfl rfl) g3 q961 (Or.inl rfl) rfl (hf_of 0 s0.1 rfl (by decide) m0_3) (s0.2 3 _ rfl rfl).1 ?_
          refine x_getI (pc' := 90) (dX1_build 41 rfl rfl) g92 q705 (Or.inl rfl) rfl (hf_of 7 s4.1 rfl (by decide) m7_92) ?_
          refine x_inv0 (pc' := 93) (ν := mX18_init) (av := [_, _, _]) (st := [_]) rfl (dX1_build 42 rfl rfl) (Nat.le_of_ble_eq_true rfl) wX18_init q239 (inv_I (dX1_build 42 rfl rfl) q2322 q1303 q1304 rfl (by decide) lX18_init) (fun b hb => by exact Or.inl (by have e : some _ = some b := hb; cases e; simp)) rfl ?_
          refine C.kx hf (fun _ _ => KV.g (fun h42 hf le43 => ?_)) (fun a45 h42 hf => ?_)
          · replace s0 := s0.leX sc0 le43 k41 (by decide)
            replace s2 := s2.leX sc2 le43 k41 (by decide)
            replace s4 := s4.leX sc4 le43 k41 (by decide)
            replace s5 := s5.leX sc5 le43 k41 (by decide)
            replace s6 := s6.leX sc6 le43 k41 (by decide)
            replace s7 := s7.leX sc7 le43 k41 (by decide)
            have k14 := leK le43 k14 (by decide)
            have k41 := leK le43 k41 (by decide)
            refine x_athrow0 (dX1_build 43 rfl rfl) ?_
            obtain ⟨k44, hf⟩ := hf
            refine XT.caught (pc2 := 107) hokX1_build rfl (Or.inr (Or.inr (Or.inl rfl))) k44 ?_
            exact X.sub [1] rfl (by simp) hf
          · obtain ⟨k46, hf⟩ := hf
            refine XT.caught (pc2 := 107) hokX1_build rfl (Or.inr (Or.inr (Or.inl rfl))) k46 ?_
            exact X.sub [1] rfl (by simp) hf
      · obtain ⟨k48, hf⟩ := hf
        refine XT.caught (pc2 := 107) hokX1_build rfl (Or.inr (Or.inr (Or.inl rfl))) k48 ?_
        exact X.sub [1] rfl (by simp) hf
    · obtain ⟨k50, hf⟩ := hf
      refine XT.caught (pc2 := 107) hokX1_build rfl (Or.inr (Or.inr (Or.inl rfl))) k50 ?_
      exact X.sub [0] rfl (by simp) hf
  · obtain ⟨k52, hf⟩ := hf
    refine XT.caught (pc2 := 107) hokX1_build rfl (Or.inr (Or.inr (Or.inl rfl))) k52 ?_
    exact X.sub [0] rfl (by simp) hf
theorem bX1_build_107 (G : Gh) (d : Nat) (h : AH) (Q : Outcome → AH → Prop) (t0 : Nat) (s0 : So 0 (gW G) h) (s2 : So 2 (gW G) h) (s4 : So 4 (gW G) h) (hf : hK h t0 = 18 ∧ (∀ h2, h2 = pI h (gW G 0) 10 (fI h t0 300) → (∀ h3, h3 = pI h2 (gW G 0) 11 (fI h2 t0 301) → (C G mX3_back d [.ref (gW G 2), .int (fI h3 (gW G 0) 20)] h3 (KV Q (fun h4 => C G mX9_drop d [.ref (gW G 4)] h4 (KV Q (fun h6 => (hc h6 + 1 ≤ MC) ∧ (hs h6 + 6 ≤ MS) ∧ ∀ q8, hK h6 q8 = 0 → ∀ h10, h10 = nO h6 q8 54 → (C G mJ11_init d [.ref (q8)] h10 (KV Q (fun h13 => Q (.threw q8) h13))))))))))) : X G mX1_build (d + 1) none [] 107 [(0, .ref (gW G 0))] [.ref (t0)] h Q := by
  refine x_astore_n (pc' := 108) (dX1_build 51 rfl rfl) rfl (by decide) rfl rfl ?_
  refine x_aload_n (pc' := 109) 1 (dX1_build 52 rfl rfl) rfl rfl rfl ?_
  refine x_aload_n (pc' := 110) 0 (dX1_build 53 rfl rfl) rfl rfl rfl ?_
  obtain ⟨k1, hf⟩ := hf
  refine x_getI (pc' := 113) (dX1_build 54 rfl rfl) g300 q1307 (Or.inl rfl) rfl (hf_of 17 k1 rfl (by decide) m17_300) ?_
  refine x_putI (pc' := 116) (dX1_build 55 rfl rfl) g10 q968 (Or.inl rfl) (Or.inl rfl) (Or.inl (by decide)) rfl (hf_of 0 s0.1 rfl (by decide) m0_10) (fun h2 e16 => ?_)
  replace hf := hf h2 e16
  replace k1 : hK h2 t0 = 18 := by rw [e16]; exact k1
  replace s0 : So 0 (gW G) h2 := by rw [e16]; exact s0.le sc0 (pI_le (Or.inl rfl))
  replace s2 : So 2 (gW G) h2 := by rw [e16]; exact s2.le sc2 (pI_le (Or.inl rfl))
  replace s4 : So 4 (gW G) h2 := by rw [e16]; exact s4.le sc4 (pI_le (Or.inl rfl))
  refine x_aload_n (pc' := 117) 1 (dX1_build 56 rfl rfl) rfl rfl rfl ?_
  refine x_aload_n (pc' := 118) 0 (dX1_build 57 rfl rfl) rfl rfl rfl ?_
  refine x_getI (pc' := 121) (dX1_build 58 rfl rfl) g301 q1309 (Or.inl rfl) rfl (hf_of 17 k1 rfl (by decide) m17_301) ?_
  refine x_putI (pc' := 124) (dX1_build 59 rfl rfl) g11 q969 (Or.inl rfl) (Or.inl rfl) (Or.inl (by decide)) rfl (hf_of 0 s0.1 rfl (by decide) m0_11) (fun h3 e15 => ?_)
  replace hf := hf h3 e15
  replace k1 : hK h3 t0 = 18 := by rw [e15]; exact k1
  replace s0 : So 0 (gW G) h3 := by rw [e15]; exact s0.le sc0 (pI_le (Or.inl rfl))
  replace s2 : So 2 (gW G) h3 := by rw [e15]; exact s2.le sc2 (pI_le (Or.inl rfl))
  replace s4 : So 4 (gW G) h3 := by rw [e15]; exact s4.le sc4 (pI_le (Or.inl rfl))
  refine x_aload_n (pc' := 125) 1 (dX1_build 60 rfl rfl) rfl rfl rfl ?_
  refine x_getR (pc' := 128) (dX1_build 61 rfl rfl) g1 q959 (Or.inl rfl) rfl (hf_of 0 s0.1 rfl (by decide) m0_1) (s0.2 1 _ rfl rfl).1 ?_
  refine x_aload_n (pc' := 129) 1 (dX1_build 62 rfl rfl) rfl rfl rfl ?_
  refine x_getI (pc' := 132) (dX1_build 63 rfl rfl) g20 q978 (Or.inl rfl) rfl (hf_of 0 s0.1 rfl (by decide) m0_20) ?_
  refine x_inv (pc' := 135) (ν := mX3_back) (av := [_, _]) (st := []) rfl rfl (dX1_build 64 rfl rfl) (Nat.le_of_ble_eq_true rfl) wX3_back q213 (inv_V (k := 2) (dX1_build 64 rfl rfl) q1031 q1032 q1033 wX3_back (by decide) lX3_back (by decide) s2.1) (exN (by decide)) rfl ?_
  refine C.mono hf (fun _ _ => KV.g (fun h4 hf le5 => ?_))
  have k1 := leK le5 k1 (by decide)
  replace s0 := s0.le sc0 (le5)
  replace s2 := s2.le sc2 (le5)
  replace s4 := s4.le sc4 (le5)
  refine x_aload_n (pc' := 136) 1 (dX1_build 65 rfl rfl) rfl rfl rfl ?_
  refine x_getR (pc' := 139) (dX1_build 66 rfl rfl) g3 q961 (Or.inl rfl) rfl (hf_of 0 s0.1 rfl (by decide) m0_3) (s0.2 3 _ rfl rfl).1 ?_
  refine x_inv (pc' := 142) (ν := mX9_drop) (av := [_]) (st := []) rfl rfl (dX1_build 67 rfl rfl) (Nat.le_of_ble_eq_true rfl) wX9_drop q223 (inv_V (k := 7) (dX1_build 67 rfl rfl) q2848 q2849 q2850 wX9_drop (by decide) lX9_drop (by decide) s4.1) (exN (by decide)) rfl ?_
  refine C.mono hf (fun _ _ => KV.g (fun h6 hf le7 => ?_))
  have k1 := leK le7 k1 (by decide)
  replace s0 := s0.le sc0 (le7)
  replace s2 := s2.le sc2 (le7)
  replace s4 := s4.le sc4 (le7)
  obtain ⟨n1, n2, hf⟩ := hf
  refine x_new (pc' := 145) (k := 54) (dX1_build 68 rfl rfl) q2853 (by decide) rfl (by decide) n1 n2 (fun q8 h10 k9 e11 => ?_)
  replace hf := hf q8 k9 h10 e11
  replace k1 : hK h10 t0 = 18 := by rw [e11]; exact kNO k1 (by decide) k9
  replace s0 : So 0 (gW G) h10 := by rw [e11]; exact s0.le sc0 (nO_le k9)
  replace s2 : So 2 (gW G) h10 := by rw [e11]; exact s2.le sc2 (nO_le k9)
  replace s4 : So 4 (gW G) h10 := by rw [e11]; exact s4.le sc4 (nO_le k9)
  have k12 : hK h10 q8 = 55 := by rw [e11]; exact kNOs
  refine x_dup (pc' := 146) (dX1_build 69 rfl rfl) rfl rfl ?_
  refine x_inv (pc' := 149) (ν := mJ11_init) (av := [_]) (st := [_]) rfl rfl (dX1_build 70 rfl rfl) (Nat.le_of_ble_eq_true rfl) wJ11_init q280 (inv_I (dX1_build 70 rfl rfl) q2862 q2863 q2864 rfl (by decide) lJ11_init) (fun b hb => by exact Or.inl (by have e : some _ = some b := hb; cases e; simp)) rfl ?_
  refine C.mono hf (fun _ _ => KV.g (fun h13 hf le14 => ?_))
  replace s0 := s0.leX sc0 le14 k12 (by decide)
  replace s2 := s2.leX sc2 le14 k12 (by decide)
  replace s4 := s4.leX sc4 le14 k12 (by decide)
  have k1 := leK le14 k1 (by decide)
  have k12 := leK le14 k12 (by decide)
  exact x_athrow (dX1_build 71 rfl rfl) rfl hf
theorem bX1_cut (G : Gh) (d : Nat) (h : AH) (Q : Outcome → AH → Prop)  (hf : X G mX1_cut (d + 1) none [] 2 [(0, .ref (gW G 0)), (1, .int (0))] [] h Q) : C G mX1_cut (d + 1) [.ref (gW G 0)] h Q := by
  refine C.of_X (by decide +kernel) (Nat.le_of_ble_eq_true rfl) wX1_cut ?_
  show X G mX1_cut (d + 1) none [] 0 [(0, .ref (gW G 0))] [] h Q
  refine x_iconst (pc' := 1) (v := 0) (dX1_cut 0 rfl rfl) (by decide) rfl ?_
  refine x_istore_n (pc' := 2) (dX1_cut 1 rfl rfl) rfl (by decide) rfl rfl ?_
  exact X.sub [1, 0] rfl (by simp) hf
theorem bX1_cut_2 (G : Gh) (d : Nat) (h : AH) (Q : Outcome → AH → Prop) (l1 : Int32) (s0 : So 0 (gW G) h) (s1 : So 1 (gW G) h) (hf : ((fI h (gW G 0) 9) ≤ l1 → (∀ h2, h2 = pI h (gW G 1) 23 (fI h (gW G 0) 9) → (∀ h3, h3 = pI h2 (gW G 0) 9 0 → (C G mX2_cut d [.ref (gW G 1)] h3 (KV Q (fun h4 => Q (.returned none) h4)))))) ∧ (¬ ((fI h (gW G 0) 9) ≤ l1) → (vp_in l1 4096 ∧ (vp_in l1 4096 ∧ ∀ h10, h10 = sI h (gW G 1022) l1.toNatClampNeg (vp_nar .byte (aI h (gW G 1008) l1.toNatClampNeg)) → (∀ x12 : Int32, x12 = l1 + 1 → (X G mX1_cut (d + 1) none [] 2 [(0, .ref (gW G 0)), (1, .int (x12))] [] h10 Q)))))) : X G mX1_cut (d + 1) none [] 2 [(0, .ref (gW G 0)), (1, .int (l1))] [] h Q := by
  refine x_iload_n (pc' := 3) 1 (dX1_cut 2 rfl rfl) rfl rfl rfl ?_
  refine x_aload_n (pc' := 4) 0 (dX1_cut 3 rfl rfl) rfl rfl rfl ?_
  refine x_getI (pc' := 7) (dX1_cut 4 rfl rfl) g9 q967 (Or.inl rfl) rfl (hf_of 0 s0.1 rfl (by decide) m0_9) ?_
  refine x_icmp_ge (pc' := 10) (tgt := 31) (dX1_cut 5 rfl rfl) (by decide) rfl (fun c1 => ?_) (fun c1 => ?_)
  · replace hf := hf.1 c1
    refine x_aload_n (pc' := 32) 0 (dX1_cut 17 rfl rfl) rfl rfl rfl ?_
    refine x_getR (pc' := 35) (dX1_cut 18 rfl rfl) g0 q958 (Or.inl rfl) rfl (hf_of 0 s0.1 rfl (by decide) m0_0) (s0.2 0 _ rfl rfl).1 ?_
    refine x_aload_n (pc' := 36) 0 (dX1_cut 19 rfl rfl) rfl rfl rfl ?_
    refine x_getI (pc' := 39) (dX1_cut 20 rfl rfl) g9 q967 (Or.inl rfl) rfl (hf_of 0 s0.1 rfl (by decide) m0_9) ?_
    refine x_putI (pc' := 42) (dX1_cut 21 rfl rfl) g23 q321 (Or.inl rfl) (Or.inl rfl) (Or.inl (by decide)) rfl (hf_of 1 s1.1 rfl (by decide) m1_23) (fun h2 e7 => ?_)
    replace hf := hf h2 e7
    replace s0 : So 0 (gW G) h2 := by rw [e7]; exact s0.le sc0 (pI_le (Or.inl rfl))
    replace s1 : So 1 (gW G) h2 := by rw [e7]; exact s1.le sc1 (pI_le (Or.inl rfl))
    refine x_aload_n (pc' := 43) 0 (dX1_cut 22 rfl rfl) rfl rfl rfl ?_
    refine x_iconst (pc' := 44) (v := 0) (dX1_cut 23 rfl rfl) (by decide) rfl ?_
    refine x_putI (pc' := 47) (dX1_cut 24 rfl rfl) g9 q967 (Or.inl rfl) (Or.inl rfl) (Or.inl (by decide)) rfl (hf_of 0 s0.1 rfl (by decide) m0_9) (fun h3 e6 => ?_)
    replace hf := hf h3 e6
    replace s0 : So 0 (gW G) h3 := by rw [e6]; exact s0.le sc0 (pI_le (Or.inl rfl))
    replace s1 : So 1 (gW G) h3 := by rw [e6]; exact s1.le sc1 (pI_le (Or.inl rfl))
    refine x_aload_n (pc' := 48) 0 (dX1_cut 25 rfl rfl) rfl rfl rfl ?_
    refine x_getR (pc' := 51) (dX1_cut 26 rfl rfl) g0 q958 (Or.inl rfl) rfl (hf_of 0 s0.1 rfl (by decide) m0_0) (s0.2 0 _ rfl rfl).1 ?_
    refine x_inv (pc' := 54) (ν := mX2_cut) (av := [_]) (st := []) rfl rfl (dX1_cut 27 rfl rfl) (Nat.le_of_ble_eq_true rfl) wX2_cut q212 (inv_V (k := 1) (dX1_cut 27 rfl rfl) q1155 q1156 q1157 wX2_cut (by decide) lX2_cut (by decide) s1.1) (exN (by decide)) rfl ?_
    refine C.mono hf (fun _ _ => KV.g (fun h4 hf le5 => ?_))
    replace s0 := s0.le sc0 (le5)
    replace s1 := s1.le sc1 (le5)
    exact x_vret (dX1_cut 28 rfl rfl) rfl hf
  · replace hf := hf.2 c1
    refine x_aload_n (pc' := 11) 0 (dX1_cut 6 rfl rfl) rfl rfl rfl ?_
    refine x_getR (pc' := 14) (dX1_cut 7 rfl rfl) g0 q958 (Or.inl rfl) rfl (hf_of 0 s0.1 rfl (by decide) m0_0) (s0.2 0 _ rfl rfl).1 ?_
    refine x_getR (pc' := 17) (dX1_cut 8 rfl rfl) g22 q319 (Or.inl rfl) rfl (hf_of 1 s1.1 rfl (by decide) m1_22) (s1.2 1 _ rfl rfl).1 ?_
    refine x_iload_n (pc' := 18) 1 (dX1_cut 9 rfl rfl) rfl rfl rfl ?_
    refine x_aload_n (pc' := 19) 0 (dX1_cut 10 rfl rfl) rfl rfl rfl ?_
    refine x_getR (pc' := 22) (dX1_cut 11 rfl rfl) g8 q966 (Or.inl rfl) rfl (hf_of 0 s0.1 rfl (by decide) m0_8) (s0.2 8 _ rfl rfl).1 ?_
    refine x_iload_n (pc' := 23) 1 (dX1_cut 12 rfl rfl) rfl rfl rfl ?_
    obtain ⟨i8, hf⟩ := hf
    refine x_bald (pc' := 24) (dX1_cut 13 rfl rfl) rfl (s0.2 8 _ rfl rfl).2.1 (by rw [(s0.2 8 _ rfl rfl).2.2.2 (by decide)]; exact i8) ?_
    obtain ⟨i9, hf⟩ := hf
    refine x_bast (pc' := 25) (dX1_cut 14 rfl rfl) rfl (s1.2 1 _ rfl rfl).2.1 (Or.inl ⟨22, by decide, rfl, by decide⟩) (by rw [(s1.2 1 _ rfl rfl).2.2.2 (by decide)]; exact i9) (fun h10 e11 => ?_)
    replace hf := hf h10 e11
    replace s0 : So 0 (gW G) h10 := by rw [e11]; exact s0.le sc0 (sI_le )
    replace s1 : So 1 (gW G) h10 := by rw [e11]; exact s1.le sc1 (sI_le )
    replace hf := hf _ rfl
    refine x_iinc (pc' := 28) 1 (dX1_cut 15 rfl rfl) rfl (by rfl) (by decide) rfl rfl ?_
    refine x_goto (tgt := 2) (dX1_cut 16 rfl rfl) (by decide) ?_
    exact X.sub [1, 0] rfl (by simp) hf
theorem bX1_inferred (G : Gh) (d : Nat) (h : AH) (Q : Outcome → AH → Prop) (p1 : Nat) (hf : X G mX1_inferred (d + 1) none [] 2 [(0, .ref (gW G 0)), (1, .ref (p1)), (2, .int (0))] [] h Q) : C G mX1_inferred (d + 1) [.ref (gW G 0), .ref (p1)] h Q := by
  refine C.of_X (by decide +kernel) (Nat.le_of_ble_eq_true rfl) wX1_inferred ?_
  show X G mX1_inferred (d + 1) none [] 0 [(0, .ref (gW G 0)), (1, .ref (p1))] [] h Q
  refine x_iconst (pc' := 1) (v := 0) (dX1_inferred 0 rfl rfl) (by decide) rfl ?_
  refine x_istore_n (pc' := 2) (dX1_inferred 1 rfl rfl) rfl (by decide) rfl rfl ?_
  exact X.sub [1, 2, 0] rfl (by simp) hf
theorem bX1_inferred_2 (G : Gh) (d : Nat) (h : AH) (Q : Outcome → AH → Prop) (l1 : Nat) (l2 : Int32) (s0 : So 0 (gW G) h) (hf : hK h l1 = 17 ∧ (∃ b2, fR h l1 298 = some b2 ∧ (hK h b2 = 6 ∧ (((fI h b2 78) ≤ l2 → (X G mX1_inferred (d + 1) none [] 139 [(0, .ref (gW G 0)), (2, .int (0))] [] h Q)) ∧ (¬ ((fI h b2 78) ≤ l2) → (∃ b6, fR h l1 298 = some b6 ∧ (hK h b6 = 6 ∧ (C G mX7_dec d [.ref (b6), .int (l2)] h (KR Q (fun b11 h8 => ∃ (k : Nat) (ν : Mu), VT ⟨"LetMill$Dec", "infer", "(LLetMill$Typer;)V"⟩ VMDec_infer k ν ∧ hK h8 b11 = k + 1 ∧ C G ν d [.ref (b11), .ref (gW G 6)] h8 (KV Q (fun h12 => X G mX1_inferred (d + 1) none [] 33 [(0, .ref (gW G 0)), (1, .ref (l1)), (2, .int (l2)), (3, .ref (b11)), (4, .int (0))] [] h12 Q)))))))))))) : X G mX1_inferred (d + 1) none [] 2 [(0, .ref (gW G 0)), (1, .ref (l1)), (2, .int (l2))] [] h Q := by
  refine x_iload_n (pc' := 3) 2 (dX1_inferred 2 rfl rfl) rfl rfl rfl ?_
  refine x_aload_n (pc' := 4) 1 (dX1_inferred 3 rfl rfl) rfl rfl rfl ?_
  obtain ⟨k1, hf⟩ := hf
  obtain ⟨b2, e3, hf⟩ := hf
  refine x_getR (pc' := 7) (dX1_inferred 4 rfl rfl) g298 q1732 (Or.inl rfl) rfl (hf_of 16 k1 rfl (by decide) m16_298) e3 ?_
  obtain ⟨k4, hf⟩ := hf
  refine x_getI (pc' := 10) (dX1_inferred 5 rfl rfl) g78 q576 (Or.inl rfl) rfl (hf_of 5 k4 rfl (by decide) m5_78) ?_
  refine x_icmp_ge (pc' := 13) (tgt := 137) (dX1_inferred 6 rfl rfl) (by decide) rfl (fun c5 => ?_) (fun c5 => ?_)
  · replace hf := hf.1 c5
    refine x_iconst (pc' := 138) (v := 0) (dX1_inferred 64 rfl rfl) (by decide) rfl ?_
    refine x_istore_n (pc' := 139) (dX1_inferred 65 rfl rfl) rfl (by decide) rfl rfl ?_
    exact X.sub [1, 0] rfl (by simp) hf
  · replace hf := hf.2 c5
    refine x_aload_n (pc' := 14) 1 (dX1_inferred 7 rfl rfl) rfl rfl rfl ?_
    obtain ⟨b6, e7, hf⟩ := hf
    refine x_getR (pc' := 17) (dX1_inferred 8 rfl rfl) g298 q1732 (Or.inl rfl) rfl (hf_of 16 k1 rfl (by decide) m16_298) e7 ?_
    refine x_iload_n (pc' := 18) 2 (dX1_inferred 9 rfl rfl) rfl rfl rfl ?_
    obtain ⟨k10, hf⟩ := hf
    refine x_inv (pc' := 21) (ν := mX7_dec) (av := [_, _]) (st := []) rfl rfl (dX1_inferred 10 rfl rfl) (Nat.le_of_ble_eq_true rfl) wX7_dec q221 (inv_V (k := 5) (dX1_inferred 10 rfl rfl) q2327 q2037 q2038 wX7_dec (by decide) lX7_dec (by decide) k10) (exN (by decide)) rfl ?_
    refine C.mono hf (fun _ _ => KR.g (fun b11 h8 hf le9 => ?_))
    have k1 := leK le9 k1 (by decide)
    have k4 := leK le9 k4 (by decide)
    have k10 := leK le9 k10 (by decide)
    replace s0 := s0.le sc0 (le9)
    refine x_astore_n (pc' := 22) (dX1_inferred 11 rfl rfl) rfl (by decide) rfl rfl ?_
    refine x_aload_n (pc' := 23) 0 (dX1_inferred 12 rfl rfl) rfl rfl rfl ?_
    refine x_aload_n (pc' := 24) 1 (dX1_inferred 13 rfl rfl) rfl rfl rfl ?_
    refine x_getR (pc' := 27) (dX1_inferred 14 rfl rfl) g5 q963 (Or.inl rfl) rfl (hf_of 0 s0.1 rfl (by decide) m0_5) (s0.2 5 _ rfl rfl).1 ?_
    obtain ⟨k, ν, ⟨v0, v1, v2, v3, v4, v5, v6, v7⟩, k14, hf⟩ := hf
    refine x_inv (pc' := 30) (ν := ν) (st := []) rfl (sub_tr v7 rfl) (dX1_inferred 15 rfl rfl) (by have := v5; simp only [List.map, List.sum_cons, List.sum_nil, Value.category]; omega) v1 v2 (inv_U (k := k) (av := [_]) (dX1_inferred 15 rfl rfl) q2328 q2330 (by decide) v3 v4 (by decide) (show _ = some 1 by decide +kernel) v0 k14) (exN v6) rfl ?_
    refine C.mono hf (fun _ _ => KV.g (fun h12 hf le13 => ?_))
    replace le13 := Le.nx v6 le13
    have k1 := leK le13 k1 (by decide)
    have k4 := leK le13 k4 (by decide)
    have k10 := leK le13 k10 (by decide)
    replace s0 := s0.le sc0 (le13)
    refine x_iconst (pc' := 31) (v := 0) (dX1_inferred 16 rfl rfl) (by decide) rfl ?_
    refine x_istore (pc' := 33) (dX1_inferred 17 rfl rfl) (by decide) rfl rfl ?_
    exact X.sub [2, 3, 4, 1, 0] rfl (by simp) hf
theorem bX1_inferred_33 (G : Gh) (d : Nat) (h : AH) (Q : Outcome → AH → Prop) (l1 : Nat) (l2 : Int32) (l3 : Nat) (l4 : Int32) (s0 : So 0 (gW G) h) (s1 : So 1 (gW G) h) (s2 : So 2 (gW G) h) (s4 : So 4 (gW G) h) (s6 : So 6 (gW G) h) (hf : ((fI h (gW G 6) 112) ≤ l4 → (C G mX1_wouldBe d [.ref (gW G 0)] h (KI Q (fun x4 h2 => (x4 ≤ 150 → (∀ x6 : Int32, x6 = l2 + 1 → (X G mX1_inferred (d + 1) none [] 2 [(0, .ref (gW G 0)), (1, .ref (l1)), (2, .int (x6))] [] h2 Q))) ∧ (¬ (x4 ≤ 150) → ((hc h2 + 1 ≤ MC) ∧ (hs h2 + 8 ≤ MS) ∧ ∀ q7, hK h2 q7 = 0 → ∀ h9, h9 = nO h2 q7 17 → (HF h9 l3 313 0 ∧ (vp_in (fI h9 l3 313) 4098 ∧ (C G mX18_init d [.ref (q7), .int (6), .int (aI h9 (gW G 1025) (fI h9 l3 313).toNatClampNeg)] h9 (KV Q (fun h14 => Q (.threw q7) h14))))))))))) ∧ (¬ ((fI h (gW G 6) 112) ≤ l4) → (C G mX9_bound d [.ref (gW G 4), .int (l4)] h (KR Q (fun b18 h16 => hK h16 b18 = 13 ∧ (C G mX3_size d [.ref (gW G 2), .int (fI h16 b18 127), .int (60)] h16 (KI Q (fun x22 h20 => (x22 ≤ 60 → (∀ x24 : Int32, x24 = l4 + 1 → (X G mX1_inferred (d + 1) none [] 33 [(0, .ref (gW G 0)), (1, .ref (l1)), (2, .int (l2)), (3, .ref (l3)), (4, .int (x24))] [] h20 Q))) ∧ (¬ (x22 ≤ 60) → ((hc h20 + 1 ≤ MC) ∧ (hs h20 + 8 ≤ MS) ∧ ∀ q25, hK h20 q25 = 0 → ∀ h27, h27 = nO h20 q25 17 → (HF h27 l3 313 0 ∧ (vp_in (fI h27 l3 313) 4098 ∧ (C G mX18_init d [.ref (q25), .int (6), .int (aI h27 (gW G 1025) (fI h27 l3 313).toNatClampNeg)] h27 (KV Q (fun h32 => Q (.threw q25) h32))))))))))))))) : X G mX1_inferred (d + 1) none [] 33 [(0, .ref (gW G 0)), (1, .ref (l1)), (2, .int (l2)), (3, .ref (l3)), (4, .int (l4))] [] h Q := by
  refine x_iload (pc' := 35) 4 (dX1_inferred 18 rfl rfl) rfl rfl ?_
  refine x_aload_n (pc' := 36) 0 (dX1_inferred 19 rfl rfl) rfl rfl rfl ?_
  refine x_getR (pc' := 39) (dX1_inferred 20 rfl rfl) g5 q963 (Or.inl rfl) rfl (hf_of 0 s0.1 rfl (by decide) m0_5) (s0.2 5 _ rfl rfl).1 ?_
  refine x_getI (pc' := 42) (dX1_inferred 21 rfl rfl) g112 q837 (Or.inl rfl) rfl (hf_of 9 s6.1 rfl (by decide) m9_112) ?_
  refine x_icmp_ge (pc' := 45) (tgt := 99) (dX1_inferred 22 rfl rfl) (by decide) rfl (fun c1 => ?_) (fun c1 => ?_)
  · replace hf := hf.1 c1
    refine x_aload_n (pc' := 100) 0 (dX1_inferred 47 rfl rfl) rfl rfl rfl ?_
    refine x_inv (pc' := 103) (ν := mX1_wouldBe) (av := [_]) (st := []) rfl rfl (dX1_inferred 48 rfl rfl) (Nat.le_of_ble_eq_true rfl) wX1_wouldBe q211 (inv_V (k := 0) (dX1_inferred 48 rfl rfl) q2805 q2807 qs52 wX1_wouldBe (by decide) lX1_wouldBe (by decide) s0.1) (exN (by decide)) rfl ?_
    refine C.mono hf (fun _ _ => KI.g (fun x4 h2 hf le3 => ?_))
    replace s0 := s0.le sc0 (le3)
    replace s1 := s1.le sc1 (le3)
    replace s2 := s2.le sc2 (le3)
    replace s4 := s4.le sc4 (le3)
    replace s6 := s6.le sc6 (le3)
    refine x_sipush (pc' := 106) (v := 150) (dX1_inferred 49 rfl rfl) (by decide) rfl ?_
    refine x_icmp_le (pc' := 109) (tgt := 131) (dX1_inferred 50 rfl rfl) (by decide) rfl (fun c5 => ?_) (fun c5 => ?_)
    · replace hf := hf.1 c5
      replace hf := hf _ rfl
      refine x_iinc (pc' := 134) 2 (dX1_inferred 62 rfl rfl) rfl (by rfl) (by decide) rfl rfl ?_
      refine x_goto (tgt := 2) (dX1_inferred 63 rfl rfl) (by decide) ?_
      exact X.sub [1, 2, 0] rfl (by simp) hf
    · replace hf := hf.2 c5
      obtain ⟨n1, n2, hf⟩ := hf
      refine x_new (pc' := 112) (k := 17) (dX1_inferred 51 rfl rfl) q1150 (by decide) rfl (by decide) n1 n2 (fun q7 h9 k8 e10 => ?_)
      replace hf := hf q7 k8 h9 e10
      replace s0 : So 0 (gW G) h9 := by rw [e10]; exact s0.le sc0 (nO_le k8)
      replace s1 : So 1 (gW G) h9 := by rw [e10]; exact s1.le sc1 (nO_le k8)
      replace s2 : So 2 (gW G) h9 := by rw [e10]; exact s2.le sc2 (nO_le k8)
      replace s4 : So 4 (gW G) h9 := by rw [e10]; exact s4.le sc4 (nO_le k8)
      replace s6 : So 6 (gW G) h9 := by rw [e10]; exact s6.le sc6 (nO_le k8)
      have k11 : hK h9 q7 = 18 := by rw [e10]; exact kNOs
      refine x_dup (pc' := 113) (dX1_inferred 52 rfl rfl) rfl rfl ?_
      refine x_bipush (pc' := 115) (v := 6) (dX1_inferred 53 rfl rfl) (by decide) rfl ?_
      refine x_aload_n (pc' := 116) 0 (dX1_inferred 54 rfl rfl) rfl rfl rfl ?_
      refine x_getR (pc' := 119) (dX1_inferred 55 rfl rfl) g0 q958 (Or.inl rfl) rfl (hf_of 0 s0.1 rfl (by decide) m0_0) (s0.2 0 _ rfl rfl).1 ?_
      refine x_getR (pc' := 122) (dX1_inferred 56 rfl rfl) g25 q330 (Or.inl rfl) rfl (hf_of 1 s1.1 rfl (by decide) m1_25) (s1.2 3 _ rfl rfl).1 ?_
      refine x_aload_n (pc' := 123) 3 (dX1_inferred 57 rfl rfl) rfl rfl rfl ?_
      obtain ⟨u12, hf⟩ := hf
      refine x_getI (pc' := 126) (dX1_inferred 58 rfl rfl) g313 q1833 (Or.inl rfl) rfl u12 ?_
      obtain ⟨i13, hf⟩ := hf
      refine x_iald (pc' := 127) (dX1_inferred 59 rfl rfl) rfl (s1.2 3 _ rfl rfl).2.1 (by rw [(s1.2 3 _ rfl rfl).2.2.2 (by decide)]; exact i13) ?_
      refine x_inv (pc' := 130) (ν := mX18_init) (av := [_, _, _]) (st := [_]) rfl rfl (dX1_inferred 60 rfl rfl) (Nat.le_of_ble_eq_true rfl) wX18_init q239 (inv_I (dX1_inferred 60 rfl rfl) q2322 q1303 q1304 rfl (by decide) lX18_init) (fun b hb => by exact Or.inl (by have e : some _ = some b := hb; cases e; simp)) rfl ?_
      refine C.mono hf (fun _ _ => KV.g (fun h14 hf le15 => ?_))
      replace s0 := s0.leX sc0 le15 k11 (by decide)
      replace s1 := s1.leX sc1 le15 k11 (by decide)
      replace s2 := s2.leX sc2 le15 k11 (by decide)
      replace s4 := s4.leX sc4 le15 k11 (by decide)
      replace s6 := s6.leX sc6 le15 k11 (by decide)
      have k11 := leK le15 k11 (by decide)
      exact x_athrow (dX1_inferred 61 rfl rfl) rfl hf
  · replace hf := hf.2 c1
    refine x_aload_n (pc' := 46) 0 (dX1_inferred 23 rfl rfl) rfl rfl rfl ?_
    refine x_getR (pc' := 49) (dX1_inferred 24 rfl rfl) g1 q959 (Or.inl rfl) rfl (hf_of 0 s0.1 rfl (by decide) m0_1) (s0.2 1 _ rfl rfl).1 ?_
    refine x_aload_n (pc' := 50) 0 (dX1_inferred 25 rfl rfl) rfl rfl rfl ?_
    refine x_getR (pc' := 53) (dX1_inferred 26 rfl rfl) g3 q961 (Or.inl rfl) rfl (hf_of 0 s0.1 rfl (by decide) m0_3) (s0.2 3 _ rfl rfl).1 ?_
    refine x_iload (pc' := 55) 4 (dX1_inferred 27 rfl rfl) rfl rfl ?_
    refine x_inv (pc' := 58) (ν := mX9_bound) (av := [_, _]) (st := [_]) rfl rfl (dX1_inferred 28 rfl rfl) (Nat.le_of_ble_eq_true rfl) wX9_bound q223 (inv_V (k := 7) (dX1_inferred 28 rfl rfl) q2800 q2801 q2802 wX9_bound (by decide) lX9_bound (by decide) s4.1) (exN (by decide)) rfl ?_
    refine C.mono hf (fun _ _ => KR.g (fun b18 h16 hf le17 => ?_))
    replace s0 := s0.le sc0 (le17)
    replace s1 := s1.le sc1 (le17)
    replace s2 := s2.le sc2 (le17)
    replace s4 := s4.le sc4 (le17)
    replace s6 := s6.le sc6 (le17)
    obtain ⟨k19, hf⟩ := hf
    refine x_getI (pc' := 61) (dX1_inferred 29 rfl rfl) g127 q926 (Or.inl rfl) rfl (hf_of 12 k19 rfl (by decide) m12_127) ?_
    refine x_bipush (pc' := 63) (v := 60) (dX1_inferred 30 rfl rfl) (by decide) rfl ?_
    refine x_inv (pc' := 66) (ν := mX3_size) (av := [_, _, _]) (st := []) rfl rfl (dX1_inferred 31 rfl rfl) (Nat.le_of_ble_eq_true rfl) wX3_size q213 (inv_V (k := 2) (dX1_inferred 31 rfl rfl) q2804 q2385 q2386 wX3_size (by decide) lX3_size (by decide) s2.1) (exN (by decide)) rfl ?_
    refine C.mono hf (fun _ _ => KI.g (fun x22 h20 hf le21 => ?_))
    have k19 := leK le21 k19 (by decide)
    replace s0 := s0.le sc0 (le21)
    replace s1 := s1.le sc1 (le21)
    replace s2 := s2.le sc2 (le21)
    replace s4 := s4.le sc4 (le21)
    replace s6 := s6.le sc6 (le21)
    refine x_bipush (pc' := 68) (v := 60) (dX1_inferred 32 rfl rfl) (by decide) rfl ?_
    refine x_icmp_le (pc' := 71) (tgt := 93) (dX1_inferred 33 rfl rfl) (by decide) rfl (fun c23 => ?_) (fun c23 => ?_)
    · replace hf := hf.1 c23
      replace hf := hf _ rfl
      refine x_iinc (pc' := 96) 4 (dX1_inferred 45 rfl rfl) rfl (by rfl) (by decide) rfl rfl ?_
      refine x_goto (tgt := 33) (dX1_inferred 46 rfl rfl) (by decide) ?_
      exact X.sub [1, 2, 3, 4, 0] rfl (by simp) hf
    · replace hf := hf.2 c23
      obtain ⟨n1, n2, hf⟩ := hf
      refine x_new (pc' := 74) (k := 17) (dX1_inferred 34 rfl rfl) q1150 (by decide) rfl (by decide) n1 n2 (fun q25 h27 k26 e28 => ?_)
      replace hf := hf q25 k26 h27 e28
      replace k19 : hK h27 b18 = 13 := by rw [e28]; exact kNO k19 (by decide) k26
      replace s0 : So 0 (gW G) h27 := by rw [e28]; exact s0.le sc0 (nO_le k26)
      replace s1 : So 1 (gW G) h27 := by rw [e28]; exact s1.le sc1 (nO_le k26)
      replace s2 : So 2 (gW G) h27 := by rw [e28]; exact s2.le sc2 (nO_le k26)
      replace s4 : So 4 (gW G) h27 := by rw [e28]; exact s4.le sc4 (nO_le k26)
      replace s6 : So 6 (gW G) h27 := by rw [e28]; exact s6.le sc6 (nO_le k26)
      have k29 : hK h27 q25 = 18 := by rw [e28]; exact kNOs
      refine x_dup (pc' := 75) (dX1_inferred 35 rfl rfl) rfl rfl ?_
      refine x_bipush (pc' := 77) (v := 6) (dX1_inferred 36 rfl rfl) (by decide) rfl ?_
      refine x_aload_n (pc' := 78) 0 (dX1_inferred 37 rfl rfl) rfl rfl rfl ?_
      refine x_getR (pc' := 81) (dX1_inferred 38 rfl rfl) g0 q958 (Or.inl rfl) rfl (hf_of 0 s0.1 rfl (by decide) m0_0) (s0.2 0 _ rfl rfl).1 ?_
      refine x_getR (pc' := 84) (dX1_inferred 39 rfl rfl) g25 q330 (Or.inl rfl) rfl (hf_of 1 s1.1 rfl (by decide) m1_25) (s1.2 3 _ rfl rfl).1 ?_
      refine x_aload_n (pc' := 85) 3 (dX1_inferred 40 rfl rfl) rfl rfl rfl ?_
      obtain ⟨u30, hf⟩ := hf
      refine x_getI (pc' := 88) (dX1_inferred 41 rfl rfl) g313 q1833 (Or.inl rfl) rfl u30 ?_
      obtain ⟨i31, hf⟩ := hf
      refine x_iald (pc' := 89) (dX1_inferred 42 rfl rfl) rfl (s1.2 3 _ rfl rfl).2.1 (by rw [(s1.2 3 _ rfl rfl).2.2.2 (by decide)]; exact i31) ?_
      refine x_inv (pc' := 92) (ν := mX18_init) (av := [_, _, _]) (st := [_]) rfl rfl (dX1_inferred 43 rfl rfl) (Nat.le_of_ble_eq_true rfl) wX18_init q239 (inv_I (dX1_inferred 43 rfl rfl) q2322 q1303 q1304 rfl (by decide) lX18_init) (fun b hb => by exact Or.inl (by have e : some _ = some b := hb; cases e; simp)) rfl ?_
      refine C.mono hf (fun _ _ => KV.g (fun h32 hf le33 => ?_))
      replace s0 := s0.leX sc0 le33 k29 (by decide)
      replace s1 := s1.leX sc1 le33 k29 (by decide)
      replace s2 := s2.leX sc2 le33 k29 (by decide)
      replace s4 := s4.leX sc4 le33 k29 (by decide)
      replace s6 := s6.leX sc6 le33 k29 (by decide)
      have k19 := leK le33 k19 (by decide)
      have k29 := leK le33 k29 (by decide)
      exact x_athrow (dX1_inferred 44 rfl rfl) rfl hf
theorem bX1_inferred_139 (G : Gh) (d : Nat) (h : AH) (Q : Outcome → AH → Prop) (l2 : Int32) (s0 : So 0 (gW G) h) (s2 : So 2 (gW G) h) (s4 : So 4 (gW G) h) (s6 : So 6 (gW G) h) (hf : ((fI h (gW G 6) 112) ≤ l2 → (Q (.returned none) h)) ∧ (¬ ((fI h (gW G 6) 112) ≤ l2) → (C G mX9_bound d [.ref (gW G 4), .int (l2)] h (KR Q (fun b4 h2 => hK h2 b4 = 13 ∧ (C G mX3_settle d [.ref (gW G 2), .int (fI h2 b4 127)] h2 (KV Q (fun h6 => ∀ x8 : Int32, x8 = l2 + 1 → (X G mX1_inferred (d + 1) none [] 139 [(0, .ref (gW G 0)), (2, .int (x8))] [] h6 Q))))))))) : X G mX1_inferred (d + 1) none [] 139 [(0, .ref (gW G 0)), (2, .int (l2))] [] h Q := by
  refine x_iload_n (pc' := 140) 1 (dX1_inferred 66 rfl rfl) rfl rfl rfl ?_
  refine x_aload_n (pc' := 141) 0 (dX1_inferred 67 rfl rfl) rfl rfl rfl ?_
  refine x_getR (pc' := 144) (dX1_inferred 68 rfl rfl) g5 q963 (Or.inl rfl) rfl (hf_of 0 s0.1 rfl (by decide) m0_5) (s0.2 5 _ rfl rfl).1 ?_
  refine x_getI (pc' := 147) (dX1_inferred 69 rfl rfl) g112 q837 (Or.inl rfl) rfl (hf_of 9 s6.1 rfl (by decide) m9_112) ?_
  refine x_icmp_ge (pc' := 150) (tgt := 174) (dX1_inferred 70 rfl rfl) (by decide) rfl (fun c1 => ?_) (fun c1 => ?_)
  · replace hf := hf.1 c1
    exact x_vret (dX1_inferred 81 rfl rfl) rfl hf
  · replace hf := hf.2 c1
    refine x_aload_n (pc' := 151) 0 (dX1_inferred 71 rfl rfl) rfl rfl rfl ?_
    refine x_getR (pc' := 154) (dX1_inferred 72 rfl rfl) g1 q959 (Or.inl rfl) rfl (hf_of 0 s0.1 rfl (by decide) m0_1) (s0.2 1 _ rfl rfl).1 ?_
    refine x_aload_n (pc' := 155) 0 (dX1_inferred 73 rfl rfl) rfl rfl rfl ?_
    refine x_getR (pc' := 158) (dX1_inferred 74 rfl rfl) g3 q961 (Or.inl rfl) rfl (hf_of 0 s0.1 rfl (by decide) m0_3) (s0.2 3 _ rfl rfl).1 ?_
    refine x_iload_n (pc' := 159) 1 (dX1_inferred 75 rfl rfl) rfl rfl rfl ?_
    refine x_inv (pc' := 162) (ν := mX9_bound) (av := [_, _]) (st := [_]) rfl rfl (dX1_inferred 76 rfl rfl) (Nat.le_of_ble_eq_true rfl) wX9_bound q223 (inv_V (k := 7) (dX1_inferred 76 rfl rfl) q2800 q2801 q2802 wX9_bound (by decide) lX9_bound (by decide) s4.1) (exN (by decide)) rfl ?_
    refine C.mono hf (fun _ _ => KR.g (fun b4 h2 hf le3 => ?_))
    replace s0 := s0.le sc0 (le3)
    replace s2 := s2.le sc2 (le3)
    replace s4 := s4.le sc4 (le3)
    replace s6 := s6.le sc6 (le3)
    obtain ⟨k5, hf⟩ := hf
    refine x_getI (pc' := 165) (dX1_inferred 77 rfl rfl) g127 q926 (Or.inl rfl) rfl (hf_of 12 k5 rfl (by decide) m12_127) ?_
    refine x_inv (pc' := 168) (ν := mX3_settle) (av := [_, _]) (st := []) rfl rfl (dX1_inferred 78 rfl rfl) (Nat.le_of_ble_eq_true rfl) wX3_settle q213 (inv_V (k := 2) (dX1_inferred 78 rfl rfl) q2815 q2816 q2817 wX3_settle (by decide) lX3_settle (by decide) s2.1) (exN (by decide)) rfl ?_
    refine C.mono hf (fun _ _ => KV.g (fun h6 hf le7 => ?_))
    have k5 := leK le7 k5 (by decide)
    replace s0 := s0.le sc0 (le7)
    replace s2 := s2.le sc2 (le7)
    replace s4 := s4.le sc4 (le7)
    replace s6 := s6.le sc6 (le7)
    replace hf := hf _ rfl
    refine x_iinc (pc' := 171) 1 (dX1_inferred 79 rfl rfl) rfl (by rfl) (by decide) rfl rfl ?_
    refine x_goto (tgt := 139) (dX1_inferred 80 rfl rfl) (by decide) ?_
    exact X.sub [1, 0] rfl (by simp) hf
theorem bX1_wouldBe (G : Gh) (d : Nat) (h : AH) (Q : Outcome → AH → Prop)  (hf : X G mX1_wouldBe (d + 1) none [] 4 [(0, .ref (gW G 0)), (1, .int (0)), (2, .int (0))] [] h Q) : C G mX1_wouldBe (d + 1) [.ref (gW G 0)] h Q := by
  refine C.of_X (by decide +kernel) (Nat.le_of_ble_eq_true rfl) wX1_wouldBe ?_
  show X G mX1_wouldBe (d + 1) none [] 0 [(0, .ref (gW G 0))] [] h Q
  refine x_iconst (pc' := 1) (v := 0) (dX1_wouldBe 0 rfl rfl) (by decide) rfl ?_
  refine x_istore_n (pc' := 2) (dX1_wouldBe 1 rfl rfl) rfl (by decide) rfl rfl ?_
  refine x_iconst (pc' := 3) (v := 0) (dX1_wouldBe 2 rfl rfl) (by decide) rfl ?_
  refine x_istore_n (pc' := 4) (dX1_wouldBe 3 rfl rfl) rfl (by decide) rfl rfl ?_
  exact X.sub [2, 1, 0] rfl (by simp) hf
theorem bX1_wouldBe_4 (G : Gh) (d : Nat) (h : AH) (Q : Outcome → AH → Prop) (l1 : Int32) (l2 : Int32) (s0 : So 0 (gW G) h) (s4 : So 4 (gW G) h) (s6 : So 6 (gW G) h) (hf : ((fI h (gW G 6) 112) ≤ l2 → (X G mX1_wouldBe (d + 1) none [] 44 [(0, .ref (gW G 0)), (1, .int (l1)), (2, .int (0))] [] h Q)) ∧ (¬ ((fI h (gW G 6) 112) ≤ l2) → (C G mX9_bound d [.ref (gW G 4), .int (l2)] h (KR Q (fun b4 h2 => C G mX1_isHidden d [.ref (gW G 0), .ref (b4), .int (l2 + 1)] h2 (KI Q (fun x7 h5 => (x7 = 0 → (∀ x10 : Int32, x10 = l1 + 1 → (∀ x11 : Int32, x11 = l2 + 1 → (X G mX1_wouldBe (d + 1) none [] 4 [(0, .ref (gW G 0)), (1, .int (x10)), (2, .int (x11))] [] h5 Q)))) ∧ (¬ x7 = 0 → (∀ x9 : Int32, x9 = l2 + 1 → (X G mX1_wouldBe (d + 1) none [] 4 [(0, .ref (gW G 0)), (1, .int (l1)), (2, .int (x9))] [] h5 Q)))))))))) : X G mX1_wouldBe (d + 1) none [] 4 [(0, .ref (gW G 0)), (1, .int (l1)), (2, .int (l2))] [] h Q := by
  refine x_iload_n (pc' := 5) 2 (dX1_wouldBe 4 rfl rfl) rfl rfl rfl ?_
  refine x_aload_n (pc' := 6) 0 (dX1_wouldBe 5 rfl rfl) rfl rfl rfl ?_
  refine x_getR (pc' := 9) (dX1_wouldBe 6 rfl rfl) g5 q963 (Or.inl rfl) rfl (hf_of 0 s0.1 rfl (by decide) m0_5) (s0.2 5 _ rfl rfl).1 ?_
  refine x_getI (pc' := 12) (dX1_wouldBe 7 rfl rfl) g112 q837 (Or.inl rfl) rfl (hf_of 9 s6.1 rfl (by decide) m9_112) ?_
  refine x_icmp_ge (pc' := 15) (tgt := 42) (dX1_wouldBe 8 rfl rfl) (by decide) rfl (fun c1 => ?_) (fun c1 => ?_)
  · replace hf := hf.1 c1
    refine x_iconst (pc' := 43) (v := 0) (dX1_wouldBe 22 rfl rfl) (by decide) rfl ?_
    refine x_istore_n (pc' := 44) (dX1_wouldBe 23 rfl rfl) rfl (by decide) rfl rfl ?_
    exact X.sub [1, 2, 0] rfl (by simp) hf
  · replace hf := hf.2 c1
    refine x_aload_n (pc' := 16) 0 (dX1_wouldBe 9 rfl rfl) rfl rfl rfl ?_
    refine x_aload_n (pc' := 17) 0 (dX1_wouldBe 10 rfl rfl) rfl rfl rfl ?_
    refine x_getR (pc' := 20) (dX1_wouldBe 11 rfl rfl) g3 q961 (Or.inl rfl) rfl (hf_of 0 s0.1 rfl (by decide) m0_3) (s0.2 3 _ rfl rfl).1 ?_
    refine x_iload_n (pc' := 21) 2 (dX1_wouldBe 12 rfl rfl) rfl rfl rfl ?_
    refine x_inv (pc' := 24) (ν := mX9_bound) (av := [_, _]) (st := [_]) rfl rfl (dX1_wouldBe 13 rfl rfl) (Nat.le_of_ble_eq_true rfl) wX9_bound q223 (inv_V (k := 7) (dX1_wouldBe 13 rfl rfl) q2800 q2801 q2802 wX9_bound (by decide) lX9_bound (by decide) s4.1) (exN (by decide)) rfl ?_
    refine C.mono hf (fun _ _ => KR.g (fun b4 h2 hf le3 => ?_))
    replace s0 := s0.le sc0 (le3)
    replace s4 := s4.le sc4 (le3)
    replace s6 := s6.le sc6 (le3)
    refine x_iload_n (pc' := 25) 2 (dX1_wouldBe 14 rfl rfl) rfl rfl rfl ?_
    refine x_iconst (pc' := 26) (v := 1) (dX1_wouldBe 15 rfl rfl) (by decide) rfl ?_
    refine x_iadd (pc' := 27) (dX1_wouldBe 16 rfl rfl) rfl ?_
    refine x_inv (pc' := 30) (ν := mX1_isHidden) (av := [_, _, _]) (st := []) rfl rfl (dX1_wouldBe 17 rfl rfl) (Nat.le_of_ble_eq_true rfl) wX1_isHidden q211 (inv_V (k := 0) (dX1_wouldBe 17 rfl rfl) q2809 q2811 qs53 wX1_isHidden (by decide) lX1_isHidden (by decide) s0.1) (exN (by decide)) rfl ?_
    refine C.mono hf (fun _ _ => KI.g (fun x7 h5 hf le6 => ?_))
    replace s0 := s0.le sc0 (le6)
    replace s4 := s4.le sc4 (le6)
    replace s6 := s6.le sc6 (le6)
    refine x_if_ne (pc' := 33) (tgt := 36) (dX1_wouldBe 18 rfl rfl) (by decide) rfl (fun c8 => ?_) (fun c8 => ?_)
    · replace hf := hf.2 c8
      replace hf := hf _ rfl
      refine x_iinc (pc' := 39) 2 (dX1_wouldBe 20 rfl rfl) rfl (by rfl) (by decide) rfl rfl ?_
      refine x_goto (tgt := 4) (dX1_wouldBe 21 rfl rfl) (by decide) ?_
      exact X.sub [1, 2, 0] rfl (by simp) hf
    · replace hf := hf.1 (Classical.not_not.mp c8)
      replace c8 := Classical.not_not.mp c8
      replace hf := hf _ rfl
      refine x_iinc (pc' := 36) 1 (dX1_wouldBe 19 rfl rfl) rfl (by rfl) (by decide) rfl rfl ?_
      replace hf := hf _ rfl
      refine x_iinc (pc' := 39) 2 (dX1_wouldBe 20 rfl rfl) rfl (by rfl) (by decide) rfl rfl ?_
      refine x_goto (tgt := 4) (dX1_wouldBe 21 rfl rfl) (by decide) ?_
      exact X.sub [2, 1, 0] rfl (by simp) hf
theorem bX1_wouldBe_44 (G : Gh) (d : Nat) (h : AH) (Q : Outcome → AH → Prop) (l1 : Int32) (l2 : Int32) (s0 : So 0 (gW G) h) (s4 : So 4 (gW G) h) (hf : ((fI h (gW G 1087) 78) ≤ l2 → (Q (.returned (some (.int l1))) h)) ∧ (¬ ((fI h (gW G 1087) 78) ≤ l2) → (C G mX7_get d [.ref (gW G 1087), .int (l2)] h (KR Q (fun b4 h2 => hK h2 b4 = 13 ∧ (C G mX1_isHidden d [.ref (gW G 0), .ref (b4), .int (0)] h2 (KI Q (fun x8 h6 => (x8 = 0 → (∀ x11 : Int32, x11 = l1 + 1 → (∀ x12 : Int32, x12 = l2 + 1 → (X G mX1_wouldBe (d + 1) none [] 44 [(0, .ref (gW G 0)), (1, .int (x11)), (2, .int (x12))] [] h6 Q)))) ∧ (¬ x8 = 0 → (∀ x10 : Int32, x10 = l2 + 1 → (X G mX1_wouldBe (d + 1) none [] 44 [(0, .ref (gW G 0)), (1, .int (l1)), (2, .int (x10))] [] h6 Q))))))))))) : X G mX1_wouldBe (d + 1) none [] 44 [(0, .ref (gW G 0)), (1, .int (l1)), (2, .int (l2))] [] h Q := by
  refine x_iload_n (pc' := 45) 2 (dX1_wouldBe 24 rfl rfl) rfl rfl rfl ?_
  refine x_aload_n (pc' := 46) 0 (dX1_wouldBe 25 rfl rfl) rfl rfl rfl ?_
  refine x_getR (pc' := 49) (dX1_wouldBe 26 rfl rfl) g3 q961 (Or.inl rfl) rfl (hf_of 0 s0.1 rfl (by decide) m0_3) (s0.2 3 _ rfl rfl).1 ?_
  refine x_getR (pc' := 52) (dX1_wouldBe 27 rfl rfl) g87 q698 (Or.inl rfl) rfl (hf_of 7 s4.1 rfl (by decide) m7_87) (s4.2 4 _ rfl rfl).1 ?_
  refine x_getI (pc' := 55) (dX1_wouldBe 28 rfl rfl) g78 q576 (Or.inl rfl) rfl (hf_of 5 (s4.2 4 _ rfl rfl).2.1 rfl (by decide) m5_78) ?_
  refine x_icmp_ge (pc' := 58) (tgt := 89) (dX1_wouldBe 29 rfl rfl) (by decide) rfl (fun c1 => ?_) (fun c1 => ?_)
  · replace hf := hf.1 c1
    refine x_iload_n (pc' := 90) 1 (dX1_wouldBe 43 rfl rfl) rfl rfl rfl ?_
    exact x_iret (dX1_wouldBe 44 rfl rfl) rfl hf
  · replace hf := hf.2 c1
    refine x_aload_n (pc' := 59) 0 (dX1_wouldBe 30 rfl rfl) rfl rfl rfl ?_
    refine x_aload_n (pc' := 60) 0 (dX1_wouldBe 31 rfl rfl) rfl rfl rfl ?_
    refine x_getR (pc' := 63) (dX1_wouldBe 32 rfl rfl) g3 q961 (Or.inl rfl) rfl (hf_of 0 s0.1 rfl (by decide) m0_3) (s0.2 3 _ rfl rfl).1 ?_
    refine x_getR (pc' := 66) (dX1_wouldBe 33 rfl rfl) g87 q698 (Or.inl rfl) rfl (hf_of 7 s4.1 rfl (by decide) m7_87) (s4.2 4 _ rfl rfl).1 ?_
    refine x_iload_n (pc' := 67) 2 (dX1_wouldBe 34 rfl rfl) rfl rfl rfl ?_
    refine x_inv (pc' := 70) (ν := mX7_get) (av := [_, _]) (st := [_]) rfl rfl (dX1_wouldBe 35 rfl rfl) (Nat.le_of_ble_eq_true rfl) wX7_get q221 (inv_V (k := 5) (dX1_wouldBe 35 rfl rfl) q2813 q1414 q1415 wX7_get (by decide) lX7_get (by decide) (s4.2 4 _ rfl rfl).2.1) (exN (by decide)) rfl ?_
    refine C.mono hf (fun _ _ => KR.g (fun b4 h2 hf le3 => ?_))
    replace s0 := s0.le sc0 (le3)
    replace s4 := s4.le sc4 (le3)
    obtain ⟨k5, hf⟩ := hf
    refine x_castS (pc' := 73) (k := 12) (dX1_wouldBe 36 rfl rfl) q2814 (by decide) k5 rfl ?_
    refine x_iconst (pc' := 74) (v := 0) (dX1_wouldBe 37 rfl rfl) (by decide) rfl ?_
    refine x_inv (pc' := 77) (ν := mX1_isHidden) (av := [_, _, _]) (st := []) rfl rfl (dX1_wouldBe 38 rfl rfl) (Nat.le_of_ble_eq_true rfl) wX1_isHidden q211 (inv_V (k := 0) (dX1_wouldBe 38 rfl rfl) q2809 q2811 qs53 wX1_isHidden (by decide) lX1_isHidden (by decide) s0.1) (exN (by decide)) rfl ?_
    refine C.mono hf (fun _ _ => KI.g (fun x8 h6 hf le7 => ?_))
    have k5 := leK le7 k5 (by decide)
    replace s0 := s0.le sc0 (le7)
    replace s4 := s4.le sc4 (le7)
    refine x_if_ne (pc' := 80) (tgt := 83) (dX1_wouldBe 39 rfl rfl) (by decide) rfl (fun c9 => ?_) (fun c9 => ?_)
    · replace hf := hf.2 c9
      replace hf := hf _ rfl
      refine x_iinc (pc' := 86) 2 (dX1_wouldBe 41 rfl rfl) rfl (by rfl) (by decide) rfl rfl ?_
      refine x_goto (tgt := 44) (dX1_wouldBe 42 rfl rfl) (by decide) ?_
      exact X.sub [1, 2, 0] rfl (by simp) hf
    · replace hf := hf.1 (Classical.not_not.mp c9)
      replace c9 := Classical.not_not.mp c9
      replace hf := hf _ rfl
      refine x_iinc (pc' := 83) 1 (dX1_wouldBe 40 rfl rfl) rfl (by rfl) (by decide) rfl rfl ?_
      replace hf := hf _ rfl
      refine x_iinc (pc' := 86) 2 (dX1_wouldBe 41 rfl rfl) rfl (by rfl) (by decide) rfl rfl ?_
      refine x_goto (tgt := 44) (dX1_wouldBe 42 rfl rfl) (by decide) ?_
      exact X.sub [2, 1, 0] rfl (by simp) hf
theorem bX1_isHidden (G : Gh) (d : Nat) (h : AH) (Q : Outcome → AH → Prop) (p1 : Nat) (p2 : Int32) (hf : X G mX1_isHidden (d + 1) none [] 2 [(0, .ref (gW G 0)), (1, .ref (p1)), (3, .int (p2))] [] h Q) : C G mX1_isHidden (d + 1) [.ref (gW G 0), .ref (p1), .int (p2)] h Q := by
  refine C.of_X (by decide +kernel) (Nat.le_of_ble_eq_true rfl) wX1_isHidden ?_
  show X G mX1_isHidden (d + 1) none [] 0 [(0, .ref (gW G 0)), (1, .ref (p1)), (2, .int (p2))] [] h Q
  refine x_iload_n (pc' := 1) 2 (dX1_isHidden 0 rfl rfl) rfl rfl rfl ?_
  refine x_istore_n (pc' := 2) (dX1_isHidden 1 rfl rfl) rfl (by decide) rfl rfl ?_
  exact X.sub [1, 2, 0] rfl (by simp) hf
theorem bX1_isHidden_2 (G : Gh) (d : Nat) (h : AH) (Q : Outcome → AH → Prop) (l1 : Nat) (l3 : Int32) (s0 : So 0 (gW G) h) (s4 : So 4 (gW G) h) (s6 : So 6 (gW G) h) (hf : ((fI h (gW G 6) 112) ≤ l3 → (Q (.returned (some (.int 0))) h)) ∧ (¬ ((fI h (gW G 6) 112) ≤ l3) → (C G mX9_bound d [.ref (gW G 4), .int (l3)] h (KR Q (fun b4 h2 => hK h2 b4 = 13 ∧ (hK h2 l1 = 13 ∧ (((lg_cmp (fJ h2 b4 125) (fJ h2 l1 125)) = 0 → (C G mX9_bound d [.ref (gW G 4), .int (l3)] h2 (KR Q (fun b11 h9 => hK h9 b11 = 13 ∧ (((lg_cmp (fJ h9 b11 126) (fJ h9 l1 126)) = 0 → (Q (.returned (some (.int 1))) h9)) ∧ (¬ ((lg_cmp (fJ h9 b11 126) (fJ h9 l1 126)) = 0) → (∀ x14 : Int32, x14 = l3 + 1 → (X G mX1_isHidden (d + 1) none [] 2 [(0, .ref (gW G 0)), (1, .ref (l1)), (3, .int (x14))] [] h9 Q)))))))) ∧ (¬ ((lg_cmp (fJ h2 b4 125) (fJ h2 l1 125)) = 0) → (∀ x8 : Int32, x8 = l3 + 1 → (X G mX1_isHidden (d + 1) none [] 2 [(0, .ref (gW G 0)), (1, .ref (l1)), (3, .int (x8))] [] h2 Q)))))))))) : X G mX1_isHidden (d + 1) none [] 2 [(0, .ref (gW G 0)), (1, .ref (l1)), (3, .int (l3))] [] h Q := by
  refine x_iload_n (pc' := 3) 2 (dX1_isHidden 2 rfl rfl) rfl rfl rfl ?_
  refine x_aload_n (pc' := 4) 0 (dX1_isHidden 3 rfl rfl) rfl rfl rfl ?_
  refine x_getR (pc' := 7) (dX1_isHidden 4 rfl rfl) g5 q963 (Or.inl rfl) rfl (hf_of 0 s0.1 rfl (by decide) m0_5) (s0.2 5 _ rfl rfl).1 ?_
  refine x_getI (pc' := 10) (dX1_isHidden 5 rfl rfl) g112 q837 (Or.inl rfl) rfl (hf_of 9 s6.1 rfl (by decide) m9_112) ?_
  refine x_icmp_ge (pc' := 13) (tgt := 59) (dX1_isHidden 6 rfl rfl) (by decide) rfl (fun c1 => ?_) (fun c1 => ?_)
  · replace hf := hf.1 c1
    refine x_iconst (pc' := 60) (v := 0) (dX1_isHidden 29 rfl rfl) (by decide) rfl ?_
    exact x_zret (ty := .boolean) (dX1_isHidden 30 rfl rfl) rfl (by decide) hf
  · replace hf := hf.2 c1
    refine x_aload_n (pc' := 14) 0 (dX1_isHidden 7 rfl rfl) rfl rfl rfl ?_
    refine x_getR (pc' := 17) (dX1_isHidden 8 rfl rfl) g3 q961 (Or.inl rfl) rfl (hf_of 0 s0.1 rfl (by decide) m0_3) (s0.2 3 _ rfl rfl).1 ?_
    refine x_iload_n (pc' := 18) 2 (dX1_isHidden 9 rfl rfl) rfl rfl rfl ?_
    refine x_inv (pc' := 21) (ν := mX9_bound) (av := [_, _]) (st := []) rfl rfl (dX1_isHidden 10 rfl rfl) (Nat.le_of_ble_eq_true rfl) wX9_bound q223 (inv_V (k := 7) (dX1_isHidden 10 rfl rfl) q2800 q2801 q2802 wX9_bound (by decide) lX9_bound (by decide) s4.1) (exN (by decide)) rfl ?_
    refine C.mono hf (fun _ _ => KR.g (fun b4 h2 hf le3 => ?_))
    replace s0 := s0.le sc0 (le3)
    replace s4 := s4.le sc4 (le3)
    replace s6 := s6.le sc6 (le3)
    obtain ⟨k5, hf⟩ := hf
    refine x_getJ (pc' := 24) (dX1_isHidden 11 rfl rfl) g125 q919 (Or.inl rfl) rfl (hf_of 12 k5 rfl (by decide) m12_125) ?_
    refine x_aload_n (pc' := 25) 1 (dX1_isHidden 12 rfl rfl) rfl rfl rfl ?_
    obtain ⟨k6, hf⟩ := hf
    refine x_getJ (pc' := 28) (dX1_isHidden 13 rfl rfl) g125 q919 (Or.inl rfl) rfl (hf_of 12 k6 rfl (by decide) m12_125) ?_
    refine x_lcmp (pc' := 29) (dX1_isHidden 14 rfl rfl) rfl ?_
    refine x_if_ne (pc' := 32) (tgt := 53) (dX1_isHidden 15 rfl rfl) (by decide) rfl (fun c7 => ?_) (fun c7 => ?_)
    · replace hf := hf.2 c7
      replace hf := hf _ rfl
      refine x_iinc (pc' := 56) 2 (dX1_isHidden 27 rfl rfl) rfl (by rfl) (by decide) rfl rfl ?_
      refine x_goto (tgt := 2) (dX1_isHidden 28 rfl rfl) (by decide) ?_
      exact X.sub [1, 2, 0] rfl (by simp) hf
    · replace hf := hf.1 (Classical.not_not.mp c7)
      replace c7 := Classical.not_not.mp c7
      refine x_aload_n (pc' := 33) 0 (dX1_isHidden 16 rfl rfl) rfl rfl rfl ?_
      refine x_getR (pc' := 36) (dX1_isHidden 17 rfl rfl) g3 q961 (Or.inl rfl) rfl (hf_of 0 s0.1 rfl (by decide) m0_3) (s0.2 3 _ rfl rfl).1 ?_
      refine x_iload_n (pc' := 37) 2 (dX1_isHidden 18 rfl rfl) rfl rfl rfl ?_
      refine x_inv (pc' := 40) (ν := mX9_bound) (av := [_, _]) (st := []) rfl rfl (dX1_isHidden 19 rfl rfl) (Nat.le_of_ble_eq_true rfl) wX9_bound q223 (inv_V (k := 7) (dX1_isHidden 19 rfl rfl) q2800 q2801 q2802 wX9_bound (by decide) lX9_bound (by decide) s4.1) (exN (by decide)) rfl ?_
      refine C.mono hf (fun _ _ => KR.g (fun b11 h9 hf le10 => ?_))
      have k5 := leK le10 k5 (by decide)
      have k6 := leK le10 k6 (by decide)
      replace s0 := s0.le sc0 (le10)
      replace s4 := s4.le sc4 (le10)
      replace s6 := s6.le sc6 (le10)
      obtain ⟨k12, hf⟩ := hf
      refine x_getJ (pc' := 43) (dX1_isHidden 20 rfl rfl) g126 q922 (Or.inl rfl) rfl (hf_of 12 k12 rfl (by decide) m12_126) ?_
      refine x_aload_n (pc' := 44) 1 (dX1_isHidden 21 rfl rfl) rfl rfl rfl ?_
      refine x_getJ (pc' := 47) (dX1_isHidden 22 rfl rfl) g126 q922 (Or.inl rfl) rfl (hf_of 12 k6 rfl (by decide) m12_126) ?_
      refine x_lcmp (pc' := 48) (dX1_isHidden 23 rfl rfl) rfl ?_
      refine x_if_ne (pc' := 51) (tgt := 53) (dX1_isHidden 24 rfl rfl) (by decide) rfl (fun c13 => ?_) (fun c13 => ?_)
      · replace hf := hf.2 c13
        replace hf := hf _ rfl
        refine x_iinc (pc' := 56) 2 (dX1_isHidden 27 rfl rfl) rfl (by rfl) (by decide) rfl rfl ?_
        refine x_goto (tgt := 2) (dX1_isHidden 28 rfl rfl) (by decide) ?_
        exact X.sub [1, 2, 0] rfl (by simp) hf
      · replace hf := hf.1 (Classical.not_not.mp c13)
        replace c13 := Classical.not_not.mp c13
        refine x_iconst (pc' := 52) (v := 1) (dX1_isHidden 25 rfl rfl) (by decide) rfl ?_
        exact x_zret (ty := .boolean) (dX1_isHidden 26 rfl rfl) rfl (by decide) hf
theorem bX1_keep (G : Gh) (d : Nat) (h : AH) (Q : Outcome → AH → Prop) (p1 : Nat) (s0 : So 0 (gW G) h) (hf : ∀ h1, h1 = pR h (gW G 0) 12 (some p1) → (∀ h2, h2 = pI h1 (gW G 1013) 78 0 → (X G mX1_keep (d + 1) none [] 15 [(0, .ref (gW G 0)), (2, .int (0))] [] h2 Q))) : C G mX1_keep (d + 1) [.ref (gW G 0), .ref (p1)] h Q := by
  refine C.of_X (by decide +kernel) (Nat.le_of_ble_eq_true rfl) wX1_keep ?_
  show X G mX1_keep (d + 1) none [] 0 [(0, .ref (gW G 0)), (1, .ref (p1))] [] h Q
  refine x_aload_n (pc' := 1) 0 (dX1_keep 0 rfl rfl) rfl rfl rfl ?_
  refine x_aload_n (pc' := 2) 1 (dX1_keep 1 rfl rfl) rfl rfl rfl ?_
  refine x_putR (pc' := 5) (dX1_keep 2 rfl rfl) g12 q970 (Or.inl rfl) (Or.inl rfl) (Or.inl (by decide)) rfl (hf_of 0 s0.1 rfl (by decide) m0_12) (fun h1 e4 => ?_)
  replace hf := hf h1 e4
  replace s0 : So 0 (gW G) h1 := by rw [e4]; exact s0.le sc0 (pR_le (Or.inl rfl))
  refine x_aload_n (pc' := 6) 0 (dX1_keep 3 rfl rfl) rfl rfl rfl ?_
  refine x_getR (pc' := 9) (dX1_keep 4 rfl rfl) g13 q971 (Or.inl rfl) rfl (hf_of 0 s0.1 rfl (by decide) m0_13) (s0.2 9 _ rfl rfl).1 ?_
  refine x_iconst (pc' := 10) (v := 0) (dX1_keep 5 rfl rfl) (by decide) rfl ?_
  refine x_putI (pc' := 13) (dX1_keep 6 rfl rfl) g78 q576 (Or.inl rfl) (Or.inl rfl) (Or.inl (by decide)) rfl (hf_of 5 (s0.2 9 _ rfl rfl).2.1 rfl (by decide) m5_78) (fun h2 e3 => ?_)
  replace hf := hf h2 e3
  replace s0 : So 0 (gW G) h2 := by rw [e3]; exact s0.le sc0 (pI_le (Or.inl rfl))
  refine x_iconst (pc' := 14) (v := 0) (dX1_keep 7 rfl rfl) (by decide) rfl ?_
  refine x_istore_n (pc' := 15) (dX1_keep 8 rfl rfl) rfl (by decide) rfl rfl ?_
  exact X.sub [1, 0] rfl (by simp) hf
theorem bX1_keep_15 (G : Gh) (d : Nat) (h : AH) (Q : Outcome → AH → Prop) (l2 : Int32) (s0 : So 0 (gW G) h) (s2 : So 2 (gW G) h) (s4 : So 4 (gW G) h) (hf : ((fI h (gW G 4) 83) ≤ l2 → (∀ h2, h2 = pI h (gW G 0) 16 (fI h (gW G 4) 84) → (∀ h3, h3 = pI h2 (gW G 1014) 78 0 → (∀ x4 : Int32, x4 = fI h3 (gW G 4) 94 → (X G mX1_keep (d + 1) none [] 91 [(0, .ref (gW G 0)), (2, .int (x4))] [] h3 Q))))) ∧ (¬ ((fI h (gW G 4) 83) ≤ l2) → (C G mX9_bound d [.ref (gW G 4), .int (l2)] h (KR Q (fun b9 h7 => hK h7 b9 = 13 ∧ (C G mX3_write d [.ref (gW G 2), .int (fI h7 b9 127)] h7 (KR Q (fun b13 h11 => ∀ h14, h14 = pR h11 b9 130 (some b13) → (C G mX7_add d [.ref (gW G 1013), .ref (b9)] h14 (KV Q (fun h15 => ∀ x17 : Int32, x17 = l2 + 1 → (X G mX1_keep (d + 1) none [] 15 [(0, .ref (gW G 0)), (2, .int (x17))] [] h15 Q)))))))))))) : X G mX1_keep (d + 1) none [] 15 [(0, .ref (gW G 0)), (2, .int (l2))] [] h Q := by
  refine x_iload_n (pc' := 16) 1 (dX1_keep 9 rfl rfl) rfl rfl rfl ?_
  refine x_aload_n (pc' := 17) 0 (dX1_keep 10 rfl rfl) rfl rfl rfl ?_
  refine x_getR (pc' := 20) (dX1_keep 11 rfl rfl) g3 q961 (Or.inl rfl) rfl (hf_of 0 s0.1 rfl (by decide) m0_3) (s0.2 3 _ rfl rfl).1 ?_
  refine x_getI (pc' := 23) (dX1_keep 12 rfl rfl) g83 q691 (Or.inl rfl) rfl (hf_of 7 s4.1 rfl (by decide) m7_83) ?_
  refine x_icmp_ge (pc' := 26) (tgt := 64) (dX1_keep 13 rfl rfl) (by decide) rfl (fun c1 => ?_) (fun c1 => ?_)
  · replace hf := hf.1 c1
    refine x_aload_n (pc' := 65) 0 (dX1_keep 32 rfl rfl) rfl rfl rfl ?_
    refine x_aload_n (pc' := 66) 0 (dX1_keep 33 rfl rfl) rfl rfl rfl ?_
    refine x_getR (pc' := 69) (dX1_keep 34 rfl rfl) g3 q961 (Or.inl rfl) rfl (hf_of 0 s0.1 rfl (by decide) m0_3) (s0.2 3 _ rfl rfl).1 ?_
    refine x_getI (pc' := 72) (dX1_keep 35 rfl rfl) g84 q694 (Or.inl rfl) rfl (hf_of 7 s4.1 rfl (by decide) m7_84) ?_
    refine x_putI (pc' := 75) (dX1_keep 36 rfl rfl) g16 q974 (Or.inl rfl) (Or.inl rfl) (Or.inl (by decide)) rfl (hf_of 0 s0.1 rfl (by decide) m0_16) (fun h2 e6 => ?_)
    replace hf := hf h2 e6
    replace s0 : So 0 (gW G) h2 := by rw [e6]; exact s0.le sc0 (pI_le (Or.inl rfl))
    replace s2 : So 2 (gW G) h2 := by rw [e6]; exact s2.le sc2 (pI_le (Or.inl rfl))
    replace s4 : So 4 (gW G) h2 := by rw [e6]; exact s4.le sc4 (pI_le (Or.inl rfl))
    refine x_aload_n (pc' := 76) 0 (dX1_keep 37 rfl rfl) rfl rfl rfl ?_
    refine x_getR (pc' := 79) (dX1_keep 38 rfl rfl) g14 q972 (Or.inl rfl) rfl (hf_of 0 s0.1 rfl (by decide) m0_14) (s0.2 10 _ rfl rfl).1 ?_
    refine x_iconst (pc' := 80) (v := 0) (dX1_keep 39 rfl rfl) (by decide) rfl ?_
    refine x_putI (pc' := 83) (dX1_keep 40 rfl rfl) g78 q576 (Or.inl rfl) (Or.inl rfl) (Or.inl (by decide)) rfl (hf_of 5 (s0.2 10 _ rfl rfl).2.1 rfl (by decide) m5_78) (fun h3 e5 => ?_)
    replace hf := hf h3 e5
    replace s0 : So 0 (gW G) h3 := by rw [e5]; exact s0.le sc0 (pI_le (Or.inl rfl))
    replace s2 : So 2 (gW G) h3 := by rw [e5]; exact s2.le sc2 (pI_le (Or.inl rfl))
    replace s4 : So 4 (gW G) h3 := by rw [e5]; exact s4.le sc4 (pI_le (Or.inl rfl))
    refine x_aload_n (pc' := 84) 0 (dX1_keep 41 rfl rfl) rfl rfl rfl ?_
    refine x_getR (pc' := 87) (dX1_keep 42 rfl rfl) g3 q961 (Or.inl rfl) rfl (hf_of 0 s0.1 rfl (by decide) m0_3) (s0.2 3 _ rfl rfl).1 ?_
    refine x_getI (pc' := 90) (dX1_keep 43 rfl rfl) g94 q709 (Or.inl rfl) rfl (hf_of 7 s4.1 rfl (by decide) m7_94) ?_
    replace hf := hf _ rfl
    refine x_istore_n (pc' := 91) (dX1_keep 44 rfl rfl) rfl (by decide) rfl rfl ?_
    exact X.sub [1, 0] rfl (by simp) hf
  · replace hf := hf.2 c1
    refine x_aload_n (pc' := 27) 0 (dX1_keep 14 rfl rfl) rfl rfl rfl ?_
    refine x_getR (pc' := 30) (dX1_keep 15 rfl rfl) g3 q961 (Or.inl rfl) rfl (hf_of 0 s0.1 rfl (by decide) m0_3) (s0.2 3 _ rfl rfl).1 ?_
    refine x_iload_n (pc' := 31) 1 (dX1_keep 16 rfl rfl) rfl rfl rfl ?_
    refine x_inv (pc' := 34) (ν := mX9_bound) (av := [_, _]) (st := []) rfl rfl (dX1_keep 17 rfl rfl) (Nat.le_of_ble_eq_true rfl) wX9_bound q223 (inv_V (k := 7) (dX1_keep 17 rfl rfl) q2800 q2801 q2802 wX9_bound (by decide) lX9_bound (by decide) s4.1) (exN (by decide)) rfl ?_
    refine C.mono hf (fun _ _ => KR.g (fun b9 h7 hf le8 => ?_))
    replace s0 := s0.le sc0 (le8)
    replace s2 := s2.le sc2 (le8)
    replace s4 := s4.le sc4 (le8)
    refine x_astore_n (pc' := 35) (dX1_keep 18 rfl rfl) rfl (by decide) rfl rfl ?_
    refine x_aload_n (pc' := 36) 0 (dX1_keep 19 rfl rfl) rfl rfl rfl ?_
    refine x_aload_n (pc' := 37) 1 (dX1_keep 20 rfl rfl) rfl rfl rfl ?_
    refine x_getR (pc' := 40) (dX1_keep 21 rfl rfl) g1 q959 (Or.inl rfl) rfl (hf_of 0 s0.1 rfl (by decide) m0_1) (s0.2 1 _ rfl rfl).1 ?_
    refine x_aload_n (pc' := 41) 0 (dX1_keep 22 rfl rfl) rfl rfl rfl ?_
    obtain ⟨k10, hf⟩ := hf
    refine x_getI (pc' := 44) (dX1_keep 23 rfl rfl) g127 q926 (Or.inl rfl) rfl (hf_of 12 k10 rfl (by decide) m12_127) ?_
    refine x_inv (pc' := 47) (ν := mX3_write) (av := [_, _]) (st := [_]) rfl rfl (dX1_keep 24 rfl rfl) (Nat.le_of_ble_eq_true rfl) wX3_write q213 (inv_V (k := 2) (dX1_keep 24 rfl rfl) q2824 q2402 q2403 wX3_write (by decide) lX3_write (by decide) s2.1) (exN (by decide)) rfl ?_
    refine C.mono hf (fun _ _ => KR.g (fun b13 h11 hf le12 => ?_))
    have k10 := leK le12 k10 (by decide)
    replace s0 := s0.le sc0 (le12)
    replace s2 := s2.le sc2 (le12)
    replace s4 := s4.le sc4 (le12)
    refine x_putR (pc' := 50) (dX1_keep 25 rfl rfl) g130 q934 (Or.inl rfl) (Or.inl rfl) (Or.inl (by decide)) rfl (hf_of 12 k10 rfl (by decide) m12_130) (fun h14 e18 => ?_)
    replace hf := hf h14 e18
    replace k10 : hK h14 b9 = 13 := by rw [e18]; exact k10
    replace s0 : So 0 (gW G) h14 := by rw [e18]; exact s0.le sc0 (pR_le (Or.inl rfl))
    replace s2 : So 2 (gW G) h14 := by rw [e18]; exact s2.le sc2 (pR_le (Or.inl rfl))
    replace s4 : So 4 (gW G) h14 := by rw [e18]; exact s4.le sc4 (pR_le (Or.inl rfl))
    refine x_aload_n (pc' := 51) 1 (dX1_keep 26 rfl rfl) rfl rfl rfl ?_
    refine x_getR (pc' := 54) (dX1_keep 27 rfl rfl) g13 q971 (Or.inl rfl) rfl (hf_of 0 s0.1 rfl (by decide) m0_13) (s0.2 9 _ rfl rfl).1 ?_
    refine x_aload_n (pc' := 55) 0 (dX1_keep 28 rfl rfl) rfl rfl rfl ?_
    refine x_inv (pc' := 58) (ν := mX7_add) (av := [_, _]) (st := []) rfl rfl (dX1_keep 29 rfl rfl) (Nat.le_of_ble_eq_true rfl) wX7_add q221 (inv_V (k := 5) (dX1_keep 29 rfl rfl) q2825 q590 q591 wX7_add (by decide) lX7_add (by decide) (s0.2 9 _ rfl rfl).2.1) (exN (by decide)) rfl ?_
    refine C.mono hf (fun _ _ => KV.g (fun h15 hf le16 => ?_))
    have k10 := leK le16 k10 (by decide)
    replace s0 := s0.le sc0 (le16)
    replace s2 := s2.le sc2 (le16)
    replace s4 := s4.le sc4 (le16)
    replace hf := hf _ rfl
    refine x_iinc (pc' := 61) 2 (dX1_keep 30 rfl rfl) rfl (by rfl) (by decide) rfl rfl ?_
    refine x_goto (tgt := 15) (dX1_keep 31 rfl rfl) (by decide) ?_
    exact X.sub [2, 0] rfl (by simp) hf
theorem bX1_keep_91 (G : Gh) (d : Nat) (h : AH) (Q : Outcome → AH → Prop) (l2 : Int32) (s0 : So 0 (gW G) h) (s4 : So 4 (gW G) h) (hf : C G mX9_namesMany d [.ref (gW G 4)] h (KI Q (fun x3 h1 => (x3 ≤ l2 → (∀ h5, h5 = pI h1 (gW G 1015) 78 0 → (∀ x6 : Int32, x6 = fI h5 (gW G 4) 93 → (X G mX1_keep (d + 1) none [] 139 [(0, .ref (gW G 0)), (2, .int (x6))] [] h5 Q)))) ∧ (¬ (x3 ≤ l2) → (C G mX9_typeAt d [.ref (gW G 4), .int (l2)] h1 (KR Q (fun b10 h8 => C G mX7_add d [.ref (gW G 1014), .ref (b10)] h8 (KV Q (fun h11 => ∀ x13 : Int32, x13 = l2 + 1 → (X G mX1_keep (d + 1) none [] 91 [(0, .ref (gW G 0)), (2, .int (x13))] [] h11 Q)))))))))) : X G mX1_keep (d + 1) none [] 91 [(0, .ref (gW G 0)), (2, .int (l2))] [] h Q := by
  refine x_iload_n (pc' := 92) 1 (dX1_keep 45 rfl rfl) rfl rfl rfl ?_
  refine x_aload_n (pc' := 93) 0 (dX1_keep 46 rfl rfl) rfl rfl rfl ?_
  refine x_getR (pc' := 96) (dX1_keep 47 rfl rfl) g3 q961 (Or.inl rfl) rfl (hf_of 0 s0.1 rfl (by decide) m0_3) (s0.2 3 _ rfl rfl).1 ?_
  refine x_inv (pc' := 99) (ν := mX9_namesMany) (av := [_]) (st := [_]) rfl rfl (dX1_keep 48 rfl rfl) (Nat.le_of_ble_eq_true rfl) wX9_namesMany q223 (inv_V (k := 7) (dX1_keep 48 rfl rfl) q2826 q2029 q2030 wX9_namesMany (by decide) lX9_namesMany (by decide) s4.1) (exN (by decide)) rfl ?_
  refine C.mono hf (fun _ _ => KI.g (fun x3 h1 hf le2 => ?_))
  replace s0 := s0.le sc0 (le2)
  replace s4 := s4.le sc4 (le2)
  refine x_icmp_ge (pc' := 102) (tgt := 123) (dX1_keep 49 rfl rfl) (by decide) rfl (fun c4 => ?_) (fun c4 => ?_)
  · replace hf := hf.1 c4
    refine x_aload_n (pc' := 124) 0 (dX1_keep 59 rfl rfl) rfl rfl rfl ?_
    refine x_getR (pc' := 127) (dX1_keep 60 rfl rfl) g15 q973 (Or.inl rfl) rfl (hf_of 0 s0.1 rfl (by decide) m0_15) (s0.2 11 _ rfl rfl).1 ?_
    refine x_iconst (pc' := 128) (v := 0) (dX1_keep 61 rfl rfl) (by decide) rfl ?_
    refine x_putI (pc' := 131) (dX1_keep 62 rfl rfl) g78 q576 (Or.inl rfl) (Or.inl rfl) (Or.inl (by decide)) rfl (hf_of 5 (s0.2 11 _ rfl rfl).2.1 rfl (by decide) m5_78) (fun h5 e7 => ?_)
    replace hf := hf h5 e7
    replace s0 : So 0 (gW G) h5 := by rw [e7]; exact s0.le sc0 (pI_le (Or.inl rfl))
    replace s4 : So 4 (gW G) h5 := by rw [e7]; exact s4.le sc4 (pI_le (Or.inl rfl))
    refine x_aload_n (pc' := 132) 0 (dX1_keep 63 rfl rfl) rfl rfl rfl ?_
    refine x_getR (pc' := 135) (dX1_keep 64 rfl rfl) g3 q961 (Or.inl rfl) rfl (hf_of 0 s0.1 rfl (by decide) m0_3) (s0.2 3 _ rfl rfl).1 ?_
    refine x_getI (pc' := 138) (dX1_keep 65 rfl rfl) g93 q707 (Or.inl rfl) rfl (hf_of 7 s4.1 rfl (by decide) m7_93) ?_
    replace hf := hf _ rfl
    refine x_istore_n (pc' := 139) (dX1_keep 66 rfl rfl) rfl (by decide) rfl rfl ?_
    exact X.sub [1, 0] rfl (by simp) hf
  · replace hf := hf.2 c4
    refine x_aload_n (pc' := 103) 0 (dX1_keep 50 rfl rfl) rfl rfl rfl ?_
    refine x_getR (pc' := 106) (dX1_keep 51 rfl rfl) g14 q972 (Or.inl rfl) rfl (hf_of 0 s0.1 rfl (by decide) m0_14) (s0.2 10 _ rfl rfl).1 ?_
    refine x_aload_n (pc' := 107) 0 (dX1_keep 52 rfl rfl) rfl rfl rfl ?_
    refine x_getR (pc' := 110) (dX1_keep 53 rfl rfl) g3 q961 (Or.inl rfl) rfl (hf_of 0 s0.1 rfl (by decide) m0_3) (s0.2 3 _ rfl rfl).1 ?_
    refine x_iload_n (pc' := 111) 1 (dX1_keep 54 rfl rfl) rfl rfl rfl ?_
    refine x_inv (pc' := 114) (ν := mX9_typeAt) (av := [_, _]) (st := [_]) rfl rfl (dX1_keep 55 rfl rfl) (Nat.le_of_ble_eq_true rfl) wX9_typeAt q223 (inv_V (k := 7) (dX1_keep 55 rfl rfl) q2827 q2828 q2829 wX9_typeAt (by decide) lX9_typeAt (by decide) s4.1) (exN (by decide)) rfl ?_
    refine C.mono hf (fun _ _ => KR.g (fun b10 h8 hf le9 => ?_))
    replace s0 := s0.le sc0 (le9)
    replace s4 := s4.le sc4 (le9)
    refine x_inv (pc' := 117) (ν := mX7_add) (av := [_, _]) (st := []) rfl rfl (dX1_keep 56 rfl rfl) (Nat.le_of_ble_eq_true rfl) wX7_add q221 (inv_V (k := 5) (dX1_keep 56 rfl rfl) q2825 q590 q591 wX7_add (by decide) lX7_add (by decide) (s0.2 10 _ rfl rfl).2.1) (exN (by decide)) rfl ?_
    refine C.mono hf (fun _ _ => KV.g (fun h11 hf le12 => ?_))
    replace s0 := s0.le sc0 (le12)
    replace s4 := s4.le sc4 (le12)
    replace hf := hf _ rfl
    refine x_iinc (pc' := 120) 1 (dX1_keep 57 rfl rfl) rfl (by rfl) (by decide) rfl rfl ?_
    refine x_goto (tgt := 91) (dX1_keep 58 rfl rfl) (by decide) ?_
    exact X.sub [1, 0] rfl (by simp) hf
theorem bX1_keep_139 (G : Gh) (d : Nat) (h : AH) (Q : Outcome → AH → Prop) (l2 : Int32) (s0 : So 0 (gW G) h) (s2 : So 2 (gW G) h) (s4 : So 4 (gW G) h) (s5 : So 5 (gW G) h) (hf : C G mX9_consMany d [.ref (gW G 4)] h (KI Q (fun x3 h1 => (x3 ≤ l2 → (C G mX9_forget d [.ref (gW G 4)] h1 (KV Q (fun h5 => ∀ h7, h7 = pI h5 (gW G 0) 20 (fI h5 (gW G 2) 41) → (∀ h8, h8 = pI h7 (gW G 0) 19 (fI h7 (gW G 5) 106) → (∃ b9, fR h8 (gW G 0) 17 = some b9 ∧ (hK h8 b9 = 1000 ∧ (((fI h8 (gW G 0) 19) ≤ (Int32.ofNat (hL h8 b9)) → (X G mX1_keep (d + 1) none [] 238 [(0, .ref (gW G 0)), (2, .int (0))] [] h8 Q)) ∧ (¬ ((fI h8 (gW G 0) 19) ≤ (Int32.ofNat (hL h8 b9))) → ((¬ (2 * (fI h8 (gW G 0) 19) : Int32) < 0) ∧ (hc h8 + 1 ≤ MC) ∧ (hs h8 + (2 * (fI h8 (gW G 0) 19) : Int32).toNatClampNeg ≤ MS) ∧ ∀ q13, hK h8 q13 = 0 → ∀ h15, h15 = nA h8 q13 0 (2 * (fI h8 (gW G 0) 19) : Int32).toNatClampNeg → (∀ h19, h19 = pR h15 (gW G 0) 17 (some q13) → ((¬ (2 * (fI h19 (gW G 0) 19) : Int32) < 0) ∧ (hc h19 + 1 ≤ MC) ∧ (hs h19 + (2 * (fI h19 (gW G 0) 19) : Int32).toNatClampNeg ≤ MS) ∧ ∀ q20, hK h19 q20 = 0 → ∀ h22, h22 = nA h19 q20 0 (2 * (fI h19 (gW G 0) 19) : Int32).toNatClampNeg → (∀ h26, h26 = pR h22 (gW G 0) 18 (some q20) → (X G mX1_keep (d + 1) none [] 238 [(0, .ref (gW G 0)), (2, .int (0))] [] h26 Q)))))))))))))) ∧ (¬ (x3 ≤ l2) → (C G mX9_conAt d [.ref (gW G 4), .int (l2)] h1 (KR Q (fun b33 h31 => C G mX7_add d [.ref (gW G 1015), .ref (b33)] h31 (KV Q (fun h34 => ∀ x36 : Int32, x36 = l2 + 1 → (X G mX1_keep (d + 1) none [] 139 [(0, .ref (gW G 0)), (2, .int (x36))] [] h34 Q)))))))))) : X G mX1_keep (d + 1) none [] 139 [(0, .ref (gW G 0)), (2, .int (l2))] [] h Q := by
  refine x_iload_n (pc' := 140) 1 (dX1_keep 67 rfl rfl) rfl rfl rfl ?_
  refine x_aload_n (pc' := 141) 0 (dX1_keep 68 rfl rfl) rfl rfl rfl ?_
  refine x_getR (pc' := 144) (dX1_keep 69 rfl rfl) g3 q961 (Or.inl rfl) rfl (hf_of 0 s0.1 rfl (by decide) m0_3) (s0.2 3 _ rfl rfl).1 ?_
  refine x_inv (pc' := 147) (ν := mX9_consMany) (av := [_]) (st := [_]) rfl rfl (dX1_keep 70 rfl rfl) (Nat.le_of_ble_eq_true rfl) wX9_consMany q223 (inv_V (k := 7) (dX1_keep 70 rfl rfl) q2831 q2033 q2034 wX9_consMany (by decide) lX9_consMany (by decide) s4.1) (exN (by decide)) rfl ?_
  refine C.mono hf (fun _ _ => KI.g (fun x3 h1 hf le2 => ?_))
  replace s0 := s0.le sc0 (le2)
  replace s2 := s2.le sc2 (le2)
  replace s4 := s4.le sc4 (le2)
  replace s5 := s5.le sc5 (le2)
  refine x_icmp_ge (pc' := 150) (tgt := 171) (dX1_keep 71 rfl rfl) (by decide) rfl (fun c4 => ?_) (fun c4 => ?_)
  · replace hf := hf.1 c4
    refine x_aload_n (pc' := 172) 0 (dX1_keep 81 rfl rfl) rfl rfl rfl ?_
    refine x_getR (pc' := 175) (dX1_keep 82 rfl rfl) g3 q961 (Or.inl rfl) rfl (hf_of 0 s0.1 rfl (by decide) m0_3) (s0.2 3 _ rfl rfl).1 ?_
    refine x_inv (pc' := 178) (ν := mX9_forget) (av := [_]) (st := []) rfl rfl (dX1_keep 83 rfl rfl) (Nat.le_of_ble_eq_true rfl) wX9_forget q223 (inv_V (k := 7) (dX1_keep 83 rfl rfl) q2836 q2837 q2838 wX9_forget (by decide) lX9_forget (by decide) s4.1) (exN (by decide)) rfl ?_
    refine C.mono hf (fun _ _ => KV.g (fun h5 hf le6 => ?_))
    replace s0 := s0.le sc0 (le6)
    replace s2 := s2.le sc2 (le6)
    replace s4 := s4.le sc4 (le6)
    replace s5 := s5.le sc5 (le6)
    refine x_aload_n (pc' := 179) 0 (dX1_keep 84 rfl rfl) rfl rfl rfl ?_
    refine x_aload_n (pc' := 180) 0 (dX1_keep 85 rfl rfl) rfl rfl rfl ?_
    refine x_getR (pc' := 183) (dX1_keep 86 rfl rfl) g1 q959 (Or.inl rfl) rfl (hf_of 0 s0.1 rfl (by decide) m0_1) (s0.2 1 _ rfl rfl).1 ?_
    refine x_getI (pc' := 186) (dX1_keep 87 rfl rfl) g41 q490 (Or.inl rfl) rfl (hf_of 2 s2.1 rfl (by decide) m2_41) ?_
    refine x_putI (pc' := 189) (dX1_keep 88 rfl rfl) g20 q978 (Or.inl rfl) (Or.inl rfl) (Or.inl (by decide)) rfl (hf_of 0 s0.1 rfl (by decide) m0_20) (fun h7 e30 => ?_)
    replace hf := hf h7 e30
    replace s0 : So 0 (gW G) h7 := by rw [e30]; exact s0.le sc0 (pI_le (Or.inl rfl))
    replace s2 : So 2 (gW G) h7 := by rw [e30]; exact s2.le sc2 (pI_le (Or.inl rfl))
    replace s4 : So 4 (gW G) h7 := by rw [e30]; exact s4.le sc4 (pI_le (Or.inl rfl))
    replace s5 : So 5 (gW G) h7 := by rw [e30]; exact s5.le sc5 (pI_le (Or.inl rfl))
    refine x_aload_n (pc' := 190) 0 (dX1_keep 89 rfl rfl) rfl rfl rfl ?_
    refine x_aload_n (pc' := 191) 0 (dX1_keep 90 rfl rfl) rfl rfl rfl ?_
    refine x_getR (pc' := 194) (dX1_keep 91 rfl rfl) g4 q962 (Or.inl rfl) rfl (hf_of 0 s0.1 rfl (by decide) m0_4) (s0.2 4 _ rfl rfl).1 ?_
    refine x_getI (pc' := 197) (dX1_keep 92 rfl rfl) g106 q762 (Or.inl rfl) rfl (hf_of 8 s5.1 rfl (by decide) m8_106) ?_
    refine x_putI (pc' := 200) (dX1_keep 93 rfl rfl) g19 q977 (Or.inl rfl) (Or.inl rfl) (Or.inl (by decide)) rfl (hf_of 0 s0.1 rfl (by decide) m0_19) (fun h8 e29 => ?_)
    replace hf := hf h8 e29
    replace s0 : So 0 (gW G) h8 := by rw [e29]; exact s0.le sc0 (pI_le (Or.inl rfl))
    replace s2 : So 2 (gW G) h8 := by rw [e29]; exact s2.le sc2 (pI_le (Or.inl rfl))
    replace s4 : So 4 (gW G) h8 := by rw [e29]; exact s4.le sc4 (pI_le (Or.inl rfl))
    replace s5 : So 5 (gW G) h8 := by rw [e29]; exact s5.le sc5 (pI_le (Or.inl rfl))
    refine x_aload_n (pc' := 201) 0 (dX1_keep 94 rfl rfl) rfl rfl rfl ?_
    obtain ⟨b9, e10, hf⟩ := hf
    refine x_getR (pc' := 204) (dX1_keep 95 rfl rfl) g17 q975 (Or.inl rfl) rfl (hf_of 0 s0.1 rfl (by decide) m0_17) e10 ?_
    obtain ⟨k11, hf⟩ := hf
    refine x_alen (pc' := 205) (t := 0) (ty := .int) (dX1_keep 96 rfl rfl) rfl rfl k11 ?_
    refine x_aload_n (pc' := 206) 0 (dX1_keep 97 rfl rfl) rfl rfl rfl ?_
    refine x_getI (pc' := 209) (dX1_keep 98 rfl rfl) g19 q977 (Or.inl rfl) rfl (hf_of 0 s0.1 rfl (by decide) m0_19) ?_
    refine x_icmp_ge (pc' := 212) (tgt := 236) (dX1_keep 99 rfl rfl) (by decide) rfl (fun c12 => ?_) (fun c12 => ?_)
    · replace hf := hf.1 c12
      refine x_iconst (pc' := 237) (v := 0) (dX1_keep 114 rfl rfl) (by decide) rfl ?_
      refine x_istore_n (pc' := 238) (dX1_keep 115 rfl rfl) rfl (by decide) rfl rfl ?_
      exact X.sub [1, 0] rfl (by simp) hf
    · replace hf := hf.2 c12
      refine x_aload_n (pc' := 213) 0 (dX1_keep 100 rfl rfl) rfl rfl rfl ?_
      refine x_iconst (pc' := 214) (v := 2) (dX1_keep 101 rfl rfl) (by decide) rfl ?_
      refine x_aload_n (pc' := 215) 0 (dX1_keep 102 rfl rfl) rfl rfl rfl ?_
      refine x_getI (pc' := 218) (dX1_keep 103 rfl rfl) g19 q977 (Or.inl rfl) rfl (hf_of 0 s0.1 rfl (by decide) m0_19) ?_
      refine x_imul (pc' := 219) (dX1_keep 104 rfl rfl) rfl ?_
      obtain ⟨z17, n1, n2, hf⟩ := hf
      refine x_newa0 (pc' := 221) (dX1_keep 105 rfl rfl) rfl z17 (by decide) n1 n2 (fun q13 h15 k14 e16 => ?_)
      replace hf := hf q13 k14 h15 e16
      replace k11 : hK h15 b9 = 1000 := by rw [e16]; exact kNA k11 (by decide) k14
      replace s0 : So 0 (gW G) h15 := by rw [e16]; exact s0.le sc0 (nA_le k14)
      replace s2 : So 2 (gW G) h15 := by rw [e16]; exact s2.le sc2 (nA_le k14)
      replace s4 : So 4 (gW G) h15 := by rw [e16]; exact s4.le sc4 (nA_le k14)
      replace s5 : So 5 (gW G) h15 := by rw [e16]; exact s5.le sc5 (nA_le k14)
      have k18 : hK h15 q13 = 1000 := by rw [e16]; exact kNAs
      refine x_putR (pc' := 224) (dX1_keep 106 rfl rfl) g17 q975 (Or.inl rfl) (Or.inl rfl) (Or.inl (by decide)) rfl (hf_of 0 s0.1 rfl (by decide) m0_17) (fun h19 e28 => ?_)
      replace hf := hf h19 e28
      replace k11 : hK h19 b9 = 1000 := by rw [e28]; exact k11
      replace k18 : hK h19 q13 = 1000 := by rw [e28]; exact k18
      replace s0 : So 0 (gW G) h19 := by rw [e28]; exact s0.le sc0 (pR_le (Or.inl rfl))
      replace s2 : So 2 (gW G) h19 := by rw [e28]; exact s2.le sc2 (pR_le (Or.inl rfl))
      replace s4 : So 4 (gW G) h19 := by rw [e28]; exact s4.le sc4 (pR_le (Or.inl rfl))
      replace s5 : So 5 (gW G) h19 := by rw [e28]; exact s5.le sc5 (pR_le (Or.inl rfl))
      refine x_aload_n (pc' := 225) 0 (dX1_keep 107 rfl rfl) rfl rfl rfl ?_
      refine x_iconst (pc' := 226) (v := 2) (dX1_keep 108 rfl rfl) (by decide) rfl ?_
      refine x_aload_n (pc' := 227) 0 (dX1_keep 109 rfl rfl) rfl rfl rfl ?_
      refine x_getI (pc' := 230) (dX1_keep 110 rfl rfl) g19 q977 (Or.inl rfl) rfl (hf_of 0 s0.1 rfl (by decide) m0_19) ?_
      refine x_imul (pc' := 231) (dX1_keep 111 rfl rfl) rfl ?_
      obtain ⟨z24, n1, n2, hf⟩ := hf
      refine x_newa0 (pc' := 233) (dX1_keep 112 rfl rfl) rfl z24 (by decide) n1 n2 (fun q20 h22 k21 e23 => ?_)
      replace hf := hf q20 k21 h22 e23
      replace k11 : hK h22 b9 = 1000 := by rw [e23]; exact kNA k11 (by decide) k21
      replace k18 : hK h22 q13 = 1000 := by rw [e23]; exact kNA k18 (by decide) k21
      replace s0 : So 0 (gW G) h22 := by rw [e23]; exact s0.le sc0 (nA_le k21)
      replace s2 : So 2 (gW G) h22 := by rw [e23]; exact s2.le sc2 (nA_le k21)
      replace s4 : So 4 (gW G) h22 := by rw [e23]; exact s4.le sc4 (nA_le k21)
      replace s5 : So 5 (gW G) h22 := by rw [e23]; exact s5.le sc5 (nA_le k21)
      have k25 : hK h22 q20 = 1000 := by rw [e23]; exact kNAs
      refine x_putR (pc' := 236) (dX1_keep 113 rfl rfl) g18 q976 (Or.inl rfl) (Or.inl rfl) (Or.inl (by decide)) rfl (hf_of 0 s0.1 rfl (by decide) m0_18) (fun h26 e27 => ?_)
      replace hf := hf h26 e27
      replace k11 : hK h26 b9 = 1000 := by rw [e27]; exact k11
      replace k18 : hK h26 q13 = 1000 := by rw [e27]; exact k18
      replace k25 : hK h26 q20 = 1000 := by rw [e27]; exact k25
      replace s0 : So 0 (gW G) h26 := by rw [e27]; exact s0.le sc0 (pR_le (Or.inl rfl))
      replace s2 : So 2 (gW G) h26 := by rw [e27]; exact s2.le sc2 (pR_le (Or.inl rfl))
      replace s4 : So 4 (gW G) h26 := by rw [e27]; exact s4.le sc4 (pR_le (Or.inl rfl))
      replace s5 : So 5 (gW G) h26 := by rw [e27]; exact s5.le sc5 (pR_le (Or.inl rfl))
      refine x_iconst (pc' := 237) (v := 0) (dX1_keep 114 rfl rfl) (by decide) rfl ?_
      refine x_istore_n (pc' := 238) (dX1_keep 115 rfl rfl) rfl (by decide) rfl rfl ?_
      exact X.sub [1, 0] rfl (by simp) hf
  · replace hf := hf.2 c4
    refine x_aload_n (pc' := 151) 0 (dX1_keep 72 rfl rfl) rfl rfl rfl ?_
    refine x_getR (pc' := 154) (dX1_keep 73 rfl rfl) g15 q973 (Or.inl rfl) rfl (hf_of 0 s0.1 rfl (by decide) m0_15) (s0.2 11 _ rfl rfl).1 ?_
    refine x_aload_n (pc' := 155) 0 (dX1_keep 74 rfl rfl) rfl rfl rfl ?_
    refine x_getR (pc' := 158) (dX1_keep 75 rfl rfl) g3 q961 (Or.inl rfl) rfl (hf_of 0 s0.1 rfl (by decide) m0_3) (s0.2 3 _ rfl rfl).1 ?_
    refine x_iload_n (pc' := 159) 1 (dX1_keep 76 rfl rfl) rfl rfl rfl ?_
    refine x_inv (pc' := 162) (ν := mX9_conAt) (av := [_, _]) (st := [_]) rfl rfl (dX1_keep 77 rfl rfl) (Nat.le_of_ble_eq_true rfl) wX9_conAt q223 (inv_V (k := 7) (dX1_keep 77 rfl rfl) q2832 q2833 q2834 wX9_conAt (by decide) lX9_conAt (by decide) s4.1) (exN (by decide)) rfl ?_
    refine C.mono hf (fun _ _ => KR.g (fun b33 h31 hf le32 => ?_))
    replace s0 := s0.le sc0 (le32)
    replace s2 := s2.le sc2 (le32)
    replace s4 := s4.le sc4 (le32)
    replace s5 := s5.le sc5 (le32)
    refine x_inv (pc' := 165) (ν := mX7_add) (av := [_, _]) (st := []) rfl rfl (dX1_keep 78 rfl rfl) (Nat.le_of_ble_eq_true rfl) wX7_add q221 (inv_V (k := 5) (dX1_keep 78 rfl rfl) q2825 q590 q591 wX7_add (by decide) lX7_add (by decide) (s0.2 11 _ rfl rfl).2.1) (exN (by decide)) rfl ?_
    refine C.mono hf (fun _ _ => KV.g (fun h34 hf le35 => ?_))
    replace s0 := s0.le sc0 (le35)
    replace s2 := s2.le sc2 (le35)
    replace s4 := s4.le sc4 (le35)
    replace s5 := s5.le sc5 (le35)
    replace hf := hf _ rfl
    refine x_iinc (pc' := 168) 1 (dX1_keep 79 rfl rfl) rfl (by rfl) (by decide) rfl rfl ?_
    refine x_goto (tgt := 139) (dX1_keep 80 rfl rfl) (by decide) ?_
    exact X.sub [1, 0] rfl (by simp) hf
theorem bX1_keep_238 (G : Gh) (d : Nat) (h : AH) (Q : Outcome → AH → Prop) (l2 : Int32) (s0 : So 0 (gW G) h) (s5 : So 5 (gW G) h) (hf : ((fI h (gW G 0) 19) ≤ l2 → (Q (.returned none) h)) ∧ (¬ ((fI h (gW G 0) 19) ≤ l2) → (∃ b2, fR h (gW G 0) 17 = some b2 ∧ (C G mX10_place d [.ref (gW G 5), .int (l2)] h (KI Q (fun x6 h4 => hK h4 b2 = 1000 ∧ Ns (gW G) b2 ∧ vp_in l2 (hL h4 b2) ∧ ∀ h9, h9 = sI h4 b2 l2.toNatClampNeg x6 → (∃ b12, fR h9 (gW G 0) 18 = some b12 ∧ (C G mX10_what d [.ref (gW G 5), .int (l2)] h9 (KI Q (fun x16 h14 => hK h14 b12 = 1000 ∧ Ns (gW G) b12 ∧ vp_in l2 (hL h14 b12) ∧ ∀ h19, h19 = sI h14 b12 l2.toNatClampNeg x16 → (∀ x22 : Int32, x22 = l2 + 1 → (X G mX1_keep (d + 1) none [] 238 [(0, .ref (gW G 0)), (2, .int (x22))] [] h19 Q)))))))))))) : X G mX1_keep (d + 1) none [] 238 [(0, .ref (gW G 0)), (2, .int (l2))] [] h Q := by
  refine x_iload_n (pc' := 239) 1 (dX1_keep 116 rfl rfl) rfl rfl rfl ?_
  refine x_aload_n (pc' := 240) 0 (dX1_keep 117 rfl rfl) rfl rfl rfl ?_
  refine x_getI (pc' := 243) (dX1_keep 118 rfl rfl) g19 q977 (Or.inl rfl) rfl (hf_of 0 s0.1 rfl (by decide) m0_19) ?_
  refine x_icmp_ge (pc' := 246) (tgt := 280) (dX1_keep 119 rfl rfl) (by decide) rfl (fun c1 => ?_) (fun c1 => ?_)
  · replace hf := hf.1 c1
    exact x_vret (dX1_keep 138 rfl rfl) rfl hf
  · replace hf := hf.2 c1
    refine x_aload_n (pc' := 247) 0 (dX1_keep 120 rfl rfl) rfl rfl rfl ?_
    obtain ⟨b2, e3, hf⟩ := hf
    refine x_getR (pc' := 250) (dX1_keep 121 rfl rfl) g17 q975 (Or.inl rfl) rfl (hf_of 0 s0.1 rfl (by decide) m0_17) e3 ?_
    refine x_iload_n (pc' := 251) 1 (dX1_keep 122 rfl rfl) rfl rfl rfl ?_
    refine x_aload_n (pc' := 252) 0 (dX1_keep 123 rfl rfl) rfl rfl rfl ?_
    refine x_getR (pc' := 255) (dX1_keep 124 rfl rfl) g4 q962 (Or.inl rfl) rfl (hf_of 0 s0.1 rfl (by decide) m0_4) (s0.2 4 _ rfl rfl).1 ?_
    refine x_iload_n (pc' := 256) 1 (dX1_keep 125 rfl rfl) rfl rfl rfl ?_
    refine x_inv (pc' := 259) (ν := mX10_place) (av := [_, _]) (st := [_, _]) rfl rfl (dX1_keep 126 rfl rfl) (Nat.le_of_ble_eq_true rfl) wX10_place q224 (inv_V (k := 8) (dX1_keep 126 rfl rfl) q2840 q2841 q2842 wX10_place (by decide) lX10_place (by decide) s5.1) (exN (by decide)) rfl ?_
    refine C.mono hf (fun _ _ => KI.g (fun x6 h4 hf le5 => ?_))
    replace s0 := s0.le sc0 (le5)
    replace s5 := s5.le sc5 (le5)
    obtain ⟨k7, hf⟩ := hf
    obtain ⟨n11, hf⟩ := hf
    obtain ⟨i8, hf⟩ := hf
    refine x_iast (pc' := 260) (dX1_keep 127 rfl rfl) rfl k7 (Or.inr ⟨n11, by decide⟩) i8 (fun h9 e10 => ?_)
    replace hf := hf h9 e10
    replace k7 : hK h9 b2 = 1000 := by rw [e10]; exact k7
    replace s0 : So 0 (gW G) h9 := by rw [e10]; exact s0.le sc0 (sI_le )
    replace s5 : So 5 (gW G) h9 := by rw [e10]; exact s5.le sc5 (sI_le )
    refine x_aload_n (pc' := 261) 0 (dX1_keep 128 rfl rfl) rfl rfl rfl ?_
    obtain ⟨b12, e13, hf⟩ := hf
    refine x_getR (pc' := 264) (dX1_keep 129 rfl rfl) g18 q976 (Or.inl rfl) rfl (hf_of 0 s0.1 rfl (by decide) m0_18) e13 ?_
    refine x_iload_n (pc' := 265) 1 (dX1_keep 130 rfl rfl) rfl rfl rfl ?_
    refine x_aload_n (pc' := 266) 0 (dX1_keep 131 rfl rfl) rfl rfl rfl ?_
    refine x_getR (pc' := 269) (dX1_keep 132 rfl rfl) g4 q962 (Or.inl rfl) rfl (hf_of 0 s0.1 rfl (by decide) m0_4) (s0.2 4 _ rfl rfl).1 ?_
    refine x_iload_n (pc' := 270) 1 (dX1_keep 133 rfl rfl) rfl rfl rfl ?_
    refine x_inv (pc' := 273) (ν := mX10_what) (av := [_, _]) (st := [_, _]) rfl rfl (dX1_keep 134 rfl rfl) (Nat.le_of_ble_eq_true rfl) wX10_what q224 (inv_V (k := 8) (dX1_keep 134 rfl rfl) q2844 q2845 q2846 wX10_what (by decide) lX10_what (by decide) s5.1) (exN (by decide)) rfl ?_
    refine C.mono hf (fun _ _ => KI.g (fun x16 h14 hf le15 => ?_))
    have k7 := leK le15 k7 (by decide)
    replace s0 := s0.le sc0 (le15)
    replace s5 := s5.le sc5 (le15)
    obtain ⟨k17, hf⟩ := hf
    obtain ⟨n21, hf⟩ := hf
    obtain ⟨i18, hf⟩ := hf
    refine x_iast (pc' := 274) (dX1_keep 135 rfl rfl) rfl k17 (Or.inr ⟨n21, by decide⟩) i18 (fun h19 e20 => ?_)
    replace hf := hf h19 e20
    replace k7 : hK h19 b2 = 1000 := by rw [e20]; exact k7
    replace k17 : hK h19 b12 = 1000 := by rw [e20]; exact k17
    replace s0 : So 0 (gW G) h19 := by rw [e20]; exact s0.le sc0 (sI_le )
    replace s5 : So 5 (gW G) h19 := by rw [e20]; exact s5.le sc5 (sI_le )
    replace hf := hf _ rfl
    refine x_iinc (pc' := 277) 1 (dX1_keep 136 rfl rfl) rfl (by rfl) (by decide) rfl rfl ?_
    refine x_goto (tgt := 238) (dX1_keep 137 rfl rfl) (by decide) ?_
    exact X.sub [1, 0] rfl (by simp) hf
theorem bX1_run (G : Gh) (d : Nat) (h : AH) (Q : Outcome → AH → Prop) (p1 : Int32) (s0 : So 0 (gW G) h) (s3 : So 3 (gW G) h) (hf : (p1 < 1 → (C G mX1_check d [.int (0)] h (KV Q (fun h2 => OC (fR h2 (gW G 0) 12) ((hc h2 + 1 ≤ MC) ∧ (hs h2 + 6 ≤ MS) ∧ ∀ q6, hK h2 q6 = 0 → ∀ h8, h8 = nO h2 q6 54 → (C G mJ11_init d [.ref (q6)] h8 (KV Q (fun h11 => Q (.threw q6) h11)))) (fun b4 => (((fI h2 (gW G 3) 71) + p1) ≤ 120000 → (OC (fR h2 (gW G 0) 12) (∀ h16, h16 = pR h2 (gW G 0) 12 none → (C G mX6_run d [.ref (gW G 3), .null, .int (p1)] h16 (KI Q (fun x19 h17 => (x19 = 0 → (X G mX1_run (d + 1) none [] 79 [(0, .ref (gW G 0)), (4, .int (0))] [] h17 Q)) ∧ (¬ x19 = 0 → (Q (.returned (some (.int x19))) h17)))))) (fun b14 => ∀ h22, h22 = pR h2 (gW G 0) 12 none → (C G mX6_run d [.ref (gW G 3), .ref (b14), .int (p1)] h22 (KI Q (fun x25 h23 => (x25 = 0 → (X G mX1_run (d + 1) none [] 79 [(0, .ref (gW G 0)), (4, .int (0))] [] h23 Q)) ∧ (¬ x25 = 0 → (Q (.returned (some (.int x25))) h23)))))))) ∧ (¬ (((fI h2 (gW G 3) 71) + p1) ≤ 120000) → ((hc h2 + 1 ≤ MC) ∧ (hs h2 + 6 ≤ MS) ∧ ∀ q28, hK h2 q28 = 0 → ∀ h30, h30 = nO h2 q28 54 → (C G mJ11_init d [.ref (q28)] h30 (KV Q (fun h33 => Q (.threw q28) h33)))))))))) ∧ (¬ (p1 < 1) → ((30000 < p1 → (C G mX1_check d [.int (0)] h (KV Q (fun h36 => OC (fR h36 (gW G 0) 12) ((hc h36 + 1 ≤ MC) ∧ (hs h36 + 6 ≤ MS) ∧ ∀ q40, hK h36 q40 = 0 → ∀ h42, h42 = nO h36 q40 54 → (C G mJ11_init d [.ref (q40)] h42 (KV Q (fun h45 => Q (.threw q40) h45)))) (fun b38 => (((fI h36 (gW G 3) 71) + p1) ≤ 120000 → (OC (fR h36 (gW G 0) 12) (∀ h50, h50 = pR h36 (gW G 0) 12 none → (C G mX6_run d [.ref (gW G 3), .null, .int (p1)] h50 (KI Q (fun x53 h51 => (x53 = 0 → (X G mX1_run (d + 1) none [] 79 [(0, .ref (gW G 0)), (4, .int (0))] [] h51 Q)) ∧ (¬ x53 = 0 → (Q (.returned (some (.int x53))) h51)))))) (fun b48 => ∀ h56, h56 = pR h36 (gW G 0) 12 none → (C G mX6_run d [.ref (gW G 3), .ref (b48), .int (p1)] h56 (KI Q (fun x59 h57 => (x59 = 0 → (X G mX1_run (d + 1) none [] 79 [(0, .ref (gW G 0)), (4, .int (0))] [] h57 Q)) ∧ (¬ x59 = 0 → (Q (.returned (some (.int x59))) h57)))))))) ∧ (¬ (((fI h36 (gW G 3) 71) + p1) ≤ 120000) → ((hc h36 + 1 ≤ MC) ∧ (hs h36 + 6 ≤ MS) ∧ ∀ q62, hK h36 q62 = 0 → ∀ h64, h64 = nO h36 q62 54 → (C G mJ11_init d [.ref (q62)] h64 (KV Q (fun h67 => Q (.threw q62) h67)))))))))) ∧ (¬ (30000 < p1) → (C G mX1_check d [.int (1)] h (KV Q (fun h69 => OC (fR h69 (gW G 0) 12) ((hc h69 + 1 ≤ MC) ∧ (hs h69 + 6 ≤ MS) ∧ ∀ q73, hK h69 q73 = 0 → ∀ h75, h75 = nO h69 q73 54 → (C G mJ11_init d [.ref (q73)] h75 (KV Q (fun h78 => Q (.threw q73) h78)))) (fun b71 => (((fI h69 (gW G 3) 71) + p1) ≤ 120000 → (OC (fR h69 (gW G 0) 12) (∀ h83, h83 = pR h69 (gW G 0) 12 none → (C G mX6_run d [.ref (gW G 3), .null, .int (p1)] h83 (KI Q (fun x86 h84 => (x86 = 0 → (X G mX1_run (d + 1) none [] 79 [(0, .ref (gW G 0)), (4, .int (0))] [] h84 Q)) ∧ (¬ x86 = 0 → (Q (.returned (some (.int x86))) h84)))))) (fun b81 => ∀ h89, h89 = pR h69 (gW G 0) 12 none → (C G mX6_run d [.ref (gW G 3), .ref (b81), .int (p1)] h89 (KI Q (fun x92 h90 => (x92 = 0 → (X G mX1_run (d + 1) none [] 79 [(0, .ref (gW G 0)), (4, .int (0))] [] h90 Q)) ∧ (¬ x92 = 0 → (Q (.returned (some (.int x92))) h90)))))))) ∧ (¬ (((fI h69 (gW G 3) 71) + p1) ≤ 120000) → ((hc h69 + 1 ≤ MC) ∧ (hs h69 + 6 ≤ MS) ∧ ∀ q95, hK h69 q95 = 0 → ∀ h97, h97 = nO h69 q95 54 → (C G mJ11_init d [.ref (q95)] h97 (KV Q (fun h100 => Q (.threw q95) h100))))))))))))) : C G mX1_run (d + 1) [.ref (gW G 0), .int (p1)] h Q := by
  refine C.of_X (by decide +kernel) (Nat.le_of_ble_eq_true rfl) wX1_run ?_
  show X G mX1_run (d + 1) none [] 0 [(0, .ref (gW G 0)), (1, .int (p1))] [] h Q
  refine x_iload_n (pc' := 1) 1 (dX1_run 0 rfl rfl) rfl rfl rfl ?_
  refine x_iconst (pc' := 2) (v := 1) (dX1_run 1 rfl rfl) (by decide) rfl ?_
  refine x_icmp_lt (pc' := 5) (tgt := 16) (dX1_run 2 rfl rfl) (by decide) rfl (fun c1 => ?_) (fun c1 => ?_)
  · replace hf := hf.1 c1
    refine x_iconst (pc' := 17) (v := 0) (dX1_run 8 rfl rfl) (by decide) rfl ?_
    refine x_inv (pc' := 20) (ν := mX1_check) (av := [_]) (st := []) rfl rfl (dX1_run 9 rfl rfl) (Nat.le_of_ble_eq_true rfl) wX1_check q211 (inv_S (dX1_run 9 rfl rfl) q1124 q1125 q211 wX1_check (by decide) lX1_check) (exN (by decide)) rfl ?_
    refine C.mono hf (fun _ _ => KV.g (fun h2 hf le3 => ?_))
    replace s0 := s0.le sc0 (le3)
    replace s3 := s3.le sc3 (le3)
    refine x_aload_n (pc' := 21) 0 (dX1_run 10 rfl rfl) rfl rfl rfl ?_
    obtain ⟨ho0, ho1⟩ := hf
    rcases hr : fR _ (gW G 0) 12 with _ | b4
    · replace hf := ho0 hr
      refine x_getN (pc' := 24) (dX1_run 11 rfl rfl) g12 q970 (Or.inl rfl) rfl (hf_of 0 s0.1 rfl (by decide) m0_12) hr ?_
      refine x_ifnullN (tgt := 42) (dX1_run 12 rfl rfl) (by decide) ?_
      obtain ⟨n1, n2, hf⟩ := hf
      refine x_new (pc' := 45) (k := 54) (dX1_run 20 rfl rfl) q2853 (by decide) rfl (by decide) n1 n2 (fun q6 h8 k7 e9 => ?_)
      replace hf := hf q6 k7 h8 e9
      replace s0 : So 0 (gW G) h8 := by rw [e9]; exact s0.le sc0 (nO_le k7)
      replace s3 : So 3 (gW G) h8 := by rw [e9]; exact s3.le sc3 (nO_le k7)
      have k10 : hK h8 q6 = 55 := by rw [e9]; exact kNOs
      refine x_dup (pc' := 46) (dX1_run 21 rfl rfl) rfl rfl ?_
      refine x_inv (pc' := 49) (ν := mJ11_init) (av := [_]) (st := [_]) rfl rfl (dX1_run 22 rfl rfl) (Nat.le_of_ble_eq_true rfl) wJ11_init q280 (inv_I (dX1_run 22 rfl rfl) q2862 q2863 q2864 rfl (by decide) lJ11_init) (fun b hb => by exact Or.inl (by have e : some _ = some b := hb; cases e; simp)) rfl ?_
      refine C.mono hf (fun _ _ => KV.g (fun h11 hf le12 => ?_))
      replace s0 := s0.leX sc0 le12 k10 (by decide)
      replace s3 := s3.leX sc3 le12 k10 (by decide)
      have k10 := leK le12 k10 (by decide)
      exact x_athrow (dX1_run 23 rfl rfl) rfl hf
    · replace hf := ho1 _ hr
      refine x_getR (pc' := 24) (dX1_run 11 rfl rfl) g12 q970 (Or.inl rfl) rfl (hf_of 0 s0.1 rfl (by decide) m0_12) hr ?_
      refine x_ifnull (pc' := 27) (dX1_run 12 rfl rfl) rfl ?_
      refine x_aload_n (pc' := 28) 0 (dX1_run 13 rfl rfl) rfl rfl rfl ?_
      refine x_getR (pc' := 31) (dX1_run 14 rfl rfl) g2 q960 (Or.inl rfl) rfl (hf_of 0 s0.1 rfl (by decide) m0_2) (s0.2 2 _ rfl rfl).1 ?_
      refine x_getI (pc' := 34) (dX1_run 15 rfl rfl) g71 q622 (Or.inl rfl) rfl (hf_of 4 s3.1 rfl (by decide) m4_71) ?_
      refine x_iload_n (pc' := 35) 1 (dX1_run 16 rfl rfl) rfl rfl rfl ?_
      refine x_iadd (pc' := 36) (dX1_run 17 rfl rfl) rfl ?_
      refine x_ldcw (pc' := 39) (dX1_run 18 rfl rfl) q2875 rfl ?_
      refine x_icmp_le (pc' := 42) (tgt := 50) (dX1_run 19 rfl rfl) (by decide) rfl (fun c13 => ?_) (fun c13 => ?_)
      · replace hf := hf.1 c13
        refine x_aload_n (pc' := 51) 0 (dX1_run 24 rfl rfl) rfl rfl rfl ?_
        obtain ⟨ho0, ho1⟩ := hf
        rcases hr : fR _ (gW G 0) 12 with _ | b14
        · replace hf := ho0 hr
          refine x_getN (pc' := 54) (dX1_run 25 rfl rfl) g12 q970 (Or.inl rfl) rfl (hf_of 0 s0.1 rfl (by decide) m0_12) hr ?_
          refine x_astore_nN (pc' := 55) (dX1_run 26 rfl rfl) rfl (by decide) rfl rfl ?_
          refine x_aload_n (pc' := 56) 1 (dX1_run 27 rfl rfl) rfl rfl rfl ?_
          refine x_null (pc' := 57) (dX1_run 28 rfl rfl) rfl ?_
          refine x_putN (pc' := 60) (dX1_run 29 rfl rfl) g12 q970 (Or.inl rfl) (Or.inl rfl) (Or.inl (by decide)) rfl (hf_of 0 s0.1 rfl (by decide) m0_12) (fun h16 e21 => ?_)
          replace hf := hf h16 e21
          replace s0 : So 0 (gW G) h16 := by rw [e21]; exact s0.le sc0 (pR_le (Or.inl rfl))
          replace s3 : So 3 (gW G) h16 := by rw [e21]; exact s3.le sc3 (pR_le (Or.inl rfl))
          refine x_aload_n (pc' := 61) 1 (dX1_run 30 rfl rfl) rfl rfl rfl ?_
          refine x_getR (pc' := 64) (dX1_run 31 rfl rfl) g2 q960 (Or.inl rfl) rfl (hf_of 0 s0.1 rfl (by decide) m0_2) (s0.2 2 _ rfl rfl).1 ?_
          refine x_aload_nN (pc' := 65) 0 (dX1_run 32 rfl rfl) rfl rfl rfl ?_
          refine x_iload_n (pc' := 66) 2 (dX1_run 33 rfl rfl) rfl rfl rfl ?_
          refine x_inv (pc' := 69) (ν := mX6_run) (av := [_, _, _]) (st := []) rfl rfl (dX1_run 34 rfl rfl) (Nat.le_of_ble_eq_true rfl) wX6_run q220 (inv_V (k := 4) (dX1_run 34 rfl rfl) q2876 q2877 q2878 wX6_run (by decide) lX6_run (by decide) s3.1) (exN (by decide)) rfl ?_
          refine C.mono hf (fun _ _ => KI.g (fun x19 h17 hf le18 => ?_))
          replace s0 := s0.le sc0 (le18)
          replace s3 := s3.le sc3 (le18)
          refine x_istore_n (pc' := 70) (dX1_run 35 rfl rfl) rfl (by decide) rfl rfl ?_
          refine x_iload_n (pc' := 71) 0 (dX1_run 36 rfl rfl) rfl rfl rfl ?_
          refine x_if_eq (pc' := 74) (tgt := 76) (dX1_run 37 rfl rfl) (by decide) rfl (fun c20 => ?_) (fun c20 => ?_)
          · replace hf := hf.1 c20
            refine x_iconst (pc' := 77) (v := 0) (dX1_run 40 rfl rfl) (by decide) rfl ?_
            refine x_istore (pc' := 79) (dX1_run 41 rfl rfl) (by decide) rfl rfl ?_
            exact X.sub [3, 0] rfl (by simp) hf
          · replace hf := hf.2 c20
            refine x_iload_n (pc' := 75) 0 (dX1_run 38 rfl rfl) rfl rfl rfl ?_
            exact x_iret (dX1_run 39 rfl rfl) rfl hf
        · replace hf := ho1 _ hr
          refine x_getR (pc' := 54) (dX1_run 25 rfl rfl) g12 q970 (Or.inl rfl) rfl (hf_of 0 s0.1 rfl (by decide) m0_12) hr ?_
          refine x_astore_n (pc' := 55) (dX1_run 26 rfl rfl) rfl (by decide) rfl rfl ?_
          refine x_aload_n (pc' := 56) 1 (dX1_run 27 rfl rfl) rfl rfl rfl ?_
          refine x_null (pc' := 57) (dX1_run 28 rfl rfl) rfl ?_
          refine x_putN (pc' := 60) (dX1_run 29 rfl rfl) g12 q970 (Or.inl rfl) (Or.inl rfl) (Or.inl (by decide)) rfl (hf_of 0 s0.1 rfl (by decide) m0_12) (fun h22 e27 => ?_)
          replace hf := hf h22 e27
          replace s0 : So 0 (gW G) h22 := by rw [e27]; exact s0.le sc0 (pR_le (Or.inl rfl))
          replace s3 : So 3 (gW G) h22 := by rw [e27]; exact s3.le sc3 (pR_le (Or.inl rfl))
          refine x_aload_n (pc' := 61) 1 (dX1_run 30 rfl rfl) rfl rfl rfl ?_
          refine x_getR (pc' := 64) (dX1_run 31 rfl rfl) g2 q960 (Or.inl rfl) rfl (hf_of 0 s0.1 rfl (by decide) m0_2) (s0.2 2 _ rfl rfl).1 ?_
          refine x_aload_n (pc' := 65) 0 (dX1_run 32 rfl rfl) rfl rfl rfl ?_
          refine x_iload_n (pc' := 66) 2 (dX1_run 33 rfl rfl) rfl rfl rfl ?_
          refine x_inv (pc' := 69) (ν := mX6_run) (av := [_, _, _]) (st := []) rfl rfl (dX1_run 34 rfl rfl) (Nat.le_of_ble_eq_true rfl) wX6_run q220 (inv_V (k := 4) (dX1_run 34 rfl rfl) q2876 q2877 q2878 wX6_run (by decide) lX6_run (by decide) s3.1) (exN (by decide)) rfl ?_
          refine C.mono hf (fun _ _ => KI.g (fun x25 h23 hf le24 => ?_))
          replace s0 := s0.le sc0 (le24)
          replace s3 := s3.le sc3 (le24)
          refine x_istore_n (pc' := 70) (dX1_run 35 rfl rfl) rfl (by decide) rfl rfl ?_
          refine x_iload_n (pc' := 71) 0 (dX1_run 36 rfl rfl) rfl rfl rfl ?_
          refine x_if_eq (pc' := 74) (tgt := 76) (dX1_run 37 rfl rfl) (by decide) rfl (fun c26 => ?_) (fun c26 => ?_)
          · replace hf := hf.1 c26
            refine x_iconst (pc' := 77) (v := 0) (dX1_run 40 rfl rfl) (by decide) rfl ?_
            refine x_istore (pc' := 79) (dX1_run 41 rfl rfl) (by decide) rfl rfl ?_
            exact X.sub [3, 0] rfl (by simp) hf
          · replace hf := hf.2 c26
            refine x_iload_n (pc' := 75) 0 (dX1_run 38 rfl rfl) rfl rfl rfl ?_
            exact x_iret (dX1_run 39 rfl rfl) rfl hf
      · replace hf := hf.2 c13
        obtain ⟨n1, n2, hf⟩ := hf
        refine x_new (pc' := 45) (k := 54) (dX1_run 20 rfl rfl) q2853 (by decide) rfl (by decide) n1 n2 (fun q28 h30 k29 e31 => ?_)
        replace hf := hf q28 k29 h30 e31
        replace s0 : So 0 (gW G) h30 := by rw [e31]; exact s0.le sc0 (nO_le k29)
        replace s3 : So 3 (gW G) h30 := by rw [e31]; exact s3.le sc3 (nO_le k29)
        have k32 : hK h30 q28 = 55 := by rw [e31]; exact kNOs
        refine x_dup (pc' := 46) (dX1_run 21 rfl rfl) rfl rfl ?_
        refine x_inv (pc' := 49) (ν := mJ11_init) (av := [_]) (st := [_]) rfl rfl (dX1_run 22 rfl rfl) (Nat.le_of_ble_eq_true rfl) wJ11_init q280 (inv_I (dX1_run 22 rfl rfl) q2862 q2863 q2864 rfl (by decide) lJ11_init) (fun b hb => by exact Or.inl (by have e : some _ = some b := hb; cases e; simp)) rfl ?_
        refine C.mono hf (fun _ _ => KV.g (fun h33 hf le34 => ?_))
        replace s0 := s0.leX sc0 le34 k32 (by decide)
        replace s3 := s3.leX sc3 le34 k32 (by decide)
        have k32 := leK le34 k32 (by decide)
        exact x_athrow (dX1_run 23 rfl rfl) rfl hf
  · replace hf := hf.2 c1
    refine x_iload_n (pc' := 6) 1 (dX1_run 3 rfl rfl) rfl rfl rfl ?_
    refine x_sipush (pc' := 9) (v := 30000) (dX1_run 4 rfl rfl) (by decide) rfl ?_
    refine x_icmp_gt (pc' := 12) (tgt := 16) (dX1_run 5 rfl rfl) (by decide) rfl (fun c35 => ?_) (fun c35 => ?_)
    · replace hf := hf.1 c35
      refine x_iconst (pc' := 17) (v := 0) (dX1_run 8 rfl rfl) (by decide) rfl ?_
      refine x_inv (pc' := 20) (ν := mX1_check) (av := [_]) (st := []) rfl rfl (dX1_run 9 rfl rfl) (Nat.le_of_ble_eq_true rfl) wX1_check q211 (inv_S (dX1_run 9 rfl rfl) q1124 q1125 q211 wX1_check (by decide) lX1_check) (exN (by decide)) rfl ?_
      refine C.mono hf (fun _ _ => KV.g (fun h36 hf le37 => ?_))
      replace s0 := s0.le sc0 (le37)
      replace s3 := s3.le sc3 (le37)
      refine x_aload_n (pc' := 21) 0 (dX1_run 10 rfl rfl) rfl rfl rfl ?_
      obtain ⟨ho0, ho1⟩ := hf
      rcases hr : fR _ (gW G 0) 12 with _ | b38
      · replace hf := ho0 hr
        refine x_getN (pc' := 24) (dX1_run 11 rfl rfl) g12 q970 (Or.inl rfl) rfl (hf_of 0 s0.1 rfl (by decide) m0_12) hr ?_
        refine x_ifnullN (tgt := 42) (dX1_run 12 rfl rfl) (by decide) ?_
        obtain ⟨n1, n2, hf⟩ := hf
        refine x_new (pc' := 45) (k := 54) (dX1_run 20 rfl rfl) q2853 (by decide) rfl (by decide) n1 n2 (fun q40 h42 k41 e43 => ?_)
        replace hf := hf q40 k41 h42 e43
        replace s0 : So 0 (gW G) h42 := by rw [e43]; exact s0.le sc0 (nO_le k41)
        replace s3 : So 3 (gW G) h42 := by rw [e43]; exact s3.le sc3 (nO_le k41)
        have k44 : hK h42 q40 = 55 := by rw [e43]; exact kNOs
        refine x_dup (pc' := 46) (dX1_run 21 rfl rfl) rfl rfl ?_
        refine x_inv (pc' := 49) (ν := mJ11_init) (av := [_]) (st := [_]) rfl rfl (dX1_run 22 rfl rfl) (Nat.le_of_ble_eq_true rfl) wJ11_init q280 (inv_I (dX1_run 22 rfl rfl) q2862 q2863 q2864 rfl (by decide) lJ11_init) (fun b hb => by exact Or.inl (by have e : some _ = some b := hb; cases e; simp)) rfl ?_
        refine C.mono hf (fun _ _ => KV.g (fun h45 hf le46 => ?_))
        replace s0 := s0.leX sc0 le46 k44 (by decide)
        replace s3 := s3.leX sc3 le46 k44 (by decide)
        have k44 := leK le46 k44 (by decide)
        exact x_athrow (dX1_run 23 rfl rfl) rfl hf
      · replace hf := ho1 _ hr
        refine x_getR (pc' := 24) (dX1_run 11 rfl rfl) g12 q970 (Or.inl rfl) rfl (hf_of 0 s0.1 rfl (by decide) m0_12) hr ?_
        refine x_ifnull (pc' := 27) (dX1_run 12 rfl rfl) rfl ?_
        refine x_aload_n (pc' := 28) 0 (dX1_run 13 rfl rfl) rfl rfl rfl ?_
        refine x_getR (pc' := 31) (dX1_run 14 rfl rfl) g2 q960 (Or.inl rfl) rfl (hf_of 0 s0.1 rfl (by decide) m0_2) (s0.2 2 _ rfl rfl).1 ?_
        refine x_getI (pc' := 34) (dX1_run 15 rfl rfl) g71 q622 (Or.inl rfl) rfl (hf_of 4 s3.1 rfl (by decide) m4_71) ?_
        refine x_iload_n (pc' := 35) 1 (dX1_run 16 rfl rfl) rfl rfl rfl ?_
        refine x_iadd (pc' := 36) (dX1_run 17 rfl rfl) rfl ?_
        refine x_ldcw (pc' := 39) (dX1_run 18 rfl rfl) q2875 rfl ?_
        refine x_icmp_le (pc' := 42) (tgt := 50) (dX1_run 19 rfl rfl) (by decide) rfl (fun c47 => ?_) (fun c47 => ?_)
        · replace hf := hf.1 c47
          refine x_aload_n (pc' := 51) 0 (dX1_run 24 rfl rfl) rfl rfl rfl ?_
          obtain ⟨ho0, ho1⟩ := hf
          rcases hr : fR _ (gW G 0) 12 with _ | b48
          · replace hf := ho0 hr
            refine x_getN (pc' := 54) (dX1_run 25 rfl rfl) g12 q970 (Or.inl rfl) rfl (hf_of 0 s0.1 rfl (by decide) m0_12) hr ?_
            refine x_astore_nN (pc' := 55) (dX1_run 26 rfl rfl) rfl (by decide) rfl rfl ?_
            refine x_aload_n (pc' := 56) 1 (dX1_run 27 rfl rfl) rfl rfl rfl ?_
            refine x_null (pc' := 57) (dX1_run 28 rfl rfl) rfl ?_
            refine x_putN (pc' := 60) (dX1_run 29 rfl rfl) g12 q970 (Or.inl rfl) (Or.inl rfl) (Or.inl (by decide)) rfl (hf_of 0 s0.1 rfl (by decide) m0_12) (fun h50 e55 => ?_)
            replace hf := hf h50 e55
            replace s0 : So 0 (gW G) h50 := by rw [e55]; exact s0.le sc0 (pR_le (Or.inl rfl))
            replace s3 : So 3 (gW G) h50 := by rw [e55]; exact s3.le sc3 (pR_le (Or.inl rfl))
            refine x_aload_n (pc' := 61) 1 (dX1_run 30 rfl rfl) rfl rfl rfl ?_
            refine x_getR (pc' := 64) (dX1_run 31 rfl rfl) g2 q960 (Or.inl rfl) rfl (hf_of 0 s0.1 rfl (by decide) m0_2) (s0.2 2 _ rfl rfl).1 ?_
            refine x_aload_nN (pc' := 65) 0 (dX1_run 32 rfl rfl) rfl rfl rfl ?_
            refine x_iload_n (pc' := 66) 2 (dX1_run 33 rfl rfl) rfl rfl rfl ?_
            refine x_inv (pc' := 69) (ν := mX6_run) (av := [_, _, _]) (st := []) rfl rfl (dX1_run 34 rfl rfl) (Nat.le_of_ble_eq_true rfl) wX6_run q220 (inv_V (k := 4) (dX1_run 34 rfl rfl) q2876 q2877 q2878 wX6_run (by decide) lX6_run (by decide) s3.1) (exN (by decide)) rfl ?_
            refine C.mono hf (fun _ _ => KI.g (fun x53 h51 hf le52 => ?_))
            replace s0 := s0.le sc0 (le52)
            replace s3 := s3.le sc3 (le52)
            refine x_istore_n (pc' := 70) (dX1_run 35 rfl rfl) rfl (by decide) rfl rfl ?_
            refine x_iload_n (pc' := 71) 0 (dX1_run 36 rfl rfl) rfl rfl rfl ?_
            refine x_if_eq (pc' := 74) (tgt := 76) (dX1_run 37 rfl rfl) (by decide) rfl (fun c54 => ?_) (fun c54 => ?_)
            · replace hf := hf.1 c54
              refine x_iconst (pc' := 77) (v := 0) (dX1_run 40 rfl rfl) (by decide) rfl ?_
              refine x_istore (pc' := 79) (dX1_run 41 rfl rfl) (by decide) rfl rfl ?_
              exact X.sub [3, 0] rfl (by simp) hf
            · replace hf := hf.2 c54
              refine x_iload_n (pc' := 75) 0 (dX1_run 38 rfl rfl) rfl rfl rfl ?_
              exact x_iret (dX1_run 39 rfl rfl) rfl hf
          · replace hf := ho1 _ hr
            refine x_getR (pc' := 54) (dX1_run 25 rfl rfl) g12 q970 (Or.inl rfl) rfl (hf_of 0 s0.1 rfl (by decide) m0_12) hr ?_
            refine x_astore_n (pc' := 55) (dX1_run 26 rfl rfl) rfl (by decide) rfl rfl ?_
            refine x_aload_n (pc' := 56) 1 (dX1_run 27 rfl rfl) rfl rfl rfl ?_
            refine x_null (pc' := 57) (dX1_run 28 rfl rfl) rfl ?_
            refine x_putN (pc' := 60) (dX1_run 29 rfl rfl) g12 q970 (Or.inl rfl) (Or.inl rfl) (Or.inl (by decide)) rfl (hf_of 0 s0.1 rfl (by decide) m0_12) (fun h56 e61 => ?_)
            replace hf := hf h56 e61
            replace s0 : So 0 (gW G) h56 := by rw [e61]; exact s0.le sc0 (pR_le (Or.inl rfl))
            replace s3 : So 3 (gW G) h56 := by rw [e61]; exact s3.le sc3 (pR_le (Or.inl rfl))
            refine x_aload_n (pc' := 61) 1 (dX1_run 30 rfl rfl) rfl rfl rfl ?_
            refine x_getR (pc' := 64) (dX1_run 31 rfl rfl) g2 q960 (Or.inl rfl) rfl (hf_of 0 s0.1 rfl (by decide) m0_2) (s0.2 2 _ rfl rfl).1 ?_
            refine x_aload_n (pc' := 65) 0 (dX1_run 32 rfl rfl) rfl rfl rfl ?_
            refine x_iload_n (pc' := 66) 2 (dX1_run 33 rfl rfl) rfl rfl rfl ?_
            refine x_inv (pc' := 69) (ν := mX6_run) (av := [_, _, _]) (st := []) rfl rfl (dX1_run 34 rfl rfl) (Nat.le_of_ble_eq_true rfl) wX6_run q220 (inv_V (k := 4) (dX1_run 34 rfl rfl) q2876 q2877 q2878 wX6_run (by decide) lX6_run (by decide) s3.1) (exN (by decide)) rfl ?_
            refine C.mono hf (fun _ _ => KI.g (fun x59 h57 hf le58 => ?_))
            replace s0 := s0.le sc0 (le58)
            replace s3 := s3.le sc3 (le58)
            refine x_istore_n (pc' := 70) (dX1_run 35 rfl rfl) rfl (by decide) rfl rfl ?_
            refine x_iload_n (pc' := 71) 0 (dX1_run 36 rfl rfl) rfl rfl rfl ?_
            refine x_if_eq (pc' := 74) (tgt := 76) (dX1_run 37 rfl rfl) (by decide) rfl (fun c60 => ?_) (fun c60 => ?_)
            · replace hf := hf.1 c60
              refine x_iconst (pc' := 77) (v := 0) (dX1_run 40 rfl rfl) (by decide) rfl ?_
              refine x_istore (pc' := 79) (dX1_run 41 rfl rfl) (by decide) rfl rfl ?_
              exact X.sub [3, 0] rfl (by simp) hf
            · replace hf := hf.2 c60
              refine x_iload_n (pc' := 75) 0 (dX1_run 38 rfl rfl) rfl rfl rfl ?_
              exact x_iret (dX1_run 39 rfl rfl) rfl hf
        · replace hf := hf.2 c47
          obtain ⟨n1, n2, hf⟩ := hf
          refine x_new (pc' := 45) (k := 54) (dX1_run 20 rfl rfl) q2853 (by decide) rfl (by decide) n1 n2 (fun q62 h64 k63 e65 => ?_)
          replace hf := hf q62 k63 h64 e65
          replace s0 : So 0 (gW G) h64 := by rw [e65]; exact s0.le sc0 (nO_le k63)
          replace s3 : So 3 (gW G) h64 := by rw [e65]; exact s3.le sc3 (nO_le k63)
          have k66 : hK h64 q62 = 55 := by rw [e65]; exact kNOs
          refine x_dup (pc' := 46) (dX1_run 21 rfl rfl) rfl rfl ?_
          refine x_inv (pc' := 49) (ν := mJ11_init) (av := [_]) (st := [_]) rfl rfl (dX1_run 22 rfl rfl) (Nat.le_of_ble_eq_true rfl) wJ11_init q280 (inv_I (dX1_run 22 rfl rfl) q2862 q2863 q2864 rfl (by decide) lJ11_init) (fun b hb => by exact Or.inl (by have e : some _ = some b := hb; cases e; simp)) rfl ?_
          refine C.mono hf (fun _ _ => KV.g (fun h67 hf le68 => ?_))
          replace s0 := s0.leX sc0 le68 k66 (by decide)
          replace s3 := s3.leX sc3 le68 k66 (by decide)
          have k66 := leK le68 k66 (by decide)
          exact x_athrow (dX1_run 23 rfl rfl) rfl hf
    · replace hf := hf.2 c35
      refine x_iconst (pc' := 13) (v := 1) (dX1_run 6 rfl rfl) (by decide) rfl ?_
      refine x_goto (tgt := 17) (dX1_run 7 rfl rfl) (by decide) ?_
      refine x_inv (pc' := 20) (ν := mX1_check) (av := [_]) (st := []) rfl rfl (dX1_run 9 rfl rfl) (Nat.le_of_ble_eq_true rfl) wX1_check q211 (inv_S (dX1_run 9 rfl rfl) q1124 q1125 q211 wX1_check (by decide) lX1_check) (exN (by decide)) rfl ?_
      refine C.mono hf (fun _ _ => KV.g (fun h69 hf le70 => ?_))
      replace s0 := s0.le sc0 (le70)
      replace s3 := s3.le sc3 (le70)
      refine x_aload_n (pc' := 21) 0 (dX1_run 10 rfl rfl) rfl rfl rfl ?_
      obtain ⟨ho0, ho1⟩ := hf
      rcases hr : fR _ (gW G 0) 12 with _ | b71
      · replace hf := ho0 hr
        refine x_getN (pc' := 24) (dX1_run 11 rfl rfl) g12 q970 (Or.inl rfl) rfl (hf_of 0 s0.1 rfl (by decide) m0_12) hr ?_
        refine x_ifnullN (tgt := 42) (dX1_run 12 rfl rfl) (by decide) ?_
        obtain ⟨n1, n2, hf⟩ := hf
        refine x_new (pc' := 45) (k := 54) (dX1_run 20 rfl rfl) q2853 (by decide) rfl (by decide) n1 n2 (fun q73 h75 k74 e76 => ?_)
        replace hf := hf q73 k74 h75 e76
        replace s0 : So 0 (gW G) h75 := by rw [e76]; exact s0.le sc0 (nO_le k74)
        replace s3 : So 3 (gW G) h75 := by rw [e76]; exact s3.le sc3 (nO_le k74)
        have k77 : hK h75 q73 = 55 := by rw [e76]; exact kNOs
        refine x_dup (pc' := 46) (dX1_run 21 rfl rfl) rfl rfl ?_
        refine x_inv (pc' := 49) (ν := mJ11_init) (av := [_]) (st := [_]) rfl rfl (dX1_run 22 rfl rfl) (Nat.le_of_ble_eq_true rfl) wJ11_init q280 (inv_I (dX1_run 22 rfl rfl) q2862 q2863 q2864 rfl (by decide) lJ11_init) (fun b hb => by exact Or.inl (by have e : some _ = some b := hb; cases e; simp)) rfl ?_
        refine C.mono hf (fun _ _ => KV.g (fun h78 hf le79 => ?_))
        replace s0 := s0.leX sc0 le79 k77 (by decide)
        replace s3 := s3.leX sc3 le79 k77 (by decide)
        have k77 := leK le79 k77 (by decide)
        exact x_athrow (dX1_run 23 rfl rfl) rfl hf
      · replace hf := ho1 _ hr
        refine x_getR (pc' := 24) (dX1_run 11 rfl rfl) g12 q970 (Or.inl rfl) rfl (hf_of 0 s0.1 rfl (by decide) m0_12) hr ?_
        refine x_ifnull (pc' := 27) (dX1_run 12 rfl rfl) rfl ?_
        refine x_aload_n (pc' := 28) 0 (dX1_run 13 rfl rfl) rfl rfl rfl ?_
        refine x_getR (pc' := 31) (dX1_run 14 rfl rfl) g2 q960 (Or.inl rfl) rfl (hf_of 0 s0.1 rfl (by decide) m0_2) (s0.2 2 _ rfl rfl).1 ?_
        refine x_getI (pc' := 34) (dX1_run 15 rfl rfl) g71 q622 (Or.inl rfl) rfl (hf_of 4 s3.1 rfl (by decide) m4_71) ?_
        refine x_iload_n (pc' := 35) 1 (dX1_run 16 rfl rfl) rfl rfl rfl ?_
        refine x_iadd (pc' := 36) (dX1_run 17 rfl rfl) rfl ?_
        refine x_ldcw (pc' := 39) (dX1_run 18 rfl rfl) q2875 rfl ?_
        refine x_icmp_le (pc' := 42) (tgt := 50) (dX1_run 19 rfl rfl) (by decide) rfl (fun c80 => ?_) (fun c80 => ?_)
        · replace hf := hf.1 c80
          refine x_aload_n (pc' := 51) 0 (dX1_run 24 rfl rfl) rfl rfl rfl ?_
          obtain ⟨ho0, ho1⟩ := hf
          rcases hr : fR _ (gW G 0) 12 with _ | b81
          · replace hf := ho0 hr
            refine x_getN (pc' := 54) (dX1_run 25 rfl rfl) g12 q970 (Or.inl rfl) rfl (hf_of 0 s0.1 rfl (by decide) m0_12) hr ?_
            refine x_astore_nN (pc' := 55) (dX1_run 26 rfl rfl) rfl (by decide) rfl rfl ?_
            refine x_aload_n (pc' := 56) 1 (dX1_run 27 rfl rfl) rfl rfl rfl ?_
            refine x_null (pc' := 57) (dX1_run 28 rfl rfl) rfl ?_
            refine x_putN (pc' := 60) (dX1_run 29 rfl rfl) g12 q970 (Or.inl rfl) (Or.inl rfl) (Or.inl (by decide)) rfl (hf_of 0 s0.1 rfl (by decide) m0_12) (fun h83 e88 => ?_)
            replace hf := hf h83 e88
            replace s0 : So 0 (gW G) h83 := by rw [e88]; exact s0.le sc0 (pR_le (Or.inl rfl))
            replace s3 : So 3 (gW G) h83 := by rw [e88]; exact s3.le sc3 (pR_le (Or.inl rfl))
            refine x_aload_n (pc' := 61) 1 (dX1_run 30 rfl rfl) rfl rfl rfl ?_
            refine x_getR (pc' := 64) (dX1_run 31 rfl rfl) g2 q960 (Or.inl rfl) rfl (hf_of 0 s0.1 rfl (by decide) m0_2) (s0.2 2 _ rfl rfl).1 ?_
            refine x_aload_nN (pc' := 65) 0 (dX1_run 32 rfl rfl) rfl rfl rfl ?_
            refine x_iload_n (pc' := 66) 2 (dX1_run 33 rfl rfl) rfl rfl rfl ?_
            refine x_inv (pc' := 69) (ν := mX6_run) (av := [_, _, _]) (st := []) rfl rfl (dX1_run 34 rfl rfl) (Nat.le_of_ble_eq_true rfl) wX6_run q220 (inv_V (k := 4) (dX1_run 34 rfl rfl) q2876 q2877 q2878 wX6_run (by decide) lX6_run (by decide) s3.1) (exN (by decide)) rfl ?_
            refine C.mono hf (fun _ _ => KI.g (fun x86 h84 hf le85 => ?_))
            replace s0 := s0.le sc0 (le85)
            replace s3 := s3.le sc3 (le85)
            refine x_istore_n (pc' := 70) (dX1_run 35 rfl rfl) rfl (by decide) rfl rfl ?_
            refine x_iload_n (pc' := 71) 0 (dX1_run 36 rfl rfl) rfl rfl rfl ?_
            refine x_if_eq (pc' := 74) (tgt := 76) (dX1_run 37 rfl rfl) (by decide) rfl (fun c87 => ?_) (fun c87 => ?_)
            · replace hf := hf.1 c87
              refine x_iconst (pc' := 77) (v := 0) (dX1_run 40 rfl rfl) (by decide) rfl ?_
              refine x_istore (pc' := 79) (dX1_run 41 rfl rfl) (by decide) rfl rfl ?_
              exact X.sub [3, 0] rfl (by simp) hf
            · replace hf := hf.2 c87
              refine x_iload_n (pc' := 75) 0 (dX1_run 38 rfl rfl) rfl rfl rfl ?_
              exact x_iret (dX1_run 39 rfl rfl) rfl hf
          · replace hf := ho1 _ hr
            refine x_getR (pc' := 54) (dX1_run 25 rfl rfl) g12 q970 (Or.inl rfl) rfl (hf_of 0 s0.1 rfl (by decide) m0_12) hr ?_
            refine x_astore_n (pc' := 55) (dX1_run 26 rfl rfl) rfl (by decide) rfl rfl ?_
            refine x_aload_n (pc' := 56) 1 (dX1_run 27 rfl rfl) rfl rfl rfl ?_
            refine x_null (pc' := 57) (dX1_run 28 rfl rfl) rfl ?_
            refine x_putN (pc' := 60) (dX1_run 29 rfl rfl) g12 q970 (Or.inl rfl) (Or.inl rfl) (Or.inl (by decide)) rfl (hf_of 0 s0.1 rfl (by decide) m0_12) (fun h89 e94 => ?_)
            replace hf := hf h89 e94
            replace s0 : So 0 (gW G) h89 := by rw [e94]; exact s0.le sc0 (pR_le (Or.inl rfl))
            replace s3 : So 3 (gW G) h89 := by rw [e94]; exact s3.le sc3 (pR_le (Or.inl rfl))
            refine x_aload_n (pc' := 61) 1 (dX1_run 30 rfl rfl) rfl rfl rfl ?_
            refine x_getR (pc' := 64) (dX1_run 31 rfl rfl) g2 q960 (Or.inl rfl) rfl (hf_of 0 s0.1 rfl (by decide) m0_2) (s0.2 2 _ rfl rfl).1 ?_
            refine x_aload_n (pc' := 65) 0 (dX1_run 32 rfl rfl) rfl rfl rfl ?_
            refine x_iload_n (pc' := 66) 2 (dX1_run 33 rfl rfl) rfl rfl rfl ?_
            refine x_inv (pc' := 69) (ν := mX6_run) (av := [_, _, _]) (st := []) rfl rfl (dX1_run 34 rfl rfl) (Nat.le_of_ble_eq_true rfl) wX6_run q220 (inv_V (k := 4) (dX1_run 34 rfl rfl) q2876 q2877 q2878 wX6_run (by decide) lX6_run (by decide) s3.1) (exN (by decide)) rfl ?_
            refine C.mono hf (fun _ _ => KI.g (fun x92 h90 hf le91 => ?_))
            replace s0 := s0.le sc0 (le91)
            replace s3 := s3.le sc3 (le91)
            refine x_istore_n (pc' := 70) (dX1_run 35 rfl rfl) rfl (by decide) rfl rfl ?_
            refine x_iload_n (pc' := 71) 0 (dX1_run 36 rfl rfl) rfl rfl rfl ?_
            refine x_if_eq (pc' := 74) (tgt := 76) (dX1_run 37 rfl rfl) (by decide) rfl (fun c93 => ?_) (fun c93 => ?_)
            · replace hf := hf.1 c93
              refine x_iconst (pc' := 77) (v := 0) (dX1_run 40 rfl rfl) (by decide) rfl ?_
              refine x_istore (pc' := 79) (dX1_run 41 rfl rfl) (by decide) rfl rfl ?_
              exact X.sub [3, 0] rfl (by simp) hf
            · replace hf := hf.2 c93
              refine x_iload_n (pc' := 75) 0 (dX1_run 38 rfl rfl) rfl rfl rfl ?_
              exact x_iret (dX1_run 39 rfl rfl) rfl hf
        · replace hf := hf.2 c80
          obtain ⟨n1, n2, hf⟩ := hf
          refine x_new (pc' := 45) (k := 54) (dX1_run 20 rfl rfl) q2853 (by decide) rfl (by decide) n1 n2 (fun q95 h97 k96 e98 => ?_)
          replace hf := hf q95 k96 h97 e98
          replace s0 : So 0 (gW G) h97 := by rw [e98]; exact s0.le sc0 (nO_le k96)
          replace s3 : So 3 (gW G) h97 := by rw [e98]; exact s3.le sc3 (nO_le k96)
          have k99 : hK h97 q95 = 55 := by rw [e98]; exact kNOs
          refine x_dup (pc' := 46) (dX1_run 21 rfl rfl) rfl rfl ?_
          refine x_inv (pc' := 49) (ν := mJ11_init) (av := [_]) (st := [_]) rfl rfl (dX1_run 22 rfl rfl) (Nat.le_of_ble_eq_true rfl) wJ11_init q280 (inv_I (dX1_run 22 rfl rfl) q2862 q2863 q2864 rfl (by decide) lJ11_init) (fun b hb => by exact Or.inl (by have e : some _ = some b := hb; cases e; simp)) rfl ?_
          refine C.mono hf (fun _ _ => KV.g (fun h100 hf le101 => ?_))
          replace s0 := s0.leX sc0 le101 k99 (by decide)
          replace s3 := s3.leX sc3 le101 k99 (by decide)
          have k99 := leK le101 k99 (by decide)
          exact x_athrow (dX1_run 23 rfl rfl) rfl hf
theorem bX1_run_79 (G : Gh) (d : Nat) (h : AH) (Q : Outcome → AH → Prop) (l4 : Int32) (s0 : So 0 (gW G) h) (s3 : So 3 (gW G) h) (hf : ((fI h (gW G 1013) 78) ≤ l4 → (X G mX1_run (d + 1) none [] 145 [(0, .ref (gW G 0)), (4, .int (0))] [] h Q)) ∧ (¬ ((fI h (gW G 1013) 78) ≤ l4) → (C G mX7_get d [.ref (gW G 1013), .int (l4)] h (KR Q (fun b4 h2 => hK h2 b4 = 13 ∧ (C G mX6_end d [.ref (gW G 3)] h2 (KI Q (fun x8 h6 => C G mX6_known d [.ref (gW G 3), .int (x8), .int (((fI h6 (gW G 0) 16) - 1) - (fI h6 b4 129))] h6 (KI Q (fun x11 h9 => ∀ h12, h12 = pI h9 b4 131 x11 → (∀ x13 : Int32, x13 = l4 + 1 → (X G mX1_run (d + 1) none [] 79 [(0, .ref (gW G 0)), (4, .int (x13))] [] h12 Q)))))))))))) : X G mX1_run (d + 1) none [] 79 [(0, .ref (gW G 0)), (4, .int (l4))] [] h Q := by
  refine x_iload (pc' := 81) 1 (dX1_run 42 rfl rfl) rfl rfl ?_
  refine x_aload_n (pc' := 82) 0 (dX1_run 43 rfl rfl) rfl rfl rfl ?_
  refine x_getR (pc' := 85) (dX1_run 44 rfl rfl) g13 q971 (Or.inl rfl) rfl (hf_of 0 s0.1 rfl (by decide) m0_13) (s0.2 9 _ rfl rfl).1 ?_
  refine x_getI (pc' := 88) (dX1_run 45 rfl rfl) g78 q576 (Or.inl rfl) rfl (hf_of 5 (s0.2 9 _ rfl rfl).2.1 rfl (by decide) m5_78) ?_
  refine x_icmp_ge (pc' := 91) (tgt := 142) (dX1_run 46 rfl rfl) (by decide) rfl (fun c1 => ?_) (fun c1 => ?_)
  · replace hf := hf.1 c1
    refine x_iconst (pc' := 143) (v := 0) (dX1_run 70 rfl rfl) (by decide) rfl ?_
    refine x_istore (pc' := 145) (dX1_run 71 rfl rfl) (by decide) rfl rfl ?_
    exact X.sub [1, 0] rfl (by simp) hf
  · replace hf := hf.2 c1
    refine x_aload_n (pc' := 92) 0 (dX1_run 47 rfl rfl) rfl rfl rfl ?_
    refine x_getR (pc' := 95) (dX1_run 48 rfl rfl) g13 q971 (Or.inl rfl) rfl (hf_of 0 s0.1 rfl (by decide) m0_13) (s0.2 9 _ rfl rfl).1 ?_
    refine x_iload (pc' := 97) 1 (dX1_run 49 rfl rfl) rfl rfl ?_
    refine x_inv (pc' := 100) (ν := mX7_get) (av := [_, _]) (st := []) rfl rfl (dX1_run 50 rfl rfl) (Nat.le_of_ble_eq_true rfl) wX7_get q221 (inv_V (k := 5) (dX1_run 50 rfl rfl) q2813 q1414 q1415 wX7_get (by decide) lX7_get (by decide) (s0.2 9 _ rfl rfl).2.1) (exN (by decide)) rfl ?_
    refine C.mono hf (fun _ _ => KR.g (fun b4 h2 hf le3 => ?_))
    replace s0 := s0.le sc0 (le3)
    replace s3 := s3.le sc3 (le3)
    obtain ⟨k5, hf⟩ := hf
    refine x_castS (pc' := 103) (k := 12) (dX1_run 51 rfl rfl) q2814 (by decide) k5 rfl ?_
    refine x_astore (pc' := 105) (dX1_run 52 rfl rfl) (by decide) rfl rfl ?_
    refine x_aload (pc' := 107) 0 (dX1_run 53 rfl rfl) rfl rfl ?_
    refine x_aload_n (pc' := 108) 1 (dX1_run 54 rfl rfl) rfl rfl rfl ?_
    refine x_getR (pc' := 111) (dX1_run 55 rfl rfl) g2 q960 (Or.inl rfl) rfl (hf_of 0 s0.1 rfl (by decide) m0_2) (s0.2 2 _ rfl rfl).1 ?_
    refine x_aload_n (pc' := 112) 1 (dX1_run 56 rfl rfl) rfl rfl rfl ?_
    refine x_getR (pc' := 115) (dX1_run 57 rfl rfl) g2 q960 (Or.inl rfl) rfl (hf_of 0 s0.1 rfl (by decide) m0_2) (s0.2 2 _ rfl rfl).1 ?_
    refine x_inv (pc' := 118) (ν := mX6_end) (av := [_]) (st := [_, _]) rfl rfl (dX1_run 58 rfl rfl) (Nat.le_of_ble_eq_true rfl) wX6_end q220 (inv_V (k := 4) (dX1_run 58 rfl rfl) q3288 q3289 q3290 wX6_end (by decide) lX6_end (by decide) s3.1) (exN (by decide)) rfl ?_
    refine C.mono hf (fun _ _ => KI.g (fun x8 h6 hf le7 => ?_))
    have k5 := leK le7 k5 (by decide)
    replace s0 := s0.le sc0 (le7)
    replace s3 := s3.le sc3 (le7)
    refine x_aload_n (pc' := 119) 1 (dX1_run 59 rfl rfl) rfl rfl rfl ?_
    refine x_getI (pc' := 122) (dX1_run 60 rfl rfl) g16 q974 (Or.inl rfl) rfl (hf_of 0 s0.1 rfl (by decide) m0_16) ?_
    refine x_iconst (pc' := 123) (v := 1) (dX1_run 61 rfl rfl) (by decide) rfl ?_
    refine x_isub (pc' := 124) (dX1_run 62 rfl rfl) rfl ?_
    refine x_aload (pc' := 126) 0 (dX1_run 63 rfl rfl) rfl rfl ?_
    refine x_getI (pc' := 129) (dX1_run 64 rfl rfl) g129 q931 (Or.inl rfl) rfl (hf_of 12 k5 rfl (by decide) m12_129) ?_
    refine x_isub (pc' := 130) (dX1_run 65 rfl rfl) rfl ?_
    refine x_inv (pc' := 133) (ν := mX6_known) (av := [_, _, _]) (st := [_]) rfl rfl (dX1_run 66 rfl rfl) (Nat.le_of_ble_eq_true rfl) wX6_known q220 (inv_V (k := 4) (dX1_run 66 rfl rfl) q3292 q3039 q3040 wX6_known (by decide) lX6_known (by decide) s3.1) (exN (by decide)) rfl ?_
    refine C.mono hf (fun _ _ => KI.g (fun x11 h9 hf le10 => ?_))
    have k5 := leK le10 k5 (by decide)
    replace s0 := s0.le sc0 (le10)
    replace s3 := s3.le sc3 (le10)
    refine x_putI (pc' := 136) (dX1_run 67 rfl rfl) g131 q937 (Or.inl rfl) (Or.inl rfl) (Or.inl (by decide)) rfl (hf_of 12 k5 rfl (by decide) m12_131) (fun h12 e14 => ?_)
    replace hf := hf h12 e14
    replace k5 : hK h12 b4 = 13 := by rw [e14]; exact k5
    replace s0 : So 0 (gW G) h12 := by rw [e14]; exact s0.le sc0 (pI_le (Or.inl rfl))
    replace s3 : So 3 (gW G) h12 := by rw [e14]; exact s3.le sc3 (pI_le (Or.inl rfl))
    replace hf := hf _ rfl
    refine x_iinc (pc' := 139) 2 (dX1_run 68 rfl rfl) rfl (by rfl) (by decide) rfl rfl ?_
    refine x_goto (tgt := 79) (dX1_run 69 rfl rfl) (by decide) ?_
    exact X.sub [2, 0] rfl (by simp) hf
theorem bX1_run_145 (G : Gh) (d : Nat) (h : AH) (Q : Outcome → AH → Prop) (l4 : Int32) (s0 : So 0 (gW G) h) (s4 : So 4 (gW G) h) (hf : ((fI h (gW G 1013) 78) ≤ l4 → (X G mX1_run (d + 1) none [] 185 [(0, .ref (gW G 0)), (4, .int (0))] [] h Q)) ∧ (¬ ((fI h (gW G 1013) 78) ≤ l4) → (C G mX7_get d [.ref (gW G 1013), .int (l4)] h (KR Q (fun b4 h2 => hK h2 b4 = 13 ∧ (C G mX9_keep d [.ref (gW G 4), .ref (b4)] h2 (KV Q (fun h6 => ∀ x8 : Int32, x8 = l4 + 1 → (X G mX1_run (d + 1) none [] 145 [(0, .ref (gW G 0)), (4, .int (x8))] [] h6 Q))))))))) : X G mX1_run (d + 1) none [] 145 [(0, .ref (gW G 0)), (4, .int (l4))] [] h Q := by
  refine x_iload (pc' := 147) 1 (dX1_run 72 rfl rfl) rfl rfl ?_
  refine x_aload_n (pc' := 148) 0 (dX1_run 73 rfl rfl) rfl rfl rfl ?_
  refine x_getR (pc' := 151) (dX1_run 74 rfl rfl) g13 q971 (Or.inl rfl) rfl (hf_of 0 s0.1 rfl (by decide) m0_13) (s0.2 9 _ rfl rfl).1 ?_
  refine x_getI (pc' := 154) (dX1_run 75 rfl rfl) g78 q576 (Or.inl rfl) rfl (hf_of 5 (s0.2 9 _ rfl rfl).2.1 rfl (by decide) m5_78) ?_
  refine x_icmp_ge (pc' := 157) (tgt := 182) (dX1_run 76 rfl rfl) (by decide) rfl (fun c1 => ?_) (fun c1 => ?_)
  · replace hf := hf.1 c1
    refine x_iconst (pc' := 183) (v := 0) (dX1_run 87 rfl rfl) (by decide) rfl ?_
    refine x_istore (pc' := 185) (dX1_run 88 rfl rfl) (by decide) rfl rfl ?_
    exact X.sub [1, 0] rfl (by simp) hf
  · replace hf := hf.2 c1
    refine x_aload_n (pc' := 158) 0 (dX1_run 77 rfl rfl) rfl rfl rfl ?_
    refine x_getR (pc' := 161) (dX1_run 78 rfl rfl) g3 q961 (Or.inl rfl) rfl (hf_of 0 s0.1 rfl (by decide) m0_3) (s0.2 3 _ rfl rfl).1 ?_
    refine x_aload_n (pc' := 162) 0 (dX1_run 79 rfl rfl) rfl rfl rfl ?_
    refine x_getR (pc' := 165) (dX1_run 80 rfl rfl) g13 q971 (Or.inl rfl) rfl (hf_of 0 s0.1 rfl (by decide) m0_13) (s0.2 9 _ rfl rfl).1 ?_
    refine x_iload (pc' := 167) 1 (dX1_run 81 rfl rfl) rfl rfl ?_
    refine x_inv (pc' := 170) (ν := mX7_get) (av := [_, _]) (st := [_]) rfl rfl (dX1_run 82 rfl rfl) (Nat.le_of_ble_eq_true rfl) wX7_get q221 (inv_V (k := 5) (dX1_run 82 rfl rfl) q2813 q1414 q1415 wX7_get (by decide) lX7_get (by decide) (s0.2 9 _ rfl rfl).2.1) (exN (by decide)) rfl ?_
    refine C.mono hf (fun _ _ => KR.g (fun b4 h2 hf le3 => ?_))
    replace s0 := s0.le sc0 (le3)
    replace s4 := s4.le sc4 (le3)
    obtain ⟨k5, hf⟩ := hf
    refine x_castS (pc' := 173) (k := 12) (dX1_run 83 rfl rfl) q2814 (by decide) k5 rfl ?_
    refine x_inv (pc' := 176) (ν := mX9_keep) (av := [_, _]) (st := []) rfl rfl (dX1_run 84 rfl rfl) (Nat.le_of_ble_eq_true rfl) wX9_keep q223 (inv_V (k := 7) (dX1_run 84 rfl rfl) q3293 q3294 q3295 wX9_keep (by decide) lX9_keep (by decide) s4.1) (exN (by decide)) rfl ?_
    refine C.mono hf (fun _ _ => KV.g (fun h6 hf le7 => ?_))
    have k5 := leK le7 k5 (by decide)
    replace s0 := s0.le sc0 (le7)
    replace s4 := s4.le sc4 (le7)
    replace hf := hf _ rfl
    refine x_iinc (pc' := 179) 1 (dX1_run 85 rfl rfl) rfl (by rfl) (by decide) rfl rfl ?_
    refine x_goto (tgt := 145) (dX1_run 86 rfl rfl) (by decide) ?_
    exact X.sub [1, 0] rfl (by simp) hf
theorem bX1_run_185 (G : Gh) (d : Nat) (h : AH) (Q : Outcome → AH → Prop) (l4 : Int32) (s0 : So 0 (gW G) h) (s4 : So 4 (gW G) h) (hf : ((fI h (gW G 1014) 78) ≤ l4 → (X G mX1_run (d + 1) none [] 225 [(0, .ref (gW G 0)), (4, .int (0))] [] h Q)) ∧ (¬ ((fI h (gW G 1014) 78) ≤ l4) → (C G mX7_get d [.ref (gW G 1014), .int (l4)] h (KR Q (fun b4 h2 => hK h2 b4 = 4 ∧ (C G mX9_addName d [.ref (gW G 4), .ref (b4)] h2 (KV Q (fun h6 => ∀ x8 : Int32, x8 = l4 + 1 → (X G mX1_run (d + 1) none [] 185 [(0, .ref (gW G 0)), (4, .int (x8))] [] h6 Q))))))))) : X G mX1_run (d + 1) none [] 185 [(0, .ref (gW G 0)), (4, .int (l4))] [] h Q := by
  refine x_iload (pc' := 187) 1 (dX1_run 89 rfl rfl) rfl rfl ?_
  refine x_aload_n (pc' := 188) 0 (dX1_run 90 rfl rfl) rfl rfl rfl ?_
  refine x_getR (pc' := 191) (dX1_run 91 rfl rfl) g14 q972 (Or.inl rfl) rfl (hf_of 0 s0.1 rfl (by decide) m0_14) (s0.2 10 _ rfl rfl).1 ?_
  refine x_getI (pc' := 194) (dX1_run 92 rfl rfl) g78 q576 (Or.inl rfl) rfl (hf_of 5 (s0.2 10 _ rfl rfl).2.1 rfl (by decide) m5_78) ?_
  refine x_icmp_ge (pc' := 197) (tgt := 222) (dX1_run 93 rfl rfl) (by decide) rfl (fun c1 => ?_) (fun c1 => ?_)
  · replace hf := hf.1 c1
    refine x_iconst (pc' := 223) (v := 0) (dX1_run 104 rfl rfl) (by decide) rfl ?_
    refine x_istore (pc' := 225) (dX1_run 105 rfl rfl) (by decide) rfl rfl ?_
    exact X.sub [1, 0] rfl (by simp) hf
  · replace hf := hf.2 c1
    refine x_aload_n (pc' := 198) 0 (dX1_run 94 rfl rfl) rfl rfl rfl ?_
    refine x_getR (pc' := 201) (dX1_run 95 rfl rfl) g3 q961 (Or.inl rfl) rfl (hf_of 0 s0.1 rfl (by decide) m0_3) (s0.2 3 _ rfl rfl).1 ?_
    refine x_aload_n (pc' := 202) 0 (dX1_run 96 rfl rfl) rfl rfl rfl ?_
    refine x_getR (pc' := 205) (dX1_run 97 rfl rfl) g14 q972 (Or.inl rfl) rfl (hf_of 0 s0.1 rfl (by decide) m0_14) (s0.2 10 _ rfl rfl).1 ?_
    refine x_iload (pc' := 207) 1 (dX1_run 98 rfl rfl) rfl rfl ?_
    refine x_inv (pc' := 210) (ν := mX7_get) (av := [_, _]) (st := [_]) rfl rfl (dX1_run 99 rfl rfl) (Nat.le_of_ble_eq_true rfl) wX7_get q221 (inv_V (k := 5) (dX1_run 99 rfl rfl) q2813 q1414 q1415 wX7_get (by decide) lX7_get (by decide) (s0.2 10 _ rfl rfl).2.1) (exN (by decide)) rfl ?_
    refine C.mono hf (fun _ _ => KR.g (fun b4 h2 hf le3 => ?_))
    replace s0 := s0.le sc0 (le3)
    replace s4 := s4.le sc4 (le3)
    obtain ⟨k5, hf⟩ := hf
    refine x_castS (pc' := 213) (k := 3) (dX1_run 100 rfl rfl) q3301 (by decide) k5 rfl ?_
    refine x_inv (pc' := 216) (ν := mX9_addName) (av := [_, _]) (st := []) rfl rfl (dX1_run 101 rfl rfl) (Nat.le_of_ble_eq_true rfl) wX9_addName q223 (inv_V (k := 7) (dX1_run 101 rfl rfl) q3302 q2080 q2081 wX9_addName (by decide) lX9_addName (by decide) s4.1) (exN (by decide)) rfl ?_
    refine C.mono hf (fun _ _ => KV.g (fun h6 hf le7 => ?_))
    have k5 := leK le7 k5 (by decide)
    replace s0 := s0.le sc0 (le7)
    replace s4 := s4.le sc4 (le7)
    replace hf := hf _ rfl
    refine x_iinc (pc' := 219) 1 (dX1_run 102 rfl rfl) rfl (by rfl) (by decide) rfl rfl ?_
    refine x_goto (tgt := 185) (dX1_run 103 rfl rfl) (by decide) ?_
    exact X.sub [1, 0] rfl (by simp) hf
theorem bX1_run_225 (G : Gh) (d : Nat) (h : AH) (Q : Outcome → AH → Prop) (l4 : Int32) (s0 : So 0 (gW G) h) (s4 : So 4 (gW G) h) (hf : ((fI h (gW G 1015) 78) ≤ l4 → (Q (.returned (some (.int 0))) h)) ∧ (¬ ((fI h (gW G 1015) 78) ≤ l4) → (C G mX7_get d [.ref (gW G 1015), .int (l4)] h (KR Q (fun b4 h2 => hK h2 b4 = 54 ∧ (C G mX9_addCon d [.ref (gW G 4), .ref (b4)] h2 (KV Q (fun h6 => ∀ x8 : Int32, x8 = l4 + 1 → (X G mX1_run (d + 1) none [] 225 [(0, .ref (gW G 0)), (4, .int (x8))] [] h6 Q))))))))) : X G mX1_run (d + 1) none [] 225 [(0, .ref (gW G 0)), (4, .int (l4))] [] h Q := by
  refine x_iload (pc' := 227) 1 (dX1_run 106 rfl rfl) rfl rfl ?_
  refine x_aload_n (pc' := 228) 0 (dX1_run 107 rfl rfl) rfl rfl rfl ?_
  refine x_getR (pc' := 231) (dX1_run 108 rfl rfl) g15 q973 (Or.inl rfl) rfl (hf_of 0 s0.1 rfl (by decide) m0_15) (s0.2 11 _ rfl rfl).1 ?_
  refine x_getI (pc' := 234) (dX1_run 109 rfl rfl) g78 q576 (Or.inl rfl) rfl (hf_of 5 (s0.2 11 _ rfl rfl).2.1 rfl (by decide) m5_78) ?_
  refine x_icmp_ge (pc' := 237) (tgt := 262) (dX1_run 110 rfl rfl) (by decide) rfl (fun c1 => ?_) (fun c1 => ?_)
  · replace hf := hf.1 c1
    refine x_iconst (pc' := 263) (v := 0) (dX1_run 121 rfl rfl) (by decide) rfl ?_
    exact x_iret (dX1_run 122 rfl rfl) rfl hf
  · replace hf := hf.2 c1
    refine x_aload_n (pc' := 238) 0 (dX1_run 111 rfl rfl) rfl rfl rfl ?_
    refine x_getR (pc' := 241) (dX1_run 112 rfl rfl) g3 q961 (Or.inl rfl) rfl (hf_of 0 s0.1 rfl (by decide) m0_3) (s0.2 3 _ rfl rfl).1 ?_
    refine x_aload_n (pc' := 242) 0 (dX1_run 113 rfl rfl) rfl rfl rfl ?_
    refine x_getR (pc' := 245) (dX1_run 114 rfl rfl) g15 q973 (Or.inl rfl) rfl (hf_of 0 s0.1 rfl (by decide) m0_15) (s0.2 11 _ rfl rfl).1 ?_
    refine x_iload (pc' := 247) 1 (dX1_run 115 rfl rfl) rfl rfl ?_
    refine x_inv (pc' := 250) (ν := mX7_get) (av := [_, _]) (st := [_]) rfl rfl (dX1_run 116 rfl rfl) (Nat.le_of_ble_eq_true rfl) wX7_get q221 (inv_V (k := 5) (dX1_run 116 rfl rfl) q2813 q1414 q1415 wX7_get (by decide) lX7_get (by decide) (s0.2 11 _ rfl rfl).2.1) (exN (by decide)) rfl ?_
    refine C.mono hf (fun _ _ => KR.g (fun b4 h2 hf le3 => ?_))
    replace s0 := s0.le sc0 (le3)
    replace s4 := s4.le sc4 (le3)
    obtain ⟨k5, hf⟩ := hf
    refine x_castS (pc' := 253) (k := 53) (dX1_run 117 rfl rfl) q3303 (by decide) k5 rfl ?_
    refine x_inv (pc' := 256) (ν := mX9_addCon) (av := [_, _]) (st := []) rfl rfl (dX1_run 118 rfl rfl) (Nat.le_of_ble_eq_true rfl) wX9_addCon q223 (inv_V (k := 7) (dX1_run 118 rfl rfl) q3304 q2181 q2182 wX9_addCon (by decide) lX9_addCon (by decide) s4.1) (exN (by decide)) rfl ?_
    refine C.mono hf (fun _ _ => KV.g (fun h6 hf le7 => ?_))
    have k5 := leK le7 k5 (by decide)
    replace s0 := s0.le sc0 (le7)
    replace s4 := s4.le sc4 (le7)
    replace hf := hf _ rfl
    refine x_iinc (pc' := 259) 1 (dX1_run 119 rfl rfl) rfl (by rfl) (by decide) rfl rfl ?_
    refine x_goto (tgt := 225) (dX1_run 120 rfl rfl) (by decide) ?_
    exact X.sub [1, 0] rfl (by simp) hf
theorem bX1_look (G : Gh) (d : Nat) (h : AH) (Q : Outcome → AH → Prop) (p1 : Int32) (s0 : So 0 (gW G) h) (s1 : So 1 (gW G) h) (hf : C G mX1_cut d [.ref (gW G 0)] h (KV Q (fun h1 => (p1 = 0 → (C G mX1_check d [.int (1)] h1 (KV Q (fun h4 => ((fI h4 (gW G 1) 28) = 2 → (vp_in 0 4098 ∧ (((aI h4 (gW G 1024) (0 : Int32).toNatClampNeg) = 280 → (vp_in 1 4098 ∧ (((aI h4 (gW G 1024) (1 : Int32).toNatClampNeg) = 291 → (X G mX1_look (d + 1) none [] 67 [(0, .ref (gW G 0)), (1, .int (p1))] [.int (1)] h4 Q)) ∧ (¬ ((aI h4 (gW G 1024) (1 : Int32).toNatClampNeg) = 291) → (X G mX1_look (d + 1) none [] 67 [(0, .ref (gW G 0)), (1, .int (p1))] [.int (0)] h4 Q))))) ∧ (¬ ((aI h4 (gW G 1024) (0 : Int32).toNatClampNeg) = 280) → (X G mX1_look (d + 1) none [] 67 [(0, .ref (gW G 0)), (1, .int (p1))] [.int (0)] h4 Q))))) ∧ (¬ ((fI h4 (gW G 1) 28) = 2) → (X G mX1_look (d + 1) none [] 67 [(0, .ref (gW G 0)), (1, .int (p1))] [.int (0)] h4 Q)))))) ∧ (¬ p1 = 0 → ((p1 = 1 → (C G mX1_check d [.int (1)] h1 (KV Q (fun h19 => ((fI h19 (gW G 1) 28) = 2 → (vp_in 0 4098 ∧ (((aI h19 (gW G 1024) (0 : Int32).toNatClampNeg) = 280 → (vp_in 1 4098 ∧ (((aI h19 (gW G 1024) (1 : Int32).toNatClampNeg) = 291 → (X G mX1_look (d + 1) none [] 67 [(0, .ref (gW G 0)), (1, .int (p1))] [.int (1)] h19 Q)) ∧ (¬ ((aI h19 (gW G 1024) (1 : Int32).toNatClampNeg) = 291) → (X G mX1_look (d + 1) none [] 67 [(0, .ref (gW G 0)), (1, .int (p1))] [.int (0)] h19 Q))))) ∧ (¬ ((aI h19 (gW G 1024) (0 : Int32).toNatClampNeg) = 280) → (X G mX1_look (d + 1) none [] 67 [(0, .ref (gW G 0)), (1, .int (p1))] [.int (0)] h19 Q))))) ∧ (¬ ((fI h19 (gW G 1) 28) = 2) → (X G mX1_look (d + 1) none [] 67 [(0, .ref (gW G 0)), (1, .int (p1))] [.int (0)] h19 Q)))))) ∧ (¬ p1 = 1 → (C G mX1_check d [.int (0)] h1 (KV Q (fun h12 => ((fI h12 (gW G 1) 28) = 2 → (vp_in 0 4098 ∧ (((aI h12 (gW G 1024) (0 : Int32).toNatClampNeg) = 280 → (vp_in 1 4098 ∧ (((aI h12 (gW G 1024) (1 : Int32).toNatClampNeg) = 291 → (X G mX1_look (d + 1) none [] 67 [(0, .ref (gW G 0)), (1, .int (p1))] [.int (1)] h12 Q)) ∧ (¬ ((aI h12 (gW G 1024) (1 : Int32).toNatClampNeg) = 291) → (X G mX1_look (d + 1) none [] 67 [(0, .ref (gW G 0)), (1, .int (p1))] [.int (0)] h12 Q))))) ∧ (¬ ((aI h12 (gW G 1024) (0 : Int32).toNatClampNeg) = 280) → (X G mX1_look (d + 1) none [] 67 [(0, .ref (gW G 0)), (1, .int (p1))] [.int (0)] h12 Q))))) ∧ (¬ ((fI h12 (gW G 1) 28) = 2) → (X G mX1_look (d + 1) none [] 67 [(0, .ref (gW G 0)), (1, .int (p1))] [.int (0)] h12 Q))))))))))) : C G mX1_look (d + 1) [.ref (gW G 0), .int (p1)] h Q := by
  refine C.of_X (by decide +kernel) (Nat.le_of_ble_eq_true rfl) wX1_look ?_
  show X G mX1_look (d + 1) none [] 0 [(0, .ref (gW G 0)), (1, .int (p1))] [] h Q
  refine x_aload_n (pc' := 1) 0 (dX1_look 0 rfl rfl) rfl rfl rfl ?_
  refine x_inv (pc' := 4) (ν := mX1_cut) (av := [_]) (st := []) rfl rfl (dX1_look 1 rfl rfl) (Nat.le_of_ble_eq_true rfl) wX1_cut q211 (inv_V (k := 0) (dX1_look 1 rfl rfl) q1151 q1153 qs4 wX1_cut (by decide) lX1_cut (by decide) s0.1) (exN (by decide)) rfl ?_
  refine C.mono hf (fun _ _ => KV.g (fun h1 hf le2 => ?_))
  replace s0 := s0.le sc0 (le2)
  replace s1 := s1.le sc1 (le2)
  refine x_iload_n (pc' := 5) 1 (dX1_look 2 rfl rfl) rfl rfl rfl ?_
  refine x_if_eq (pc' := 8) (tgt := 13) (dX1_look 3 rfl rfl) (by decide) rfl (fun c3 => ?_) (fun c3 => ?_)
  · replace hf := hf.1 c3
    refine x_iconst (pc' := 14) (v := 1) (dX1_look 7 rfl rfl) (by decide) rfl ?_
    refine x_goto (tgt := 18) (dX1_look 8 rfl rfl) (by decide) ?_
    refine x_inv (pc' := 21) (ν := mX1_check) (av := [_]) (st := []) rfl rfl (dX1_look 10 rfl rfl) (Nat.le_of_ble_eq_true rfl) wX1_check q211 (inv_S (dX1_look 10 rfl rfl) q1124 q1125 q211 wX1_check (by decide) lX1_check) (exN (by decide)) rfl ?_
    refine C.mono hf (fun _ _ => KV.g (fun h4 hf le5 => ?_))
    replace s0 := s0.le sc0 (le5)
    replace s1 := s1.le sc1 (le5)
    refine x_aload_n (pc' := 22) 0 (dX1_look 11 rfl rfl) rfl rfl rfl ?_
    refine x_getR (pc' := 25) (dX1_look 12 rfl rfl) g0 q958 (Or.inl rfl) rfl (hf_of 0 s0.1 rfl (by decide) m0_0) (s0.2 0 _ rfl rfl).1 ?_
    refine x_getI (pc' := 28) (dX1_look 13 rfl rfl) g28 q338 (Or.inl rfl) rfl (hf_of 1 s1.1 rfl (by decide) m1_28) ?_
    refine x_iconst (pc' := 29) (v := 2) (dX1_look 14 rfl rfl) (by decide) rfl ?_
    refine x_icmp_ne (pc' := 32) (tgt := 66) (dX1_look 15 rfl rfl) (by decide) rfl (fun c6 => ?_) (fun c6 => ?_)
    · replace hf := hf.2 c6
      refine x_iconst (pc' := 67) (v := 0) (dX1_look 32 rfl rfl) (by decide) rfl ?_
      exact X.sub [0, 1] rfl (by simp) hf
    · replace hf := hf.1 (Classical.not_not.mp c6)
      replace c6 := Classical.not_not.mp c6
      refine x_aload_n (pc' := 33) 0 (dX1_look 16 rfl rfl) rfl rfl rfl ?_
      refine x_getR (pc' := 36) (dX1_look 17 rfl rfl) g0 q958 (Or.inl rfl) rfl (hf_of 0 s0.1 rfl (by decide) m0_0) (s0.2 0 _ rfl rfl).1 ?_
      refine x_getR (pc' := 39) (dX1_look 18 rfl rfl) g24 q324 (Or.inl rfl) rfl (hf_of 1 s1.1 rfl (by decide) m1_24) (s1.2 2 _ rfl rfl).1 ?_
      refine x_iconst (pc' := 40) (v := 0) (dX1_look 19 rfl rfl) (by decide) rfl ?_
      obtain ⟨i7, hf⟩ := hf
      refine x_iald (pc' := 41) (dX1_look 20 rfl rfl) rfl (s1.2 2 _ rfl rfl).2.1 (by rw [(s1.2 2 _ rfl rfl).2.2.2 (by decide)]; exact i7) ?_
      refine x_sipush (pc' := 44) (v := 280) (dX1_look 21 rfl rfl) (by decide) rfl ?_
      refine x_icmp_ne (pc' := 47) (tgt := 66) (dX1_look 22 rfl rfl) (by decide) rfl (fun c8 => ?_) (fun c8 => ?_)
      · replace hf := hf.2 c8
        refine x_iconst (pc' := 67) (v := 0) (dX1_look 32 rfl rfl) (by decide) rfl ?_
        exact X.sub [0, 1] rfl (by simp) hf
      · replace hf := hf.1 (Classical.not_not.mp c8)
        replace c8 := Classical.not_not.mp c8
        refine x_aload_n (pc' := 48) 0 (dX1_look 23 rfl rfl) rfl rfl rfl ?_
        refine x_getR (pc' := 51) (dX1_look 24 rfl rfl) g0 q958 (Or.inl rfl) rfl (hf_of 0 s0.1 rfl (by decide) m0_0) (s0.2 0 _ rfl rfl).1 ?_
        refine x_getR (pc' := 54) (dX1_look 25 rfl rfl) g24 q324 (Or.inl rfl) rfl (hf_of 1 s1.1 rfl (by decide) m1_24) (s1.2 2 _ rfl rfl).1 ?_
        refine x_iconst (pc' := 55) (v := 1) (dX1_look 26 rfl rfl) (by decide) rfl ?_
        obtain ⟨i9, hf⟩ := hf
        refine x_iald (pc' := 56) (dX1_look 27 rfl rfl) rfl (s1.2 2 _ rfl rfl).2.1 (by rw [(s1.2 2 _ rfl rfl).2.2.2 (by decide)]; exact i9) ?_
        refine x_sipush (pc' := 59) (v := 291) (dX1_look 28 rfl rfl) (by decide) rfl ?_
        refine x_icmp_ne (pc' := 62) (tgt := 66) (dX1_look 29 rfl rfl) (by decide) rfl (fun c10 => ?_) (fun c10 => ?_)
        · replace hf := hf.2 c10
          refine x_iconst (pc' := 67) (v := 0) (dX1_look 32 rfl rfl) (by decide) rfl ?_
          exact X.sub [0, 1] rfl (by simp) hf
        · replace hf := hf.1 (Classical.not_not.mp c10)
          replace c10 := Classical.not_not.mp c10
          refine x_iconst (pc' := 63) (v := 1) (dX1_look 30 rfl rfl) (by decide) rfl ?_
          refine x_goto (tgt := 67) (dX1_look 31 rfl rfl) (by decide) ?_
          exact X.sub [0, 1] rfl (by simp) hf
  · replace hf := hf.2 c3
    refine x_iload_n (pc' := 9) 1 (dX1_look 4 rfl rfl) rfl rfl rfl ?_
    refine x_iconst (pc' := 10) (v := 1) (dX1_look 5 rfl rfl) (by decide) rfl ?_
    refine x_icmp_ne (pc' := 13) (tgt := 17) (dX1_look 6 rfl rfl) (by decide) rfl (fun c11 => ?_) (fun c11 => ?_)
    · replace hf := hf.2 c11
      refine x_iconst (pc' := 18) (v := 0) (dX1_look 9 rfl rfl) (by decide) rfl ?_
      refine x_inv (pc' := 21) (ν := mX1_check) (av := [_]) (st := []) rfl rfl (dX1_look 10 rfl rfl) (Nat.le_of_ble_eq_true rfl) wX1_check q211 (inv_S (dX1_look 10 rfl rfl) q1124 q1125 q211 wX1_check (by decide) lX1_check) (exN (by decide)) rfl ?_
      refine C.mono hf (fun _ _ => KV.g (fun h12 hf le13 => ?_))
      replace s0 := s0.le sc0 (le13)
      replace s1 := s1.le sc1 (le13)
      refine x_aload_n (pc' := 22) 0 (dX1_look 11 rfl rfl) rfl rfl rfl ?_
      refine x_getR (pc' := 25) (dX1_look 12 rfl rfl) g0 q958 (Or.inl rfl) rfl (hf_of 0 s0.1 rfl (by decide) m0_0) (s0.2 0 _ rfl rfl).1 ?_
      refine x_getI (pc' := 28) (dX1_look 13 rfl rfl) g28 q338 (Or.inl rfl) rfl (hf_of 1 s1.1 rfl (by decide) m1_28) ?_
      refine x_iconst (pc' := 29) (v := 2) (dX1_look 14 rfl rfl) (by decide) rfl ?_
      refine x_icmp_ne (pc' := 32) (tgt := 66) (dX1_look 15 rfl rfl) (by decide) rfl (fun c14 => ?_) (fun c14 => ?_)
      · replace hf := hf.2 c14
        refine x_iconst (pc' := 67) (v := 0) (dX1_look 32 rfl rfl) (by decide) rfl ?_
        exact X.sub [0, 1] rfl (by simp) hf
      · replace hf := hf.1 (Classical.not_not.mp c14)
        replace c14 := Classical.not_not.mp c14
        refine x_aload_n (pc' := 33) 0 (dX1_look 16 rfl rfl) rfl rfl rfl ?_
        refine x_getR (pc' := 36) (dX1_look 17 rfl rfl) g0 q958 (Or.inl rfl) rfl (hf_of 0 s0.1 rfl (by decide) m0_0) (s0.2 0 _ rfl rfl).1 ?_
        refine x_getR (pc' := 39) (dX1_look 18 rfl rfl) g24 q324 (Or.inl rfl) rfl (hf_of 1 s1.1 rfl (by decide) m1_24) (s1.2 2 _ rfl rfl).1 ?_
        refine x_iconst (pc' := 40) (v := 0) (dX1_look 19 rfl rfl) (by decide) rfl ?_
        obtain ⟨i15, hf⟩ := hf
        refine x_iald (pc' := 41) (dX1_look 20 rfl rfl) rfl (s1.2 2 _ rfl rfl).2.1 (by rw [(s1.2 2 _ rfl rfl).2.2.2 (by decide)]; exact i15) ?_
        refine x_sipush (pc' := 44) (v := 280) (dX1_look 21 rfl rfl) (by decide) rfl ?_
        refine x_icmp_ne (pc' := 47) (tgt := 66) (dX1_look 22 rfl rfl) (by decide) rfl (fun c16 => ?_) (fun c16 => ?_)
        · replace hf := hf.2 c16
          refine x_iconst (pc' := 67) (v := 0) (dX1_look 32 rfl rfl) (by decide) rfl ?_
          exact X.sub [0, 1] rfl (by simp) hf
        · replace hf := hf.1 (Classical.not_not.mp c16)
          replace c16 := Classical.not_not.mp c16
          refine x_aload_n (pc' := 48) 0 (dX1_look 23 rfl rfl) rfl rfl rfl ?_
          refine x_getR (pc' := 51) (dX1_look 24 rfl rfl) g0 q958 (Or.inl rfl) rfl (hf_of 0 s0.1 rfl (by decide) m0_0) (s0.2 0 _ rfl rfl).1 ?_
          refine x_getR (pc' := 54) (dX1_look 25 rfl rfl) g24 q324 (Or.inl rfl) rfl (hf_of 1 s1.1 rfl (by decide) m1_24) (s1.2 2 _ rfl rfl).1 ?_
          refine x_iconst (pc' := 55) (v := 1) (dX1_look 26 rfl rfl) (by decide) rfl ?_
          obtain ⟨i17, hf⟩ := hf
          refine x_iald (pc' := 56) (dX1_look 27 rfl rfl) rfl (s1.2 2 _ rfl rfl).2.1 (by rw [(s1.2 2 _ rfl rfl).2.2.2 (by decide)]; exact i17) ?_
          refine x_sipush (pc' := 59) (v := 291) (dX1_look 28 rfl rfl) (by decide) rfl ?_
          refine x_icmp_ne (pc' := 62) (tgt := 66) (dX1_look 29 rfl rfl) (by decide) rfl (fun c18 => ?_) (fun c18 => ?_)
          · replace hf := hf.2 c18
            refine x_iconst (pc' := 67) (v := 0) (dX1_look 32 rfl rfl) (by decide) rfl ?_
            exact X.sub [0, 1] rfl (by simp) hf
          · replace hf := hf.1 (Classical.not_not.mp c18)
            replace c18 := Classical.not_not.mp c18
            refine x_iconst (pc' := 63) (v := 1) (dX1_look 30 rfl rfl) (by decide) rfl ?_
            refine x_goto (tgt := 67) (dX1_look 31 rfl rfl) (by decide) ?_
            exact X.sub [0, 1] rfl (by simp) hf
    · replace hf := hf.1 (Classical.not_not.mp c11)
      replace c11 := Classical.not_not.mp c11
      refine x_iconst (pc' := 14) (v := 1) (dX1_look 7 rfl rfl) (by decide) rfl ?_
      refine x_goto (tgt := 18) (dX1_look 8 rfl rfl) (by decide) ?_
      refine x_inv (pc' := 21) (ν := mX1_check) (av := [_]) (st := []) rfl rfl (dX1_look 10 rfl rfl) (Nat.le_of_ble_eq_true rfl) wX1_check q211 (inv_S (dX1_look 10 rfl rfl) q1124 q1125 q211 wX1_check (by decide) lX1_check) (exN (by decide)) rfl ?_
      refine C.mono hf (fun _ _ => KV.g (fun h19 hf le20 => ?_))
      replace s0 := s0.le sc0 (le20)
      replace s1 := s1.le sc1 (le20)
      refine x_aload_n (pc' := 22) 0 (dX1_look 11 rfl rfl) rfl rfl rfl ?_
      refine x_getR (pc' := 25) (dX1_look 12 rfl rfl) g0 q958 (Or.inl rfl) rfl (hf_of 0 s0.1 rfl (by decide) m0_0) (s0.2 0 _ rfl rfl).1 ?_
      refine x_getI (pc' := 28) (dX1_look 13 rfl rfl) g28 q338 (Or.inl rfl) rfl (hf_of 1 s1.1 rfl (by decide) m1_28) ?_
      refine x_iconst (pc' := 29) (v := 2) (dX1_look 14 rfl rfl) (by decide) rfl ?_
      refine x_icmp_ne (pc' := 32) (tgt := 66) (dX1_look 15 rfl rfl) (by decide) rfl (fun c21 => ?_) (fun c21 => ?_)
      · replace hf := hf.2 c21
        refine x_iconst (pc' := 67) (v := 0) (dX1_look 32 rfl rfl) (by decide) rfl ?_
        exact X.sub [0, 1] rfl (by simp) hf
      · replace hf := hf.1 (Classical.not_not.mp c21)
        replace c21 := Classical.not_not.mp c21
        refine x_aload_n (pc' := 33) 0 (dX1_look 16 rfl rfl) rfl rfl rfl ?_
        refine x_getR (pc' := 36) (dX1_look 17 rfl rfl) g0 q958 (Or.inl rfl) rfl (hf_of 0 s0.1 rfl (by decide) m0_0) (s0.2 0 _ rfl rfl).1 ?_
        refine x_getR (pc' := 39) (dX1_look 18 rfl rfl) g24 q324 (Or.inl rfl) rfl (hf_of 1 s1.1 rfl (by decide) m1_24) (s1.2 2 _ rfl rfl).1 ?_
        refine x_iconst (pc' := 40) (v := 0) (dX1_look 19 rfl rfl) (by decide) rfl ?_
        obtain ⟨i22, hf⟩ := hf
        refine x_iald (pc' := 41) (dX1_look 20 rfl rfl) rfl (s1.2 2 _ rfl rfl).2.1 (by rw [(s1.2 2 _ rfl rfl).2.2.2 (by decide)]; exact i22) ?_
        refine x_sipush (pc' := 44) (v := 280) (dX1_look 21 rfl rfl) (by decide) rfl ?_
        refine x_icmp_ne (pc' := 47) (tgt := 66) (dX1_look 22 rfl rfl) (by decide) rfl (fun c23 => ?_) (fun c23 => ?_)
        · replace hf := hf.2 c23
          refine x_iconst (pc' := 67) (v := 0) (dX1_look 32 rfl rfl) (by decide) rfl ?_
          exact X.sub [0, 1] rfl (by simp) hf
        · replace hf := hf.1 (Classical.not_not.mp c23)
          replace c23 := Classical.not_not.mp c23
          refine x_aload_n (pc' := 48) 0 (dX1_look 23 rfl rfl) rfl rfl rfl ?_
          refine x_getR (pc' := 51) (dX1_look 24 rfl rfl) g0 q958 (Or.inl rfl) rfl (hf_of 0 s0.1 rfl (by decide) m0_0) (s0.2 0 _ rfl rfl).1 ?_
          refine x_getR (pc' := 54) (dX1_look 25 rfl rfl) g24 q324 (Or.inl rfl) rfl (hf_of 1 s1.1 rfl (by decide) m1_24) (s1.2 2 _ rfl rfl).1 ?_
          refine x_iconst (pc' := 55) (v := 1) (dX1_look 26 rfl rfl) (by decide) rfl ?_
          obtain ⟨i24, hf⟩ := hf
          refine x_iald (pc' := 56) (dX1_look 27 rfl rfl) rfl (s1.2 2 _ rfl rfl).2.1 (by rw [(s1.2 2 _ rfl rfl).2.2.2 (by decide)]; exact i24) ?_
          refine x_sipush (pc' := 59) (v := 291) (dX1_look 28 rfl rfl) (by decide) rfl ?_
          refine x_icmp_ne (pc' := 62) (tgt := 66) (dX1_look 29 rfl rfl) (by decide) rfl (fun c25 => ?_) (fun c25 => ?_)
          · replace hf := hf.2 c25
            refine x_iconst (pc' := 67) (v := 0) (dX1_look 32 rfl rfl) (by decide) rfl ?_
            exact X.sub [0, 1] rfl (by simp) hf
          · replace hf := hf.1 (Classical.not_not.mp c25)
            replace c25 := Classical.not_not.mp c25
            refine x_iconst (pc' := 63) (v := 1) (dX1_look 30 rfl rfl) (by decide) rfl ?_
            refine x_goto (tgt := 67) (dX1_look 31 rfl rfl) (by decide) ?_
            exact X.sub [0, 1] rfl (by simp) hf
theorem bX1_look_67 (G : Gh) (d : Nat) (h : AH) (Q : Outcome → AH → Prop) (l1 : Int32) (t0 : Int32) (s0 : So 0 (gW G) h) (s4 : So 4 (gW G) h) (s8 : So 8 (gW G) h) (hf : C G mX1_there d [.int (t0)] h (KV Q (fun h1 => C G mX9_begin d [.ref (gW G 4)] h1 (KV Q (fun h3 => C G mX9_name d [.ref (gW G 4), .int (0)] h3 (KN Q (fun h5 => C G mX1_there d [.int (0)] h5 (KV Q (fun h8 => (l1 = 0 → (False)) ∧ (¬ l1 = 0 → (False))))) (fun b7 h5 => C G mX1_there d [.int (1)] h5 (KV Q (fun h11 => (l1 = 0 → (hK h11 b7 = 13 ∧ (∃ b18, fR h11 b7 130 = some b18 ∧ (C G mX13_type d [.ref (gW G 8), .ref (b18)] h11 (KV Q (fun h20 => Q (.returned (some (.int (fI h20 (gW G 8) 120)))) h20)))))) ∧ (¬ l1 = 0 → (hK h11 b7 = 13 ∧ (C G mX13_value d [.ref (gW G 8), .int (fI h11 b7 131)] h11 (KV Q (fun h15 => Q (.returned (some (.int (fI h15 (gW G 8) 120)))) h15)))))))))))))) : X G mX1_look (d + 1) none [] 67 [(0, .ref (gW G 0)), (1, .int (l1))] [.int (t0)] h Q := by
  refine x_inv (pc' := 70) (ν := mX1_there) (av := [_]) (st := []) rfl rfl (dX1_look 33 rfl rfl) (Nat.le_of_ble_eq_true rfl) wX1_there q211 (inv_S (dX1_look 33 rfl rfl) q3313 q3314 q211 wX1_there (by decide) lX1_there) (exN (by decide)) rfl ?_
  refine C.mono hf (fun _ _ => KV.g (fun h1 hf le2 => ?_))
  replace s0 := s0.le sc0 (le2)
  replace s4 := s4.le sc4 (le2)
  replace s8 := s8.le sc8 (le2)
  refine x_aload_n (pc' := 71) 0 (dX1_look 34 rfl rfl) rfl rfl rfl ?_
  refine x_getR (pc' := 74) (dX1_look 35 rfl rfl) g3 q961 (Or.inl rfl) rfl (hf_of 0 s0.1 rfl (by decide) m0_3) (s0.2 3 _ rfl rfl).1 ?_
  refine x_inv (pc' := 77) (ν := mX9_begin) (av := [_]) (st := []) rfl rfl (dX1_look 36 rfl rfl) (Nat.le_of_ble_eq_true rfl) wX9_begin q223 (inv_V (k := 7) (dX1_look 36 rfl rfl) q1265 q1266 q1267 wX9_begin (by decide) lX9_begin (by decide) s4.1) (exN (by decide)) rfl ?_
  refine C.mono hf (fun _ _ => KV.g (fun h3 hf le4 => ?_))
  replace s0 := s0.le sc0 (le4)
  replace s4 := s4.le sc4 (le4)
  replace s8 := s8.le sc8 (le4)
  refine x_aload_n (pc' := 78) 0 (dX1_look 37 rfl rfl) rfl rfl rfl ?_
  refine x_getR (pc' := 81) (dX1_look 38 rfl rfl) g3 q961 (Or.inl rfl) rfl (hf_of 0 s0.1 rfl (by decide) m0_3) (s0.2 3 _ rfl rfl).1 ?_
  refine x_iconst (pc' := 82) (v := 0) (dX1_look 39 rfl rfl) (by decide) rfl ?_
  refine x_inv (pc' := 85) (ν := mX9_name) (av := [_, _]) (st := []) rfl rfl (dX1_look 40 rfl rfl) (Nat.le_of_ble_eq_true rfl) wX9_name q223 (inv_V (k := 7) (dX1_look 40 rfl rfl) q3331 q2285 q2286 wX9_name (by decide) lX9_name (by decide) s4.1) (exN (by decide)) rfl ?_
  refine C.mono hf (fun _ _ => KN.g (fun h5 hf le6 => ?_) (fun b7 h5 hf le6 => ?_))
  · replace s0 := s0.le sc0 (le6)
    replace s4 := s4.le sc4 (le6)
    replace s8 := s8.le sc8 (le6)
    refine x_astore_nN (pc' := 86) (dX1_look 41 rfl rfl) rfl (by decide) rfl rfl ?_
    refine x_aload_nN (pc' := 87) 0 (dX1_look 42 rfl rfl) rfl rfl rfl ?_
    refine x_ifnullN (tgt := 94) (dX1_look 43 rfl rfl) (by decide) ?_
    refine x_iconst (pc' := 95) (v := 0) (dX1_look 46 rfl rfl) (by decide) rfl ?_
    refine x_inv (pc' := 98) (ν := mX1_there) (av := [_]) (st := []) rfl rfl (dX1_look 47 rfl rfl) (Nat.le_of_ble_eq_true rfl) wX1_there q211 (inv_S (dX1_look 47 rfl rfl) q3313 q3314 q211 wX1_there (by decide) lX1_there) (exN (by decide)) rfl ?_
    refine C.mono hf (fun _ _ => KV.g (fun h8 hf le9 => ?_))
    replace s0 := s0.le sc0 (le9)
    replace s4 := s4.le sc4 (le9)
    replace s8 := s8.le sc8 (le9)
    refine x_iload_n (pc' := 99) 2 (dX1_look 48 rfl rfl) rfl rfl rfl ?_
    refine x_if_ne (pc' := 102) (tgt := 116) (dX1_look 49 rfl rfl) (by decide) rfl (fun c10 => ?_) (fun c10 => ?_)
    · replace hf := hf.2 c10
      refine x_aload_n (pc' := 117) 1 (dX1_look 56 rfl rfl) rfl rfl rfl ?_
      refine x_getR (pc' := 120) (dX1_look 57 rfl rfl) g7 q965 (Or.inl rfl) rfl (hf_of 0 s0.1 rfl (by decide) m0_7) (s0.2 7 _ rfl rfl).1 ?_
      refine x_aload_nN (pc' := 121) 0 (dX1_look 58 rfl rfl) rfl rfl rfl ?_
      exact hf.elim
    · replace hf := hf.1 (Classical.not_not.mp c10)
      replace c10 := Classical.not_not.mp c10
      refine x_aload_n (pc' := 103) 1 (dX1_look 50 rfl rfl) rfl rfl rfl ?_
      refine x_getR (pc' := 106) (dX1_look 51 rfl rfl) g7 q965 (Or.inl rfl) rfl (hf_of 0 s0.1 rfl (by decide) m0_7) (s0.2 7 _ rfl rfl).1 ?_
      refine x_aload_nN (pc' := 107) 0 (dX1_look 52 rfl rfl) rfl rfl rfl ?_
      exact hf.elim
  · replace s0 := s0.le sc0 (le6)
    replace s4 := s4.le sc4 (le6)
    replace s8 := s8.le sc8 (le6)
    refine x_astore_n (pc' := 86) (dX1_look 41 rfl rfl) rfl (by decide) rfl rfl ?_
    refine x_aload_n (pc' := 87) 0 (dX1_look 42 rfl rfl) rfl rfl rfl ?_
    refine x_ifnull (pc' := 90) (dX1_look 43 rfl rfl) rfl ?_
    refine x_iconst (pc' := 91) (v := 1) (dX1_look 44 rfl rfl) (by decide) rfl ?_
    refine x_goto (tgt := 95) (dX1_look 45 rfl rfl) (by decide) ?_
    refine x_inv (pc' := 98) (ν := mX1_there) (av := [_]) (st := []) rfl rfl (dX1_look 47 rfl rfl) (Nat.le_of_ble_eq_true rfl) wX1_there q211 (inv_S (dX1_look 47 rfl rfl) q3313 q3314 q211 wX1_there (by decide) lX1_there) (exN (by decide)) rfl ?_
    refine C.mono hf (fun _ _ => KV.g (fun h11 hf le12 => ?_))
    replace s0 := s0.le sc0 (le12)
    replace s4 := s4.le sc4 (le12)
    replace s8 := s8.le sc8 (le12)
    refine x_iload_n (pc' := 99) 2 (dX1_look 48 rfl rfl) rfl rfl rfl ?_
    refine x_if_ne (pc' := 102) (tgt := 116) (dX1_look 49 rfl rfl) (by decide) rfl (fun c13 => ?_) (fun c13 => ?_)
    · replace hf := hf.2 c13
      refine x_aload_n (pc' := 117) 1 (dX1_look 56 rfl rfl) rfl rfl rfl ?_
      refine x_getR (pc' := 120) (dX1_look 57 rfl rfl) g7 q965 (Or.inl rfl) rfl (hf_of 0 s0.1 rfl (by decide) m0_7) (s0.2 7 _ rfl rfl).1 ?_
      refine x_aload_n (pc' := 121) 0 (dX1_look 58 rfl rfl) rfl rfl rfl ?_
      obtain ⟨k14, hf⟩ := hf
      refine x_getI (pc' := 124) (dX1_look 59 rfl rfl) g131 q937 (Or.inl rfl) rfl (hf_of 12 k14 rfl (by decide) m12_131) ?_
      refine x_inv (pc' := 127) (ν := mX13_value) (av := [_, _]) (st := []) rfl rfl (dX1_look 60 rfl rfl) (Nat.le_of_ble_eq_true rfl) wX13_value q227 (inv_V (k := 11) (dX1_look 60 rfl rfl) q3366 q3367 q3368 wX13_value (by decide) lX13_value (by decide) s8.1) (exN (by decide)) rfl ?_
      refine C.mono hf (fun _ _ => KV.g (fun h15 hf le16 => ?_))
      have k14 := leK le16 k14 (by decide)
      replace s0 := s0.le sc0 (le16)
      replace s4 := s4.le sc4 (le16)
      replace s8 := s8.le sc8 (le16)
      refine x_aload_n (pc' := 128) 1 (dX1_look 61 rfl rfl) rfl rfl rfl ?_
      refine x_getR (pc' := 131) (dX1_look 62 rfl rfl) g7 q965 (Or.inl rfl) rfl (hf_of 0 s0.1 rfl (by decide) m0_7) (s0.2 7 _ rfl rfl).1 ?_
      refine x_getI (pc' := 134) (dX1_look 63 rfl rfl) g120 q882 (Or.inl rfl) rfl (hf_of 11 s8.1 rfl (by decide) m11_120) ?_
      exact x_iret (dX1_look 64 rfl rfl) rfl hf
    · replace hf := hf.1 (Classical.not_not.mp c13)
      replace c13 := Classical.not_not.mp c13
      refine x_aload_n (pc' := 103) 1 (dX1_look 50 rfl rfl) rfl rfl rfl ?_
      refine x_getR (pc' := 106) (dX1_look 51 rfl rfl) g7 q965 (Or.inl rfl) rfl (hf_of 0 s0.1 rfl (by decide) m0_7) (s0.2 7 _ rfl rfl).1 ?_
      refine x_aload_n (pc' := 107) 0 (dX1_look 52 rfl rfl) rfl rfl rfl ?_
      obtain ⟨k17, hf⟩ := hf
      obtain ⟨b18, e19, hf⟩ := hf
      refine x_getR (pc' := 110) (dX1_look 53 rfl rfl) g130 q934 (Or.inl rfl) rfl (hf_of 12 k17 rfl (by decide) m12_130) e19 ?_
      refine x_inv (pc' := 113) (ν := mX13_type) (av := [_, _]) (st := []) rfl rfl (dX1_look 54 rfl rfl) (Nat.le_of_ble_eq_true rfl) wX13_type q227 (inv_V (k := 11) (dX1_look 54 rfl rfl) q3332 q3333 q3334 wX13_type (by decide) lX13_type (by decide) s8.1) (exN (by decide)) rfl ?_
      refine C.mono hf (fun _ _ => KV.g (fun h20 hf le21 => ?_))
      have k17 := leK le21 k17 (by decide)
      replace s0 := s0.le sc0 (le21)
      replace s4 := s4.le sc4 (le21)
      replace s8 := s8.le sc8 (le21)
      refine x_goto (tgt := 127) (dX1_look 55 rfl rfl) (by decide) ?_
      refine x_aload_n (pc' := 128) 1 (dX1_look 61 rfl rfl) rfl rfl rfl ?_
      refine x_getR (pc' := 131) (dX1_look 62 rfl rfl) g7 q965 (Or.inl rfl) rfl (hf_of 0 s0.1 rfl (by decide) m0_7) (s0.2 7 _ rfl rfl).1 ?_
      refine x_getI (pc' := 134) (dX1_look 63 rfl rfl) g120 q882 (Or.inl rfl) rfl (hf_of 11 s8.1 rfl (by decide) m11_120) ?_
      exact x_iret (dX1_look 64 rfl rfl) rfl hf
theorem bX1_there (G : Gh) (d : Nat) (h : AH) (Q : Outcome → AH → Prop) (p0 : Int32) (hf : (p0 = 0 → ((hc h + 1 ≤ MC) ∧ (hs h + 6 ≤ MS) ∧ ∀ q2, hK h q2 = 0 → ∀ h4, h4 = nO h q2 55 → (C G mJ12_init d [.ref (q2)] h4 (KV Q (fun h7 => Q (.threw q2) h7))))) ∧ (¬ p0 = 0 → (Q (.returned none) h))) : C G mX1_there (d + 1) [.int (p0)] h Q := by
  refine C.of_X (by decide +kernel) (Nat.le_of_ble_eq_true rfl) wX1_there ?_
  show X G mX1_there (d + 1) none [] 0 [(0, .int (p0))] [] h Q
  refine x_iload_n (pc' := 1) 0 (dX1_there 0 rfl rfl) rfl rfl rfl ?_
  refine x_if_ne (pc' := 4) (tgt := 12) (dX1_there 1 rfl rfl) (by decide) rfl (fun c1 => ?_) (fun c1 => ?_)
  · replace hf := hf.2 c1
    exact x_vret (dX1_there 6 rfl rfl) rfl hf
  · replace hf := hf.1 (Classical.not_not.mp c1)
    replace c1 := Classical.not_not.mp c1
    obtain ⟨n1, n2, hf⟩ := hf
    refine x_new (pc' := 7) (k := 55) (dX1_there 2 rfl rfl) q3316 (by decide) rfl (by decide) n1 n2 (fun q2 h4 k3 e5 => ?_)
    replace hf := hf q2 k3 h4 e5
    have k6 : hK h4 q2 = 56 := by rw [e5]; exact kNOs
    refine x_dup (pc' := 8) (dX1_there 3 rfl rfl) rfl rfl ?_
    refine x_inv (pc' := 11) (ν := mJ12_init) (av := [_]) (st := [_]) rfl rfl (dX1_there 4 rfl rfl) (Nat.le_of_ble_eq_true rfl) wJ12_init q281 (inv_I (dX1_there 4 rfl rfl) q3325 q3326 q3327 rfl (by decide) lJ12_init) (fun b hb => by exact Or.inl (by have e : some _ = some b := hb; cases e; simp)) rfl ?_
    refine C.mono hf (fun _ _ => KV.g (fun h7 hf le8 => ?_))
    have k6 := leK le8 k6 (by decide)
    exact x_athrow (dX1_there 5 rfl rfl) rfl hf
theorem bX1_letter (G : Gh) (d : Nat) (h : AH) (Q : Outcome → AH → Prop) (p1 : Int32) (s0 : So 0 (gW G) h) (s8 : So 8 (gW G) h) (hf : (p1 < 0 → (C G mX1_there d [.int (0)] h (KV Q (fun h2 => C G mX13_letter d [.ref (gW G 8), .int (p1)] h2 (KI Q (fun x6 h4 => Q (.returned (some (.int x6))) h4)))))) ∧ (¬ (p1 < 0) → (((fI h (gW G 8) 120) ≤ p1 → (C G mX1_there d [.int (0)] h (KV Q (fun h8 => C G mX13_letter d [.ref (gW G 8), .int (p1)] h8 (KI Q (fun x12 h10 => Q (.returned (some (.int x12))) h10)))))) ∧ (¬ ((fI h (gW G 8) 120) ≤ p1) → (C G mX1_there d [.int (1)] h (KV Q (fun h13 => C G mX13_letter d [.ref (gW G 8), .int (p1)] h13 (KI Q (fun x17 h15 => Q (.returned (some (.int x17))) h15))))))))) : C G mX1_letter (d + 1) [.ref (gW G 0), .int (p1)] h Q := by
  refine C.of_X (by decide +kernel) (Nat.le_of_ble_eq_true rfl) wX1_letter ?_
  show X G mX1_letter (d + 1) none [] 0 [(0, .ref (gW G 0)), (1, .int (p1))] [] h Q
  refine x_iload_n (pc' := 1) 1 (dX1_letter 0 rfl rfl) rfl rfl rfl ?_
  refine x_if_lt (pc' := 4) (tgt := 19) (dX1_letter 1 rfl rfl) (by decide) rfl (fun c1 => ?_) (fun c1 => ?_)
  · replace hf := hf.1 c1
    refine x_iconst (pc' := 20) (v := 0) (dX1_letter 9 rfl rfl) (by decide) rfl ?_
    refine x_inv (pc' := 23) (ν := mX1_there) (av := [_]) (st := []) rfl rfl (dX1_letter 10 rfl rfl) (Nat.le_of_ble_eq_true rfl) wX1_there q211 (inv_S (dX1_letter 10 rfl rfl) q3313 q3314 q211 wX1_there (by decide) lX1_there) (exN (by decide)) rfl ?_
    refine C.mono hf (fun _ _ => KV.g (fun h2 hf le3 => ?_))
    replace s0 := s0.le sc0 (le3)
    replace s8 := s8.le sc8 (le3)
    refine x_aload_n (pc' := 24) 0 (dX1_letter 11 rfl rfl) rfl rfl rfl ?_
    refine x_getR (pc' := 27) (dX1_letter 12 rfl rfl) g7 q965 (Or.inl rfl) rfl (hf_of 0 s0.1 rfl (by decide) m0_7) (s0.2 7 _ rfl rfl).1 ?_
    refine x_iload_n (pc' := 28) 1 (dX1_letter 13 rfl rfl) rfl rfl rfl ?_
    refine x_inv (pc' := 31) (ν := mX13_letter) (av := [_, _]) (st := []) rfl rfl (dX1_letter 14 rfl rfl) (Nat.le_of_ble_eq_true rfl) wX13_letter q227 (inv_V (k := 11) (dX1_letter 14 rfl rfl) q3406 q3407 q3408 wX13_letter (by decide) lX13_letter (by decide) s8.1) (exN (by decide)) rfl ?_
    refine C.mono hf (fun _ _ => KI.g (fun x6 h4 hf le5 => ?_))
    replace s0 := s0.le sc0 (le5)
    replace s8 := s8.le sc8 (le5)
    exact x_iret (dX1_letter 15 rfl rfl) rfl hf
  · replace hf := hf.2 c1
    refine x_iload_n (pc' := 5) 1 (dX1_letter 2 rfl rfl) rfl rfl rfl ?_
    refine x_aload_n (pc' := 6) 0 (dX1_letter 3 rfl rfl) rfl rfl rfl ?_
    refine x_getR (pc' := 9) (dX1_letter 4 rfl rfl) g7 q965 (Or.inl rfl) rfl (hf_of 0 s0.1 rfl (by decide) m0_7) (s0.2 7 _ rfl rfl).1 ?_
    refine x_getI (pc' := 12) (dX1_letter 5 rfl rfl) g120 q882 (Or.inl rfl) rfl (hf_of 11 s8.1 rfl (by decide) m11_120) ?_
    refine x_icmp_ge (pc' := 15) (tgt := 19) (dX1_letter 6 rfl rfl) (by decide) rfl (fun c7 => ?_) (fun c7 => ?_)
    · replace hf := hf.1 c7
      refine x_iconst (pc' := 20) (v := 0) (dX1_letter 9 rfl rfl) (by decide) rfl ?_
      refine x_inv (pc' := 23) (ν := mX1_there) (av := [_]) (st := []) rfl rfl (dX1_letter 10 rfl rfl) (Nat.le_of_ble_eq_true rfl) wX1_there q211 (inv_S (dX1_letter 10 rfl rfl) q3313 q3314 q211 wX1_there (by decide) lX1_there) (exN (by decide)) rfl ?_
      refine C.mono hf (fun _ _ => KV.g (fun h8 hf le9 => ?_))
      replace s0 := s0.le sc0 (le9)
      replace s8 := s8.le sc8 (le9)
      refine x_aload_n (pc' := 24) 0 (dX1_letter 11 rfl rfl) rfl rfl rfl ?_
      refine x_getR (pc' := 27) (dX1_letter 12 rfl rfl) g7 q965 (Or.inl rfl) rfl (hf_of 0 s0.1 rfl (by decide) m0_7) (s0.2 7 _ rfl rfl).1 ?_
      refine x_iload_n (pc' := 28) 1 (dX1_letter 13 rfl rfl) rfl rfl rfl ?_
      refine x_inv (pc' := 31) (ν := mX13_letter) (av := [_, _]) (st := []) rfl rfl (dX1_letter 14 rfl rfl) (Nat.le_of_ble_eq_true rfl) wX13_letter q227 (inv_V (k := 11) (dX1_letter 14 rfl rfl) q3406 q3407 q3408 wX13_letter (by decide) lX13_letter (by decide) s8.1) (exN (by decide)) rfl ?_
      refine C.mono hf (fun _ _ => KI.g (fun x12 h10 hf le11 => ?_))
      replace s0 := s0.le sc0 (le11)
      replace s8 := s8.le sc8 (le11)
      exact x_iret (dX1_letter 15 rfl rfl) rfl hf
    · replace hf := hf.2 c7
      refine x_iconst (pc' := 16) (v := 1) (dX1_letter 7 rfl rfl) (by decide) rfl ?_
      refine x_goto (tgt := 20) (dX1_letter 8 rfl rfl) (by decide) ?_
      refine x_inv (pc' := 23) (ν := mX1_there) (av := [_]) (st := []) rfl rfl (dX1_letter 10 rfl rfl) (Nat.le_of_ble_eq_true rfl) wX1_there q211 (inv_S (dX1_letter 10 rfl rfl) q3313 q3314 q211 wX1_there (by decide) lX1_there) (exN (by decide)) rfl ?_
      refine C.mono hf (fun _ _ => KV.g (fun h13 hf le14 => ?_))
      replace s0 := s0.le sc0 (le14)
      replace s8 := s8.le sc8 (le14)
      refine x_aload_n (pc' := 24) 0 (dX1_letter 11 rfl rfl) rfl rfl rfl ?_
      refine x_getR (pc' := 27) (dX1_letter 12 rfl rfl) g7 q965 (Or.inl rfl) rfl (hf_of 0 s0.1 rfl (by decide) m0_7) (s0.2 7 _ rfl rfl).1 ?_
      refine x_iload_n (pc' := 28) 1 (dX1_letter 13 rfl rfl) rfl rfl rfl ?_
      refine x_inv (pc' := 31) (ν := mX13_letter) (av := [_, _]) (st := []) rfl rfl (dX1_letter 14 rfl rfl) (Nat.le_of_ble_eq_true rfl) wX13_letter q227 (inv_V (k := 11) (dX1_letter 14 rfl rfl) q3406 q3407 q3408 wX13_letter (by decide) lX13_letter (by decide) s8.1) (exN (by decide)) rfl ?_
      refine C.mono hf (fun _ _ => KI.g (fun x17 h15 hf le16 => ?_))
      replace s0 := s0.le sc0 (le16)
      replace s8 := s8.le sc8 (le16)
      exact x_iret (dX1_letter 15 rfl rfl) rfl hf
theorem bX1_warning (G : Gh) (d : Nat) (h : AH) (Q : Outcome → AH → Prop) (p1 : Int32) (p2 : Int32) (hf : (p2 = 0 → (X G mX1_warning (d + 1) none [] 14 [(0, .ref (gW G 0)), (1, .int (p1)), (2, .int (p2))] [.int (1)] h Q)) ∧ (¬ p2 = 0 → ((p2 = 1 → (X G mX1_warning (d + 1) none [] 14 [(0, .ref (gW G 0)), (1, .int (p1)), (2, .int (p2))] [.int (1)] h Q)) ∧ (¬ p2 = 1 → (X G mX1_warning (d + 1) none [] 14 [(0, .ref (gW G 0)), (1, .int (p1)), (2, .int (p2))] [.int (0)] h Q))))) : C G mX1_warning (d + 1) [.ref (gW G 0), .int (p1), .int (p2)] h Q := by
  refine C.of_X (by decide +kernel) (Nat.le_of_ble_eq_true rfl) wX1_warning ?_
  show X G mX1_warning (d + 1) none [] 0 [(0, .ref (gW G 0)), (1, .int (p1)), (2, .int (p2))] [] h Q
  refine x_iload_n (pc' := 1) 2 (dX1_warning 0 rfl rfl) rfl rfl rfl ?_
  refine x_if_eq (pc' := 4) (tgt := 9) (dX1_warning 1 rfl rfl) (by decide) rfl (fun c1 => ?_) (fun c1 => ?_)
  · replace hf := hf.1 c1
    refine x_iconst (pc' := 10) (v := 1) (dX1_warning 5 rfl rfl) (by decide) rfl ?_
    refine x_goto (tgt := 14) (dX1_warning 6 rfl rfl) (by decide) ?_
    exact X.sub [0, 1, 2] rfl (by simp) hf
  · replace hf := hf.2 c1
    refine x_iload_n (pc' := 5) 2 (dX1_warning 2 rfl rfl) rfl rfl rfl ?_
    refine x_iconst (pc' := 6) (v := 1) (dX1_warning 3 rfl rfl) (by decide) rfl ?_
    refine x_icmp_ne (pc' := 9) (tgt := 13) (dX1_warning 4 rfl rfl) (by decide) rfl (fun c2 => ?_) (fun c2 => ?_)
    · replace hf := hf.2 c2
      refine x_iconst (pc' := 14) (v := 0) (dX1_warning 7 rfl rfl) (by decide) rfl ?_
      exact X.sub [0, 1, 2] rfl (by simp) hf
    · replace hf := hf.1 (Classical.not_not.mp c2)
      replace c2 := Classical.not_not.mp c2
      refine x_iconst (pc' := 10) (v := 1) (dX1_warning 5 rfl rfl) (by decide) rfl ?_
      refine x_goto (tgt := 14) (dX1_warning 6 rfl rfl) (by decide) ?_
      exact X.sub [0, 1, 2] rfl (by simp) hf
theorem bX1_warning_14 (G : Gh) (d : Nat) (h : AH) (Q : Outcome → AH → Prop) (l1 : Int32) (l2 : Int32) (t0 : Int32) (s0 : So 0 (gW G) h) (hf : C G mX1_check d [.int (t0)] h (KV Q (fun h1 => (l1 < 0 → (C G mX1_there d [.int (0)] h1 (KV Q (fun h4 => (l2 = 0 → (∃ b11, fR h4 (gW G 0) 17 = some b11 ∧ (hK h4 b11 = 1000 ∧ vp_in l1 (hL h4 b11) ∧ (Q (.returned (some (.int (aI h4 b11 l1.toNatClampNeg)))) h4)))) ∧ (¬ l2 = 0 → (∃ b7, fR h4 (gW G 0) 18 = some b7 ∧ (hK h4 b7 = 1000 ∧ vp_in l1 (hL h4 b7) ∧ (Q (.returned (some (.int (aI h4 b7 l1.toNatClampNeg)))) h4)))))))) ∧ (¬ (l1 < 0) → (((fI h1 (gW G 0) 19) ≤ l1 → (C G mX1_there d [.int (0)] h1 (KV Q (fun h16 => (l2 = 0 → (∃ b23, fR h16 (gW G 0) 17 = some b23 ∧ (hK h16 b23 = 1000 ∧ vp_in l1 (hL h16 b23) ∧ (Q (.returned (some (.int (aI h16 b23 l1.toNatClampNeg)))) h16)))) ∧ (¬ l2 = 0 → (∃ b19, fR h16 (gW G 0) 18 = some b19 ∧ (hK h16 b19 = 1000 ∧ vp_in l1 (hL h16 b19) ∧ (Q (.returned (some (.int (aI h16 b19 l1.toNatClampNeg)))) h16)))))))) ∧ (¬ ((fI h1 (gW G 0) 19) ≤ l1) → (C G mX1_there d [.int (1)] h1 (KV Q (fun h27 => (l2 = 0 → (∃ b34, fR h27 (gW G 0) 17 = some b34 ∧ (hK h27 b34 = 1000 ∧ vp_in l1 (hL h27 b34) ∧ (Q (.returned (some (.int (aI h27 b34 l1.toNatClampNeg)))) h27)))) ∧ (¬ l2 = 0 → (∃ b30, fR h27 (gW G 0) 18 = some b30 ∧ (hK h27 b30 = 1000 ∧ vp_in l1 (hL h27 b30) ∧ (Q (.returned (some (.int (aI h27 b30 l1.toNatClampNeg)))) h27))))))))))))) : X G mX1_warning (d + 1) none [] 14 [(0, .ref (gW G 0)), (1, .int (l1)), (2, .int (l2))] [.int (t0)] h Q := by
  refine x_inv (pc' := 17) (ν := mX1_check) (av := [_]) (st := []) rfl rfl (dX1_warning 8 rfl rfl) (Nat.le_of_ble_eq_true rfl) wX1_check q211 (inv_S (dX1_warning 8 rfl rfl) q1124 q1125 q211 wX1_check (by decide) lX1_check) (exN (by decide)) rfl ?_
  refine C.mono hf (fun _ _ => KV.g (fun h1 hf le2 => ?_))
  replace s0 := s0.le sc0 (le2)
  refine x_iload_n (pc' := 18) 1 (dX1_warning 9 rfl rfl) rfl rfl rfl ?_
  refine x_if_lt (pc' := 21) (tgt := 33) (dX1_warning 10 rfl rfl) (by decide) rfl (fun c3 => ?_) (fun c3 => ?_)
  · replace hf := hf.1 c3
    refine x_iconst (pc' := 34) (v := 0) (dX1_warning 17 rfl rfl) (by decide) rfl ?_
    refine x_inv (pc' := 37) (ν := mX1_there) (av := [_]) (st := []) rfl rfl (dX1_warning 18 rfl rfl) (Nat.le_of_ble_eq_true rfl) wX1_there q211 (inv_S (dX1_warning 18 rfl rfl) q3313 q3314 q211 wX1_there (by decide) lX1_there) (exN (by decide)) rfl ?_
    refine C.mono hf (fun _ _ => KV.g (fun h4 hf le5 => ?_))
    replace s0 := s0.le sc0 (le5)
    refine x_iload_n (pc' := 38) 2 (dX1_warning 19 rfl rfl) rfl rfl rfl ?_
    refine x_if_ne (pc' := 41) (tgt := 50) (dX1_warning 20 rfl rfl) (by decide) rfl (fun c6 => ?_) (fun c6 => ?_)
    · replace hf := hf.2 c6
      refine x_aload_n (pc' := 51) 0 (dX1_warning 26 rfl rfl) rfl rfl rfl ?_
      obtain ⟨b7, e8, hf⟩ := hf
      refine x_getR (pc' := 54) (dX1_warning 27 rfl rfl) g18 q976 (Or.inl rfl) rfl (hf_of 0 s0.1 rfl (by decide) m0_18) e8 ?_
      refine x_iload_n (pc' := 55) 1 (dX1_warning 28 rfl rfl) rfl rfl rfl ?_
      obtain ⟨k9, hf⟩ := hf
      obtain ⟨i10, hf⟩ := hf
      refine x_iald (pc' := 56) (dX1_warning 29 rfl rfl) rfl k9 i10 ?_
      exact x_iret (dX1_warning 30 rfl rfl) rfl hf
    · replace hf := hf.1 (Classical.not_not.mp c6)
      replace c6 := Classical.not_not.mp c6
      refine x_aload_n (pc' := 42) 0 (dX1_warning 21 rfl rfl) rfl rfl rfl ?_
      obtain ⟨b11, e12, hf⟩ := hf
      refine x_getR (pc' := 45) (dX1_warning 22 rfl rfl) g17 q975 (Or.inl rfl) rfl (hf_of 0 s0.1 rfl (by decide) m0_17) e12 ?_
      refine x_iload_n (pc' := 46) 1 (dX1_warning 23 rfl rfl) rfl rfl rfl ?_
      obtain ⟨k13, hf⟩ := hf
      obtain ⟨i14, hf⟩ := hf
      refine x_iald (pc' := 47) (dX1_warning 24 rfl rfl) rfl k13 i14 ?_
      refine x_goto (tgt := 56) (dX1_warning 25 rfl rfl) (by decide) ?_
      exact x_iret (dX1_warning 30 rfl rfl) rfl hf
  · replace hf := hf.2 c3
    refine x_iload_n (pc' := 22) 1 (dX1_warning 11 rfl rfl) rfl rfl rfl ?_
    refine x_aload_n (pc' := 23) 0 (dX1_warning 12 rfl rfl) rfl rfl rfl ?_
    refine x_getI (pc' := 26) (dX1_warning 13 rfl rfl) g19 q977 (Or.inl rfl) rfl (hf_of 0 s0.1 rfl (by decide) m0_19) ?_
    refine x_icmp_ge (pc' := 29) (tgt := 33) (dX1_warning 14 rfl rfl) (by decide) rfl (fun c15 => ?_) (fun c15 => ?_)
    · replace hf := hf.1 c15
      refine x_iconst (pc' := 34) (v := 0) (dX1_warning 17 rfl rfl) (by decide) rfl ?_
      refine x_inv (pc' := 37) (ν := mX1_there) (av := [_]) (st := []) rfl rfl (dX1_warning 18 rfl rfl) (Nat.le_of_ble_eq_true rfl) wX1_there q211 (inv_S (dX1_warning 18 rfl rfl) q3313 q3314 q211 wX1_there (by decide) lX1_there) (exN (by decide)) rfl ?_
      refine C.mono hf (fun _ _ => KV.g (fun h16 hf le17 => ?_))
      replace s0 := s0.le sc0 (le17)
      refine x_iload_n (pc' := 38) 2 (dX1_warning 19 rfl rfl) rfl rfl rfl ?_
      refine x_if_ne (pc' := 41) (tgt := 50) (dX1_warning 20 rfl rfl) (by decide) rfl (fun c18 => ?_) (fun c18 => ?_)
      · replace hf := hf.2 c18
        refine x_aload_n (pc' := 51) 0 (dX1_warning 26 rfl rfl) rfl rfl rfl ?_
        obtain ⟨b19, e20, hf⟩ := hf
        refine x_getR (pc' := 54) (dX1_warning 27 rfl rfl) g18 q976 (Or.inl rfl) rfl (hf_of 0 s0.1 rfl (by decide) m0_18) e20 ?_
        refine x_iload_n (pc' := 55) 1 (dX1_warning 28 rfl rfl) rfl rfl rfl ?_
        obtain ⟨k21, hf⟩ := hf
        obtain ⟨i22, hf⟩ := hf
        refine x_iald (pc' := 56) (dX1_warning 29 rfl rfl) rfl k21 i22 ?_
        exact x_iret (dX1_warning 30 rfl rfl) rfl hf
      · replace hf := hf.1 (Classical.not_not.mp c18)
        replace c18 := Classical.not_not.mp c18
        refine x_aload_n (pc' := 42) 0 (dX1_warning 21 rfl rfl) rfl rfl rfl ?_
        obtain ⟨b23, e24, hf⟩ := hf
        refine x_getR (pc' := 45) (dX1_warning 22 rfl rfl) g17 q975 (Or.inl rfl) rfl (hf_of 0 s0.1 rfl (by decide) m0_17) e24 ?_
        refine x_iload_n (pc' := 46) 1 (dX1_warning 23 rfl rfl) rfl rfl rfl ?_
        obtain ⟨k25, hf⟩ := hf
        obtain ⟨i26, hf⟩ := hf
        refine x_iald (pc' := 47) (dX1_warning 24 rfl rfl) rfl k25 i26 ?_
        refine x_goto (tgt := 56) (dX1_warning 25 rfl rfl) (by decide) ?_
        exact x_iret (dX1_warning 30 rfl rfl) rfl hf
    · replace hf := hf.2 c15
      refine x_iconst (pc' := 30) (v := 1) (dX1_warning 15 rfl rfl) (by decide) rfl ?_
      refine x_goto (tgt := 34) (dX1_warning 16 rfl rfl) (by decide) ?_
      refine x_inv (pc' := 37) (ν := mX1_there) (av := [_]) (st := []) rfl rfl (dX1_warning 18 rfl rfl) (Nat.le_of_ble_eq_true rfl) wX1_there q211 (inv_S (dX1_warning 18 rfl rfl) q3313 q3314 q211 wX1_there (by decide) lX1_there) (exN (by decide)) rfl ?_
      refine C.mono hf (fun _ _ => KV.g (fun h27 hf le28 => ?_))
      replace s0 := s0.le sc0 (le28)
      refine x_iload_n (pc' := 38) 2 (dX1_warning 19 rfl rfl) rfl rfl rfl ?_
      refine x_if_ne (pc' := 41) (tgt := 50) (dX1_warning 20 rfl rfl) (by decide) rfl (fun c29 => ?_) (fun c29 => ?_)
      · replace hf := hf.2 c29
        refine x_aload_n (pc' := 51) 0 (dX1_warning 26 rfl rfl) rfl rfl rfl ?_
        obtain ⟨b30, e31, hf⟩ := hf
        refine x_getR (pc' := 54) (dX1_warning 27 rfl rfl) g18 q976 (Or.inl rfl) rfl (hf_of 0 s0.1 rfl (by decide) m0_18) e31 ?_
        refine x_iload_n (pc' := 55) 1 (dX1_warning 28 rfl rfl) rfl rfl rfl ?_
        obtain ⟨k32, hf⟩ := hf
        obtain ⟨i33, hf⟩ := hf
        refine x_iald (pc' := 56) (dX1_warning 29 rfl rfl) rfl k32 i33 ?_
        exact x_iret (dX1_warning 30 rfl rfl) rfl hf
      · replace hf := hf.1 (Classical.not_not.mp c29)
        replace c29 := Classical.not_not.mp c29
        refine x_aload_n (pc' := 42) 0 (dX1_warning 21 rfl rfl) rfl rfl rfl ?_
        obtain ⟨b34, e35, hf⟩ := hf
        refine x_getR (pc' := 45) (dX1_warning 22 rfl rfl) g17 q975 (Or.inl rfl) rfl (hf_of 0 s0.1 rfl (by decide) m0_17) e35 ?_
        refine x_iload_n (pc' := 46) 1 (dX1_warning 23 rfl rfl) rfl rfl rfl ?_
        obtain ⟨k36, hf⟩ := hf
        obtain ⟨i37, hf⟩ := hf
        refine x_iald (pc' := 47) (dX1_warning 24 rfl rfl) rfl k36 i37 ?_
        refine x_goto (tgt := 56) (dX1_warning 25 rfl rfl) (by decide) ?_
        exact x_iret (dX1_warning 30 rfl rfl) rfl hf
theorem bX2_init (G : Gh) (d : Nat) (hd1 : 1 ≤ d) (h : AH) (Q : Outcome → AH → Prop) (a0 : Nat) (hf : (¬ (19 : Int32) < 0) ∧ (hc h + 1 ≤ MC) ∧ (hs h + (19 : Int32).toNatClampNeg ≤ MS) ∧ ∀ q1, hK h q1 = 0 → ∀ h3, h3 = nA h q1 5 (19 : Int32).toNatClampNeg → (Ns (gW G) q1 ∧ vp_in 0 (hL h3 q1) ∧ AOK G h3 (G.2.2.2.1 5) 5 "java/lang/String" ∧ ∀ h8, h8 = sR h3 q1 (0 : Int32).toNatClampNeg (some (G.2.2.2.1 5)) → (Ns (gW G) q1 ∧ vp_in 1 (hL h8 q1) ∧ AOK G h8 (G.2.2.2.1 6) 5 "java/lang/String" ∧ ∀ h12, h12 = sR h8 q1 (1 : Int32).toNatClampNeg (some (G.2.2.2.1 6)) → (Ns (gW G) q1 ∧ vp_in 2 (hL h12 q1) ∧ AOK G h12 (G.2.2.2.1 7) 5 "java/lang/String" ∧ ∀ h16, h16 = sR h12 q1 (2 : Int32).toNatClampNeg (some (G.2.2.2.1 7)) → (Ns (gW G) q1 ∧ vp_in 3 (hL h16 q1) ∧ AOK G h16 (G.2.2.2.1 8) 5 "java/lang/String" ∧ ∀ h20, h20 = sR h16 q1 (3 : Int32).toNatClampNeg (some (G.2.2.2.1 8)) → (Ns (gW G) q1 ∧ vp_in 4 (hL h20 q1) ∧ AOK G h20 (G.2.2.2.1 9) 5 "java/lang/String" ∧ ∀ h24, h24 = sR h20 q1 (4 : Int32).toNatClampNeg (some (G.2.2.2.1 9)) → (Ns (gW G) q1 ∧ vp_in 5 (hL h24 q1) ∧ AOK G h24 (G.2.2.2.1 10) 5 "java/lang/String" ∧ ∀ h28, h28 = sR h24 q1 (5 : Int32).toNatClampNeg (some (G.2.2.2.1 10)) → (Ns (gW G) q1 ∧ vp_in 6 (hL h28 q1) ∧ AOK G h28 (G.2.2.2.1 11) 5 "java/lang/String" ∧ ∀ h32, h32 = sR h28 q1 (6 : Int32).toNatClampNeg (some (G.2.2.2.1 11)) → (Ns (gW G) q1 ∧ vp_in 7 (hL h32 q1) ∧ AOK G h32 (G.2.2.2.1 12) 5 "java/lang/String" ∧ ∀ h36, h36 = sR h32 q1 (7 : Int32).toNatClampNeg (some (G.2.2.2.1 12)) → (Ns (gW G) q1 ∧ vp_in 8 (hL h36 q1) ∧ AOK G h36 (G.2.2.2.1 13) 5 "java/lang/String" ∧ ∀ h40, h40 = sR h36 q1 (8 : Int32).toNatClampNeg (some (G.2.2.2.1 13)) → (Ns (gW G) q1 ∧ vp_in 9 (hL h40 q1) ∧ AOK G h40 (G.2.2.2.1 14) 5 "java/lang/String" ∧ ∀ h44, h44 = sR h40 q1 (9 : Int32).toNatClampNeg (some (G.2.2.2.1 14)) → (Ns (gW G) q1 ∧ vp_in 10 (hL h44 q1) ∧ AOK G h44 (G.2.2.2.1 15) 5 "java/lang/String" ∧ ∀ h48, h48 = sR h44 q1 (10 : Int32).toNatClampNeg (some (G.2.2.2.1 15)) → (Ns (gW G) q1 ∧ vp_in 11 (hL h48 q1) ∧ AOK G h48 (G.2.2.2.1 16) 5 "java/lang/String" ∧ ∀ h52, h52 = sR h48 q1 (11 : Int32).toNatClampNeg (some (G.2.2.2.1 16)) → (Ns (gW G) q1 ∧ vp_in 12 (hL h52 q1) ∧ AOK G h52 (G.2.2.2.1 17) 5 "java/lang/String" ∧ ∀ h56, h56 = sR h52 q1 (12 : Int32).toNatClampNeg (some (G.2.2.2.1 17)) → (Ns (gW G) q1 ∧ vp_in 13 (hL h56 q1) ∧ AOK G h56 (G.2.2.2.1 18) 5 "java/lang/String" ∧ ∀ h60, h60 = sR h56 q1 (13 : Int32).toNatClampNeg (some (G.2.2.2.1 18)) → (Ns (gW G) q1 ∧ vp_in 14 (hL h60 q1) ∧ AOK G h60 (G.2.2.2.1 19) 5 "java/lang/String" ∧ ∀ h64, h64 = sR h60 q1 (14 : Int32).toNatClampNeg (some (G.2.2.2.1 19)) → (Ns (gW G) q1 ∧ vp_in 15 (hL h64 q1) ∧ AOK G h64 (G.2.2.2.1 20) 5 "java/lang/String" ∧ ∀ h68, h68 = sR h64 q1 (15 : Int32).toNatClampNeg (some (G.2.2.2.1 20)) → (Ns (gW G) q1 ∧ vp_in 16 (hL h68 q1) ∧ AOK G h68 (G.2.2.2.1 21) 5 "java/lang/String" ∧ ∀ h72, h72 = sR h68 q1 (16 : Int32).toNatClampNeg (some (G.2.2.2.1 21)) → (Ns (gW G) q1 ∧ vp_in 17 (hL h72 q1) ∧ AOK G h72 (G.2.2.2.1 22) 5 "java/lang/String" ∧ ∀ h76, h76 = sR h72 q1 (17 : Int32).toNatClampNeg (some (G.2.2.2.1 22)) → (Ns (gW G) q1 ∧ vp_in 18 (hL h76 q1) ∧ AOK G h76 (G.2.2.2.1 23) 5 "java/lang/String" ∧ ∀ h80, h80 = sR h76 q1 (18 : Int32).toNatClampNeg (some (G.2.2.2.1 23)) → (hK h80 a0 = 2 ∧ (∀ h84, h84 = pR h80 a0 21 (some q1) → ((¬ (4096 : Int32) < 0) ∧ (hc h84 + 1 ≤ MC) ∧ (hs h84 + (4096 : Int32).toNatClampNeg ≤ MS) ∧ ∀ q85, hK h84 q85 = 0 → ∀ h87, h87 = nA h84 q85 1 (4096 : Int32).toNatClampNeg → (∀ h91, h91 = pR h87 a0 22 (some q85) → ((¬ (4098 : Int32) < 0) ∧ (hc h91 + 1 ≤ MC) ∧ (hs h91 + (4098 : Int32).toNatClampNeg ≤ MS) ∧ ∀ q92, hK h91 q92 = 0 → ∀ h94, h94 = nA h91 q92 0 (4098 : Int32).toNatClampNeg → (∀ h98, h98 = pR h94 a0 24 (some q92) → ((¬ (4098 : Int32) < 0) ∧ (hc h98 + 1 ≤ MC) ∧ (hs h98 + (4098 : Int32).toNatClampNeg ≤ MS) ∧ ∀ q99, hK h98 q99 = 0 → ∀ h101, h101 = nA h98 q99 0 (4098 : Int32).toNatClampNeg → (∀ h105, h105 = pR h101 a0 25 (some q99) → ((¬ (4098 : Int32) < 0) ∧ (hc h105 + 1 ≤ MC) ∧ (hs h105 + (4098 : Int32).toNatClampNeg ≤ MS) ∧ ∀ q106, hK h105 q106 = 0 → ∀ h108, h108 = nA h105 q106 3 (4098 : Int32).toNatClampNeg → (∀ h112, h112 = pR h108 a0 26 (some q106) → ((¬ (4098 : Int32) < 0) ∧ (hc h112 + 1 ≤ MC) ∧ (hs h112 + (4098 : Int32).toNatClampNeg ≤ MS) ∧ ∀ q113, hK h112 q113 = 0 → ∀ h115, h115 = nA h112 q113 3 (4098 : Int32).toNatClampNeg → (∀ h119, h119 = pR h115 a0 27 (some q113) → (Q (.returned none) h119))))))))))))))))))))))))))))))))) : C G mX2_init d [.ref (a0)] h Q := by
  refine C.of_X (by decide +kernel) (Nat.le_of_ble_eq_true rfl) wX2_init ?_
  show X G mX2_init d (some a0) [] 0 [(0, .ref (a0))] [] h Q
  refine x_aload_n (pc' := 1) 0 (dX2_init 0 rfl rfl) rfl rfl rfl ?_
  refine x_objInit (pc' := 4) (dX2_init 1 rfl rfl) q295 q288 q289 (by decide) (by omega) rfl ?_
  refine x_aload_n (pc' := 5) 0 (dX2_init 2 rfl rfl) rfl rfl rfl ?_
  refine x_bipush (pc' := 7) (v := 19) (dX2_init 3 rfl rfl) (by decide) rfl ?_
  obtain ⟨z5, n1, n2, hf⟩ := hf
  refine x_newq (pc' := 10) (t := 5) (E := "java/lang/String") (dX2_init 4 rfl rfl) q296 (by decide) (by decide) rfl rfl z5 (by decide) n1 n2 (fun q1 h3 k2 e4 => ?_)
  replace hf := hf q1 k2 h3 e4
  have k6 : hK h3 q1 = 1005 := by rw [e4]; exact kNAs
  refine x_dup (pc' := 11) (dX2_init 5 rfl rfl) rfl rfl ?_
  refine x_iconst (pc' := 12) (v := 0) (dX2_init 6 rfl rfl) (by decide) rfl ?_
  refine x_ldcS (pc' := 14) (tx := "and") (i := 5) (dX2_init 7 rfl rfl) (List.mem_of_getElem? (i := 5) rfl) rfl ?_
  obtain ⟨n10, hf⟩ := hf
  obtain ⟨i7, hf⟩ := hf
  obtain ⟨o144, hf⟩ := hf
  refine x_aast (pc' := 15) (t := 5) (E := "java/lang/String") (dX2_init 8 rfl rfl) rfl (by decide) rfl (by decide) k6 (Or.inr ⟨n10, by decide⟩) i7 o144 (fun h8 e9 => ?_)
  replace hf := hf h8 e9
  replace k6 : hK h8 q1 = 1005 := by rw [e9]; exact k6
  refine x_dup (pc' := 16) (dX2_init 9 rfl rfl) rfl rfl ?_
  refine x_iconst (pc' := 17) (v := 1) (dX2_init 10 rfl rfl) (by decide) rfl ?_
  refine x_ldcS (pc' := 19) (tx := "case") (i := 6) (dX2_init 11 rfl rfl) (List.mem_of_getElem? (i := 6) rfl) rfl ?_
  obtain ⟨n14, hf⟩ := hf
  obtain ⟨i11, hf⟩ := hf
  obtain ⟨o143, hf⟩ := hf
  refine x_aast (pc' := 20) (t := 5) (E := "java/lang/String") (dX2_init 12 rfl rfl) rfl (by decide) rfl (by decide) k6 (Or.inr ⟨n14, by decide⟩) i11 o143 (fun h12 e13 => ?_)
  replace hf := hf h12 e13
  replace k6 : hK h12 q1 = 1005 := by rw [e13]; exact k6
  refine x_dup (pc' := 21) (dX2_init 13 rfl rfl) rfl rfl ?_
  refine x_iconst (pc' := 22) (v := 2) (dX2_init 14 rfl rfl) (by decide) rfl ?_
  refine x_ldcS (pc' := 24) (tx := "datatype") (i := 7) (dX2_init 15 rfl rfl) (List.mem_of_getElem? (i := 7) rfl) rfl ?_
  obtain ⟨n18, hf⟩ := hf
  obtain ⟨i15, hf⟩ := hf
  obtain ⟨o142, hf⟩ := hf
  refine x_aast (pc' := 25) (t := 5) (E := "java/lang/String") (dX2_init 16 rfl rfl) rfl (by decide) rfl (by decide) k6 (Or.inr ⟨n18, by decide⟩) i15 o142 (fun h16 e17 => ?_)
  replace hf := hf h16 e17
  replace k6 : hK h16 q1 = 1005 := by rw [e17]; exact k6
  refine x_dup (pc' := 26) (dX2_init 17 rfl rfl) rfl rfl ?_
  refine x_iconst (pc' := 27) (v := 3) (dX2_init 18 rfl rfl) (by decide) rfl ?_
  refine x_ldcS (pc' := 29) (tx := "div") (i := 8) (dX2_init 19 rfl rfl) (List.mem_of_getElem? (i := 8) rfl) rfl ?_
  obtain ⟨n22, hf⟩ := hf
  obtain ⟨i19, hf⟩ := hf
  obtain ⟨o141, hf⟩ := hf
  refine x_aast (pc' := 30) (t := 5) (E := "java/lang/String") (dX2_init 20 rfl rfl) rfl (by decide) rfl (by decide) k6 (Or.inr ⟨n22, by decide⟩) i19 o141 (fun h20 e21 => ?_)
  replace hf := hf h20 e21
  replace k6 : hK h20 q1 = 1005 := by rw [e21]; exact k6
  refine x_dup (pc' := 31) (dX2_init 21 rfl rfl) rfl rfl ?_
  refine x_iconst (pc' := 32) (v := 4) (dX2_init 22 rfl rfl) (by decide) rfl ?_
  refine x_ldcS (pc' := 34) (tx := "else") (i := 9) (dX2_init 23 rfl rfl) (List.mem_of_getElem? (i := 9) rfl) rfl ?_
  obtain ⟨n26, hf⟩ := hf
  obtain ⟨i23, hf⟩ := hf
  obtain ⟨o140, hf⟩ := hf
  refine x_aast (pc' := 35) (t := 5) (E := "java/lang/String") (dX2_init 24 rfl rfl) rfl (by decide) rfl (by decide) k6 (Or.inr ⟨n26, by decide⟩) i23 o140 (fun h24 e25 => ?_)
  replace hf := hf h24 e25
  replace k6 : hK h24 q1 = 1005 := by rw [e25]; exact k6
  refine x_dup (pc' := 36) (dX2_init 25 rfl rfl) rfl rfl ?_
  refine x_iconst (pc' := 37) (v := 5) (dX2_init 26 rfl rfl) (by decide) rfl ?_
  refine x_ldcS (pc' := 39) (tx := "end") (i := 10) (dX2_init 27 rfl rfl) (List.mem_of_getElem? (i := 10) rfl) rfl ?_
  obtain ⟨n30, hf⟩ := hf
  obtain ⟨i27, hf⟩ := hf
  obtain ⟨o139, hf⟩ := hf
  refine x_aast (pc' := 40) (t := 5) (E := "java/lang/String") (dX2_init 28 rfl rfl) rfl (by decide) rfl (by decide) k6 (Or.inr ⟨n30, by decide⟩) i27 o139 (fun h28 e29 => ?_)
  replace hf := hf h28 e29
  replace k6 : hK h28 q1 = 1005 := by rw [e29]; exact k6
  refine x_dup (pc' := 41) (dX2_init 29 rfl rfl) rfl rfl ?_
  refine x_bipush (pc' := 43) (v := 6) (dX2_init 30 rfl rfl) (by decide) rfl ?_
  refine x_ldcS (pc' := 45) (tx := "fn") (i := 11) (dX2_init 31 rfl rfl) (List.mem_of_getElem? (i := 11) rfl) rfl ?_
  obtain ⟨n34, hf⟩ := hf
  obtain ⟨i31, hf⟩ := hf
  obtain ⟨o138, hf⟩ := hf
  refine x_aast (pc' := 46) (t := 5) (E := "java/lang/String") (dX2_init 32 rfl rfl) rfl (by decide) rfl (by decide) k6 (Or.inr ⟨n34, by decide⟩) i31 o138 (fun h32 e33 => ?_)
  replace hf := hf h32 e33
  replace k6 : hK h32 q1 = 1005 := by rw [e33]; exact k6
  refine x_dup (pc' := 47) (dX2_init 33 rfl rfl) rfl rfl ?_
  refine x_bipush (pc' := 49) (v := 7) (dX2_init 34 rfl rfl) (by decide) rfl ?_
  refine x_ldcS (pc' := 51) (tx := "fun") (i := 12) (dX2_init 35 rfl rfl) (List.mem_of_getElem? (i := 12) rfl) rfl ?_
  obtain ⟨n38, hf⟩ := hf
  obtain ⟨i35, hf⟩ := hf
  obtain ⟨o137, hf⟩ := hf
  refine x_aast (pc' := 52) (t := 5) (E := "java/lang/String") (dX2_init 36 rfl rfl) rfl (by decide) rfl (by decide) k6 (Or.inr ⟨n38, by decide⟩) i35 o137 (fun h36 e37 => ?_)
  replace hf := hf h36 e37
  replace k6 : hK h36 q1 = 1005 := by rw [e37]; exact k6
  refine x_dup (pc' := 53) (dX2_init 37 rfl rfl) rfl rfl ?_
  refine x_bipush (pc' := 55) (v := 8) (dX2_init 38 rfl rfl) (by decide) rfl ?_
  refine x_ldcS (pc' := 57) (tx := "if") (i := 13) (dX2_init 39 rfl rfl) (List.mem_of_getElem? (i := 13) rfl) rfl ?_
  obtain ⟨n42, hf⟩ := hf
  obtain ⟨i39, hf⟩ := hf
  obtain ⟨o136, hf⟩ := hf
  refine x_aast (pc' := 58) (t := 5) (E := "java/lang/String") (dX2_init 40 rfl rfl) rfl (by decide) rfl (by decide) k6 (Or.inr ⟨n42, by decide⟩) i39 o136 (fun h40 e41 => ?_)
  replace hf := hf h40 e41
  replace k6 : hK h40 q1 = 1005 := by rw [e41]; exact k6
  refine x_dup (pc' := 59) (dX2_init 41 rfl rfl) rfl rfl ?_
  refine x_bipush (pc' := 61) (v := 9) (dX2_init 42 rfl rfl) (by decide) rfl ?_
  refine x_ldcS (pc' := 63) (tx := "in") (i := 14) (dX2_init 43 rfl rfl) (List.mem_of_getElem? (i := 14) rfl) rfl ?_
  obtain ⟨n46, hf⟩ := hf
  obtain ⟨i43, hf⟩ := hf
  obtain ⟨o135, hf⟩ := hf
  refine x_aast (pc' := 64) (t := 5) (E := "java/lang/String") (dX2_init 44 rfl rfl) rfl (by decide) rfl (by decide) k6 (Or.inr ⟨n46, by decide⟩) i43 o135 (fun h44 e45 => ?_)
  replace hf := hf h44 e45
  replace k6 : hK h44 q1 = 1005 := by rw [e45]; exact k6
  refine x_dup (pc' := 65) (dX2_init 45 rfl rfl) rfl rfl ?_
  refine x_bipush (pc' := 67) (v := 10) (dX2_init 46 rfl rfl) (by decide) rfl ?_
  refine x_ldcS (pc' := 69) (tx := "let") (i := 15) (dX2_init 47 rfl rfl) (List.mem_of_getElem? (i := 15) rfl) rfl ?_
  obtain ⟨n50, hf⟩ := hf
  obtain ⟨i47, hf⟩ := hf
  obtain ⟨o134, hf⟩ := hf
  refine x_aast (pc' := 70) (t := 5) (E := "java/lang/String") (dX2_init 48 rfl rfl) rfl (by decide) rfl (by decide) k6 (Or.inr ⟨n50, by decide⟩) i47 o134 (fun h48 e49 => ?_)
  replace hf := hf h48 e49
  replace k6 : hK h48 q1 = 1005 := by rw [e49]; exact k6
  refine x_dup (pc' := 71) (dX2_init 49 rfl rfl) rfl rfl ?_
  refine x_bipush (pc' := 73) (v := 11) (dX2_init 50 rfl rfl) (by decide) rfl ?_
  refine x_ldcS (pc' := 75) (tx := "mod") (i := 16) (dX2_init 51 rfl rfl) (List.mem_of_getElem? (i := 16) rfl) rfl ?_
  obtain ⟨n54, hf⟩ := hf
  obtain ⟨i51, hf⟩ := hf
  obtain ⟨o133, hf⟩ := hf
  refine x_aast (pc' := 76) (t := 5) (E := "java/lang/String") (dX2_init 52 rfl rfl) rfl (by decide) rfl (by decide) k6 (Or.inr ⟨n54, by decide⟩) i51 o133 (fun h52 e53 => ?_)
  replace hf := hf h52 e53
  replace k6 : hK h52 q1 = 1005 := by rw [e53]; exact k6
  refine x_dup (pc' := 77) (dX2_init 53 rfl rfl) rfl rfl ?_
  refine x_bipush (pc' := 79) (v := 12) (dX2_init 54 rfl rfl) (by decide) rfl ?_
  refine x_ldcS (pc' := 81) (tx := "of") (i := 17) (dX2_init 55 rfl rfl) (List.mem_of_getElem? (i := 17) rfl) rfl ?_
  obtain ⟨n58, hf⟩ := hf
  obtain ⟨i55, hf⟩ := hf
  obtain ⟨o132, hf⟩ := hf
  refine x_aast (pc' := 82) (t := 5) (E := "java/lang/String") (dX2_init 56 rfl rfl) rfl (by decide) rfl (by decide) k6 (Or.inr ⟨n58, by decide⟩) i55 o132 (fun h56 e57 => ?_)
  replace hf := hf h56 e57
  replace k6 : hK h56 q1 = 1005 := by rw [e57]; exact k6
  refine x_dup (pc' := 83) (dX2_init 57 rfl rfl) rfl rfl ?_
  refine x_bipush (pc' := 85) (v := 13) (dX2_init 58 rfl rfl) (by decide) rfl ?_
  refine x_ldcS (pc' := 87) (tx := "orelse") (i := 18) (dX2_init 59 rfl rfl) (List.mem_of_getElem? (i := 18) rfl) rfl ?_
  obtain ⟨n62, hf⟩ := hf
  obtain ⟨i59, hf⟩ := hf
  obtain ⟨o131, hf⟩ := hf
  refine x_aast (pc' := 88) (t := 5) (E := "java/lang/String") (dX2_init 60 rfl rfl) rfl (by decide) rfl (by decide) k6 (Or.inr ⟨n62, by decide⟩) i59 o131 (fun h60 e61 => ?_)
  replace hf := hf h60 e61
  replace k6 : hK h60 q1 = 1005 := by rw [e61]; exact k6
  refine x_dup (pc' := 89) (dX2_init 61 rfl rfl) rfl rfl ?_
  refine x_bipush (pc' := 91) (v := 14) (dX2_init 62 rfl rfl) (by decide) rfl ?_
  refine x_ldcS (pc' := 93) (tx := "andalso") (i := 19) (dX2_init 63 rfl rfl) (List.mem_of_getElem? (i := 19) rfl) rfl ?_
  obtain ⟨n66, hf⟩ := hf
  obtain ⟨i63, hf⟩ := hf
  obtain ⟨o130, hf⟩ := hf
  refine x_aast (pc' := 94) (t := 5) (E := "java/lang/String") (dX2_init 64 rfl rfl) rfl (by decide) rfl (by decide) k6 (Or.inr ⟨n66, by decide⟩) i63 o130 (fun h64 e65 => ?_)
  replace hf := hf h64 e65
  replace k6 : hK h64 q1 = 1005 := by rw [e65]; exact k6
  refine x_dup (pc' := 95) (dX2_init 65 rfl rfl) rfl rfl ?_
  refine x_bipush (pc' := 97) (v := 15) (dX2_init 66 rfl rfl) (by decide) rfl ?_
  refine x_ldcS (pc' := 99) (tx := "then") (i := 20) (dX2_init 67 rfl rfl) (List.mem_of_getElem? (i := 20) rfl) rfl ?_
  obtain ⟨n70, hf⟩ := hf
  obtain ⟨i67, hf⟩ := hf
  obtain ⟨o129, hf⟩ := hf
  refine x_aast (pc' := 100) (t := 5) (E := "java/lang/String") (dX2_init 68 rfl rfl) rfl (by decide) rfl (by decide) k6 (Or.inr ⟨n70, by decide⟩) i67 o129 (fun h68 e69 => ?_)
  replace hf := hf h68 e69
  replace k6 : hK h68 q1 = 1005 := by rw [e69]; exact k6
  refine x_dup (pc' := 101) (dX2_init 69 rfl rfl) rfl rfl ?_
  refine x_bipush (pc' := 103) (v := 16) (dX2_init 70 rfl rfl) (by decide) rfl ?_
  refine x_ldcS (pc' := 105) (tx := "true") (i := 21) (dX2_init 71 rfl rfl) (List.mem_of_getElem? (i := 21) rfl) rfl ?_
  obtain ⟨n74, hf⟩ := hf
  obtain ⟨i71, hf⟩ := hf
  obtain ⟨o128, hf⟩ := hf
  refine x_aast (pc' := 106) (t := 5) (E := "java/lang/String") (dX2_init 72 rfl rfl) rfl (by decide) rfl (by decide) k6 (Or.inr ⟨n74, by decide⟩) i71 o128 (fun h72 e73 => ?_)
  replace hf := hf h72 e73
  replace k6 : hK h72 q1 = 1005 := by rw [e73]; exact k6
  refine x_dup (pc' := 107) (dX2_init 73 rfl rfl) rfl rfl ?_
  refine x_bipush (pc' := 109) (v := 17) (dX2_init 74 rfl rfl) (by decide) rfl ?_
  refine x_ldcS (pc' := 111) (tx := "false") (i := 22) (dX2_init 75 rfl rfl) (List.mem_of_getElem? (i := 22) rfl) rfl ?_
  obtain ⟨n78, hf⟩ := hf
  obtain ⟨i75, hf⟩ := hf
  obtain ⟨o127, hf⟩ := hf
  refine x_aast (pc' := 112) (t := 5) (E := "java/lang/String") (dX2_init 76 rfl rfl) rfl (by decide) rfl (by decide) k6 (Or.inr ⟨n78, by decide⟩) i75 o127 (fun h76 e77 => ?_)
  replace hf := hf h76 e77
  replace k6 : hK h76 q1 = 1005 := by rw [e77]; exact k6
  refine x_dup (pc' := 113) (dX2_init 77 rfl rfl) rfl rfl ?_
  refine x_bipush (pc' := 115) (v := 18) (dX2_init 78 rfl rfl) (by decide) rfl ?_
  refine x_ldcS (pc' := 117) (tx := "val") (i := 23) (dX2_init 79 rfl rfl) (List.mem_of_getElem? (i := 23) rfl) rfl ?_
  obtain ⟨n82, hf⟩ := hf
  obtain ⟨i79, hf⟩ := hf
  obtain ⟨o126, hf⟩ := hf
  refine x_aast (pc' := 118) (t := 5) (E := "java/lang/String") (dX2_init 80 rfl rfl) rfl (by decide) rfl (by decide) k6 (Or.inr ⟨n82, by decide⟩) i79 o126 (fun h80 e81 => ?_)
  replace hf := hf h80 e81
  replace k6 : hK h80 q1 = 1005 := by rw [e81]; exact k6
  obtain ⟨k83, hf⟩ := hf
  refine x_putR (pc' := 121) (dX2_init 81 rfl rfl) g21 q317 (Or.inl rfl) (Or.inr ⟨rfl, rfl, rfl, rfl⟩) (Or.inr rfl) rfl (hf_of 1 k83 rfl (by decide) m1_21) (fun h84 e125 => ?_)
  replace hf := hf h84 e125
  replace k6 : hK h84 q1 = 1005 := by rw [e125]; exact k6
  replace k83 : hK h84 a0 = 2 := by rw [e125]; exact k83
  refine x_aload_n (pc' := 122) 0 (dX2_init 82 rfl rfl) rfl rfl rfl ?_
  refine x_sipush (pc' := 125) (v := 4096) (dX2_init 83 rfl rfl) (by decide) rfl ?_
  obtain ⟨z89, n1, n2, hf⟩ := hf
  refine x_newa1 (pc' := 127) (dX2_init 84 rfl rfl) rfl z89 (by decide) n1 n2 (fun q85 h87 k86 e88 => ?_)
  replace hf := hf q85 k86 h87 e88
  replace k6 : hK h87 q1 = 1005 := by rw [e88]; exact kNA k6 (by decide) k86
  replace k83 : hK h87 a0 = 2 := by rw [e88]; exact kNA k83 (by decide) k86
  have k90 : hK h87 q85 = 1001 := by rw [e88]; exact kNAs
  refine x_putR (pc' := 130) (dX2_init 85 rfl rfl) g22 q318 (Or.inl rfl) (Or.inr ⟨rfl, rfl, rfl, rfl⟩) (Or.inr rfl) rfl (hf_of 1 k83 rfl (by decide) m1_22) (fun h91 e124 => ?_)
  replace hf := hf h91 e124
  replace k6 : hK h91 q1 = 1005 := by rw [e124]; exact k6
  replace k83 : hK h91 a0 = 2 := by rw [e124]; exact k83
  replace k90 : hK h91 q85 = 1001 := by rw [e124]; exact k90
  refine x_aload_n (pc' := 131) 0 (dX2_init 86 rfl rfl) rfl rfl rfl ?_
  refine x_sipush (pc' := 134) (v := 4098) (dX2_init 87 rfl rfl) (by decide) rfl ?_
  obtain ⟨z96, n1, n2, hf⟩ := hf
  refine x_newa0 (pc' := 136) (dX2_init 88 rfl rfl) rfl z96 (by decide) n1 n2 (fun q92 h94 k93 e95 => ?_)
  replace hf := hf q92 k93 h94 e95
  replace k6 : hK h94 q1 = 1005 := by rw [e95]; exact kNA k6 (by decide) k93
  replace k83 : hK h94 a0 = 2 := by rw [e95]; exact kNA k83 (by decide) k93
  replace k90 : hK h94 q85 = 1001 := by rw [e95]; exact kNA k90 (by decide) k93
  have k97 : hK h94 q92 = 1000 := by rw [e95]; exact kNAs
  refine x_putR (pc' := 139) (dX2_init 89 rfl rfl) g24 q322 (Or.inl rfl) (Or.inr ⟨rfl, rfl, rfl, rfl⟩) (Or.inr rfl) rfl (hf_of 1 k83 rfl (by decide) m1_24) (fun h98 e123 => ?_)
  replace hf := hf h98 e123
  replace k6 : hK h98 q1 = 1005 := by rw [e123]; exact k6
  replace k83 : hK h98 a0 = 2 := by rw [e123]; exact k83
  replace k90 : hK h98 q85 = 1001 := by rw [e123]; exact k90
  replace k97 : hK h98 q92 = 1000 := by rw [e123]; exact k97
  refine x_aload_n (pc' := 140) 0 (dX2_init 90 rfl rfl) rfl rfl rfl ?_
  refine x_sipush (pc' := 143) (v := 4098) (dX2_init 91 rfl rfl) (by decide) rfl ?_
  obtain ⟨z103, n1, n2, hf⟩ := hf
  refine x_newa0 (pc' := 145) (dX2_init 92 rfl rfl) rfl z103 (by decide) n1 n2 (fun q99 h101 k100 e102 => ?_)
  replace hf := hf q99 k100 h101 e102
  replace k6 : hK h101 q1 = 1005 := by rw [e102]; exact kNA k6 (by decide) k100
  replace k83 : hK h101 a0 = 2 := by rw [e102]; exact kNA k83 (by decide) k100
  replace k90 : hK h101 q85 = 1001 := by rw [e102]; exact kNA k90 (by decide) k100
  replace k97 : hK h101 q92 = 1000 := by rw [e102]; exact kNA k97 (by decide) k100
  have k104 : hK h101 q99 = 1000 := by rw [e102]; exact kNAs
  refine x_putR (pc' := 148) (dX2_init 93 rfl rfl) g25 q325 (Or.inl rfl) (Or.inr ⟨rfl, rfl, rfl, rfl⟩) (Or.inr rfl) rfl (hf_of 1 k83 rfl (by decide) m1_25) (fun h105 e122 => ?_)
  replace hf := hf h105 e122
  replace k6 : hK h105 q1 = 1005 := by rw [e122]; exact k6
  replace k83 : hK h105 a0 = 2 := by rw [e122]; exact k83
  replace k90 : hK h105 q85 = 1001 := by rw [e122]; exact k90
  replace k97 : hK h105 q92 = 1000 := by rw [e122]; exact k97
  replace k104 : hK h105 q99 = 1000 := by rw [e122]; exact k104
  refine x_aload_n (pc' := 149) 0 (dX2_init 94 rfl rfl) rfl rfl rfl ?_
  refine x_sipush (pc' := 152) (v := 4098) (dX2_init 95 rfl rfl) (by decide) rfl ?_
  obtain ⟨z110, n1, n2, hf⟩ := hf
  refine x_newa3 (pc' := 154) (dX2_init 96 rfl rfl) rfl z110 (by decide) n1 n2 (fun q106 h108 k107 e109 => ?_)
  replace hf := hf q106 k107 h108 e109
  replace k6 : hK h108 q1 = 1005 := by rw [e109]; exact kNA k6 (by decide) k107
  replace k83 : hK h108 a0 = 2 := by rw [e109]; exact kNA k83 (by decide) k107
  replace k90 : hK h108 q85 = 1001 := by rw [e109]; exact kNA k90 (by decide) k107
  replace k97 : hK h108 q92 = 1000 := by rw [e109]; exact kNA k97 (by decide) k107
  replace k104 : hK h108 q99 = 1000 := by rw [e109]; exact kNA k104 (by decide) k107
  have k111 : hK h108 q106 = 1003 := by rw [e109]; exact kNAs
  refine x_putR (pc' := 157) (dX2_init 97 rfl rfl) g26 q332 (Or.inl rfl) (Or.inr ⟨rfl, rfl, rfl, rfl⟩) (Or.inr rfl) rfl (hf_of 1 k83 rfl (by decide) m1_26) (fun h112 e121 => ?_)
  replace hf := hf h112 e121
  replace k6 : hK h112 q1 = 1005 := by rw [e121]; exact k6
  replace k83 : hK h112 a0 = 2 := by rw [e121]; exact k83
  replace k90 : hK h112 q85 = 1001 := by rw [e121]; exact k90
  replace k97 : hK h112 q92 = 1000 := by rw [e121]; exact k97
  replace k104 : hK h112 q99 = 1000 := by rw [e121]; exact k104
  replace k111 : hK h112 q106 = 1003 := by rw [e121]; exact k111
  refine x_aload_n (pc' := 158) 0 (dX2_init 98 rfl rfl) rfl rfl rfl ?_
  refine x_sipush (pc' := 161) (v := 4098) (dX2_init 99 rfl rfl) (by decide) rfl ?_
  obtain ⟨z117, n1, n2, hf⟩ := hf
  refine x_newa3 (pc' := 163) (dX2_init 100 rfl rfl) rfl z117 (by decide) n1 n2 (fun q113 h115 k114 e116 => ?_)
  replace hf := hf q113 k114 h115 e116
  replace k6 : hK h115 q1 = 1005 := by rw [e116]; exact kNA k6 (by decide) k114
  replace k83 : hK h115 a0 = 2 := by rw [e116]; exact kNA k83 (by decide) k114
  replace k90 : hK h115 q85 = 1001 := by rw [e116]; exact kNA k90 (by decide) k114
  replace k97 : hK h115 q92 = 1000 := by rw [e116]; exact kNA k97 (by decide) k114
  replace k104 : hK h115 q99 = 1000 := by rw [e116]; exact kNA k104 (by decide) k114
  replace k111 : hK h115 q106 = 1003 := by rw [e116]; exact kNA k111 (by decide) k114
  have k118 : hK h115 q113 = 1003 := by rw [e116]; exact kNAs
  refine x_putR (pc' := 166) (dX2_init 101 rfl rfl) g27 q335 (Or.inl rfl) (Or.inr ⟨rfl, rfl, rfl, rfl⟩) (Or.inr rfl) rfl (hf_of 1 k83 rfl (by decide) m1_27) (fun h119 e120 => ?_)
  replace hf := hf h119 e120
  replace k6 : hK h119 q1 = 1005 := by rw [e120]; exact k6
  replace k83 : hK h119 a0 = 2 := by rw [e120]; exact k83
  replace k90 : hK h119 q85 = 1001 := by rw [e120]; exact k90
  replace k97 : hK h119 q92 = 1000 := by rw [e120]; exact k97
  replace k104 : hK h119 q99 = 1000 := by rw [e120]; exact k104
  replace k111 : hK h119 q106 = 1003 := by rw [e120]; exact k111
  replace k118 : hK h119 q113 = 1003 := by rw [e120]; exact k118
  exact x_vret (dX2_init 102 rfl rfl) rfl hf
theorem bX2_cut (G : Gh) (d : Nat) (h : AH) (Q : Outcome → AH → Prop)  (s1 : So 1 (gW G) h) (hf : ∀ h1, h1 = pI h (gW G 1) 28 0 → (∀ h2, h2 = pI h1 (gW G 1) 29 0 → (X G mX2_cut (d + 1) none [] 12 [(0, .ref (gW G 1)), (1, .int (1))] [] h2 Q))) : C G mX2_cut (d + 1) [.ref (gW G 1)] h Q := by
  refine C.of_X (by decide +kernel) (Nat.le_of_ble_eq_true rfl) wX2_cut ?_
  show X G mX2_cut (d + 1) none [] 0 [(0, .ref (gW G 1))] [] h Q
  refine x_aload_n (pc' := 1) 0 (dX2_cut 0 rfl rfl) rfl rfl rfl ?_
  refine x_iconst (pc' := 2) (v := 0) (dX2_cut 1 rfl rfl) (by decide) rfl ?_
  refine x_putI (pc' := 5) (dX2_cut 2 rfl rfl) g28 q337 (Or.inl rfl) (Or.inl rfl) (Or.inl (by decide)) rfl (hf_of 1 s1.1 rfl (by decide) m1_28) (fun h1 e4 => ?_)
  replace hf := hf h1 e4
  replace s1 : So 1 (gW G) h1 := by rw [e4]; exact s1.le sc1 (pI_le (Or.inl rfl))
  refine x_aload_n (pc' := 6) 0 (dX2_cut 3 rfl rfl) rfl rfl rfl ?_
  refine x_iconst (pc' := 7) (v := 0) (dX2_cut 4 rfl rfl) (by decide) rfl ?_
  refine x_putI (pc' := 10) (dX2_cut 5 rfl rfl) g29 q339 (Or.inl rfl) (Or.inl rfl) (Or.inl (by decide)) rfl (hf_of 1 s1.1 rfl (by decide) m1_29) (fun h2 e3 => ?_)
  replace hf := hf h2 e3
  replace s1 : So 1 (gW G) h2 := by rw [e3]; exact s1.le sc1 (pI_le (Or.inl rfl))
  refine x_iconst (pc' := 11) (v := 1) (dX2_cut 6 rfl rfl) (by decide) rfl ?_
  refine x_istore_n (pc' := 12) (dX2_cut 7 rfl rfl) rfl (by decide) rfl rfl ?_
  exact X.sub [1, 0] rfl (by simp) hf
theorem bX2_cut_12 (G : Gh) (d : Nat) (h : AH) (Q : Outcome → AH → Prop) (l1 : Int32) (s1 : So 1 (gW G) h) (hf : (l1 = 0 → (Q (.returned none) h)) ∧ (¬ l1 = 0 → (((fI h (gW G 1) 23) ≤ (fI h (gW G 1) 29) → (C G mX2_add d [.ref (gW G 1), .int (291), .int (fI h (gW G 1) 23)] h (KV Q (fun h5 => Q (.returned none) h5)))) ∧ (¬ ((fI h (gW G 1) 23) ≤ (fI h (gW G 1) 29)) → (C G mX2_look d [.ref (gW G 1), .int (0)] h (KI Q (fun x9 h7 => (x9 = 32 → (∀ h11, h11 = pI h7 (gW G 1) 29 ((fI h7 (gW G 1) 29) + 1) → (X G mX2_cut (d + 1) none [] 12 [(0, .ref (gW G 1)), (1, .int (l1))] [] h11 Q))) ∧ (¬ x9 = 32 → ((x9 = 10 → (∀ h42, h42 = pI h7 (gW G 1) 29 ((fI h7 (gW G 1) 29) + 1) → (X G mX2_cut (d + 1) none [] 12 [(0, .ref (gW G 1)), (1, .int (l1))] [] h42 Q))) ∧ (¬ x9 = 10 → (C G mX2_small d [.int (x9)] h7 (KI Q (fun x16 h14 => (x16 = 0 → (C G mX2_great d [.int (x9)] h14 (KI Q (fun x23 h21 => (x23 = 0 → ((x9 = 39 → (C G mX2_word d [.ref (gW G 1), .int (x9)] h21 (KI Q (fun x41 h39 => X G mX2_cut (d + 1) none [] 12 [(0, .ref (gW G 1)), (1, .int (x41))] [] h39 Q)))) ∧ (¬ x9 = 39 → (C G mX2_digit d [.int (x9)] h21 (KI Q (fun x31 h29 => (x31 = 0 → (C G mX2_sign d [.ref (gW G 1), .int (x9)] h29 (KI Q (fun x35 h33 => X G mX2_cut (d + 1) none [] 12 [(0, .ref (gW G 1)), (1, .int (x35))] [] h33 Q)))) ∧ (¬ x31 = 0 → (C G mX2_number d [.ref (gW G 1)] h29 (KI Q (fun x38 h36 => X G mX2_cut (d + 1) none [] 12 [(0, .ref (gW G 1)), (1, .int (x38))] [] h36 Q)))))))))) ∧ (¬ x23 = 0 → (C G mX2_word d [.ref (gW G 1), .int (x9)] h21 (KI Q (fun x27 h25 => X G mX2_cut (d + 1) none [] 12 [(0, .ref (gW G 1)), (1, .int (x27))] [] h25 Q)))))))) ∧ (¬ x16 = 0 → (C G mX2_word d [.ref (gW G 1), .int (x9)] h14 (KI Q (fun x20 h18 => X G mX2_cut (d + 1) none [] 12 [(0, .ref (gW G 1)), (1, .int (x20))] [] h18 Q))))))))))))))))) : X G mX2_cut (d + 1) none [] 12 [(0, .ref (gW G 1)), (1, .int (l1))] [] h Q := by
  refine x_iload_n (pc' := 13) 1 (dX2_cut 8 rfl rfl) rfl rfl rfl ?_
  refine x_if_eq (pc' := 16) (tgt := 111) (dX2_cut 9 rfl rfl) (by decide) rfl (fun c1 => ?_) (fun c1 => ?_)
  · replace hf := hf.1 c1
    refine x_iload_n (pc' := 112) 1 (dX2_cut 58 rfl rfl) rfl rfl rfl ?_
    refine x_if_eq (pc' := 115) (tgt := 126) (dX2_cut 59 rfl rfl) (by decide) rfl (fun c2 => ?_) (fun c2 => ?_)
    · exact x_vret (dX2_cut 65 rfl rfl) rfl hf
    · exact absurd c1 c2
  · replace hf := hf.2 c1
    refine x_aload_n (pc' := 17) 0 (dX2_cut 10 rfl rfl) rfl rfl rfl ?_
    refine x_getI (pc' := 20) (dX2_cut 11 rfl rfl) g29 q339 (Or.inl rfl) rfl (hf_of 1 s1.1 rfl (by decide) m1_29) ?_
    refine x_aload_n (pc' := 21) 0 (dX2_cut 12 rfl rfl) rfl rfl rfl ?_
    refine x_getI (pc' := 24) (dX2_cut 13 rfl rfl) g23 q320 (Or.inl rfl) rfl (hf_of 1 s1.1 rfl (by decide) m1_23) ?_
    refine x_icmp_ge (pc' := 27) (tgt := 111) (dX2_cut 14 rfl rfl) (by decide) rfl (fun c3 => ?_) (fun c3 => ?_)
    · replace hf := hf.1 c3
      refine x_iload_n (pc' := 112) 1 (dX2_cut 58 rfl rfl) rfl rfl rfl ?_
      refine x_if_eq (pc' := 115) (tgt := 126) (dX2_cut 59 rfl rfl) (by decide) rfl (fun c4 => ?_) (fun c4 => ?_)
      · exact absurd c4 c1
      · refine x_aload_n (pc' := 116) 0 (dX2_cut 60 rfl rfl) rfl rfl rfl ?_
        refine x_sipush (pc' := 119) (v := 291) (dX2_cut 61 rfl rfl) (by decide) rfl ?_
        refine x_aload_n (pc' := 120) 0 (dX2_cut 62 rfl rfl) rfl rfl rfl ?_
        refine x_getI (pc' := 123) (dX2_cut 63 rfl rfl) g23 q320 (Or.inl rfl) rfl (hf_of 1 s1.1 rfl (by decide) m1_23) ?_
        refine x_inv (pc' := 126) (ν := mX2_add) (av := [_, _, _]) (st := []) rfl rfl (dX2_cut 64 rfl rfl) (Nat.le_of_ble_eq_true rfl) wX2_add q212 (inv_V (k := 1) (dX2_cut 64 rfl rfl) q1173 q1175 qs7 wX2_add (by decide) lX2_add (by decide) s1.1) (exN (by decide)) rfl ?_
        refine C.mono hf (fun _ _ => KV.g (fun h5 hf le6 => ?_))
        replace s1 := s1.le sc1 (le6)
        exact x_vret (dX2_cut 65 rfl rfl) rfl hf
    · replace hf := hf.2 c3
      refine x_aload_n (pc' := 28) 0 (dX2_cut 15 rfl rfl) rfl rfl rfl ?_
      refine x_iconst (pc' := 29) (v := 0) (dX2_cut 16 rfl rfl) (by decide) rfl ?_
      refine x_inv (pc' := 32) (ν := mX2_look) (av := [_, _]) (st := []) rfl rfl (dX2_cut 17 rfl rfl) (Nat.le_of_ble_eq_true rfl) wX2_look q212 (inv_V (k := 1) (dX2_cut 17 rfl rfl) q1159 q1161 qs5 wX2_look (by decide) lX2_look (by decide) s1.1) (exN (by decide)) rfl ?_
      refine C.mono hf (fun _ _ => KI.g (fun x9 h7 hf le8 => ?_))
      replace s1 := s1.le sc1 (le8)
      refine x_istore_n (pc' := 33) (dX2_cut 18 rfl rfl) rfl (by decide) rfl rfl ?_
      refine x_iload_n (pc' := 34) 0 (dX2_cut 19 rfl rfl) rfl rfl rfl ?_
      refine x_bipush (pc' := 36) (v := 32) (dX2_cut 20 rfl rfl) (by decide) rfl ?_
      refine x_icmp_eq (pc' := 39) (tgt := 45) (dX2_cut 21 rfl rfl) (by decide) rfl (fun c10 => ?_) (fun c10 => ?_)
      · replace hf := hf.1 c10
        refine x_aload_n (pc' := 46) 1 (dX2_cut 25 rfl rfl) rfl rfl rfl ?_
        refine x_dup (pc' := 47) (dX2_cut 26 rfl rfl) rfl rfl ?_
        refine x_getI (pc' := 50) (dX2_cut 27 rfl rfl) g29 q339 (Or.inl rfl) rfl (hf_of 1 s1.1 rfl (by decide) m1_29) ?_
        refine x_iconst (pc' := 51) (v := 1) (dX2_cut 28 rfl rfl) (by decide) rfl ?_
        refine x_iadd (pc' := 52) (dX2_cut 29 rfl rfl) rfl ?_
        refine x_putI (pc' := 55) (dX2_cut 30 rfl rfl) g29 q339 (Or.inl rfl) (Or.inl rfl) (Or.inl (by decide)) rfl (hf_of 1 s1.1 rfl (by decide) m1_29) (fun h11 e12 => ?_)
        replace hf := hf h11 e12
        replace s1 : So 1 (gW G) h11 := by rw [e12]; exact s1.le sc1 (pI_le (Or.inl rfl))
        refine x_goto (tgt := 108) (dX2_cut 31 rfl rfl) (by decide) ?_
        refine x_goto (tgt := 12) (dX2_cut 57 rfl rfl) (by decide) ?_
        exact X.sub [1, 2] rfl (by simp) hf
      · replace hf := hf.2 c10
        refine x_iload_n (pc' := 40) 0 (dX2_cut 22 rfl rfl) rfl rfl rfl ?_
        refine x_bipush (pc' := 42) (v := 10) (dX2_cut 23 rfl rfl) (by decide) rfl ?_
        refine x_icmp_ne (pc' := 45) (tgt := 58) (dX2_cut 24 rfl rfl) (by decide) rfl (fun c13 => ?_) (fun c13 => ?_)
        · replace hf := hf.2 c13
          refine x_iload_n (pc' := 59) 0 (dX2_cut 32 rfl rfl) rfl rfl rfl ?_
          refine x_inv (pc' := 62) (ν := mX2_small) (av := [_]) (st := []) rfl rfl (dX2_cut 33 rfl rfl) (Nat.le_of_ble_eq_true rfl) wX2_small q212 (inv_S (dX2_cut 33 rfl rfl) q1163 q1164 q212 wX2_small (by decide) lX2_small) (exN (by decide)) rfl ?_
          refine C.mono hf (fun _ _ => KI.g (fun x16 h14 hf le15 => ?_))
          replace s1 := s1.le sc1 (le15)
          refine x_if_ne (pc' := 65) (tgt := 78) (dX2_cut 34 rfl rfl) (by decide) rfl (fun c17 => ?_) (fun c17 => ?_)
          · replace hf := hf.2 c17
            refine x_aload_n (pc' := 79) 1 (dX2_cut 41 rfl rfl) rfl rfl rfl ?_
            refine x_iload_n (pc' := 80) 0 (dX2_cut 42 rfl rfl) rfl rfl rfl ?_
            refine x_inv (pc' := 83) (ν := mX2_word) (av := [_, _]) (st := []) rfl rfl (dX2_cut 43 rfl rfl) (Nat.le_of_ble_eq_true rfl) wX2_word q212 (inv_V (k := 1) (dX2_cut 43 rfl rfl) q1169 q1171 qs6 wX2_word (by decide) lX2_word (by decide) s1.1) (exN (by decide)) rfl ?_
            refine C.mono hf (fun _ _ => KI.g (fun x20 h18 hf le19 => ?_))
            replace s1 := s1.le sc1 (le19)
            refine x_istore_n (pc' := 84) (dX2_cut 44 rfl rfl) rfl (by decide) rfl rfl ?_
            refine x_goto (tgt := 108) (dX2_cut 45 rfl rfl) (by decide) ?_
            refine x_goto (tgt := 12) (dX2_cut 57 rfl rfl) (by decide) ?_
            exact X.sub [2, 0] rfl (by simp) hf
          · replace hf := hf.1 (Classical.not_not.mp c17)
            replace c17 := Classical.not_not.mp c17
            refine x_iload_n (pc' := 66) 0 (dX2_cut 35 rfl rfl) rfl rfl rfl ?_
            refine x_inv (pc' := 69) (ν := mX2_great) (av := [_]) (st := []) rfl rfl (dX2_cut 36 rfl rfl) (Nat.le_of_ble_eq_true rfl) wX2_great q212 (inv_S (dX2_cut 36 rfl rfl) q1166 q1167 q212 wX2_great (by decide) lX2_great) (exN (by decide)) rfl ?_
            refine C.mono hf (fun _ _ => KI.g (fun x23 h21 hf le22 => ?_))
            replace s1 := s1.le sc1 (le22)
            refine x_if_ne (pc' := 72) (tgt := 78) (dX2_cut 37 rfl rfl) (by decide) rfl (fun c24 => ?_) (fun c24 => ?_)
            · replace hf := hf.2 c24
              refine x_aload_n (pc' := 79) 1 (dX2_cut 41 rfl rfl) rfl rfl rfl ?_
              refine x_iload_n (pc' := 80) 0 (dX2_cut 42 rfl rfl) rfl rfl rfl ?_
              refine x_inv (pc' := 83) (ν := mX2_word) (av := [_, _]) (st := []) rfl rfl (dX2_cut 43 rfl rfl) (Nat.le_of_ble_eq_true rfl) wX2_word q212 (inv_V (k := 1) (dX2_cut 43 rfl rfl) q1169 q1171 qs6 wX2_word (by decide) lX2_word (by decide) s1.1) (exN (by decide)) rfl ?_
              refine C.mono hf (fun _ _ => KI.g (fun x27 h25 hf le26 => ?_))
              replace s1 := s1.le sc1 (le26)
              refine x_istore_n (pc' := 84) (dX2_cut 44 rfl rfl) rfl (by decide) rfl rfl ?_
              refine x_goto (tgt := 108) (dX2_cut 45 rfl rfl) (by decide) ?_
              refine x_goto (tgt := 12) (dX2_cut 57 rfl rfl) (by decide) ?_
              exact X.sub [2, 0] rfl (by simp) hf
            · replace hf := hf.1 (Classical.not_not.mp c24)
              replace c24 := Classical.not_not.mp c24
              refine x_iload_n (pc' := 73) 0 (dX2_cut 38 rfl rfl) rfl rfl rfl ?_
              refine x_bipush (pc' := 75) (v := 39) (dX2_cut 39 rfl rfl) (by decide) rfl ?_
              refine x_icmp_ne (pc' := 78) (tgt := 87) (dX2_cut 40 rfl rfl) (by decide) rfl (fun c28 => ?_) (fun c28 => ?_)
              · replace hf := hf.2 c28
                refine x_iload_n (pc' := 88) 0 (dX2_cut 46 rfl rfl) rfl rfl rfl ?_
                refine x_inv (pc' := 91) (ν := mX2_digit) (av := [_]) (st := []) rfl rfl (dX2_cut 47 rfl rfl) (Nat.le_of_ble_eq_true rfl) wX2_digit q212 (inv_S (dX2_cut 47 rfl rfl) q1177 q1178 q212 wX2_digit (by decide) lX2_digit) (exN (by decide)) rfl ?_
                refine C.mono hf (fun _ _ => KI.g (fun x31 h29 hf le30 => ?_))
                replace s1 := s1.le sc1 (le30)
                refine x_if_eq (pc' := 94) (tgt := 102) (dX2_cut 48 rfl rfl) (by decide) rfl (fun c32 => ?_) (fun c32 => ?_)
                · replace hf := hf.1 c32
                  refine x_aload_n (pc' := 103) 1 (dX2_cut 53 rfl rfl) rfl rfl rfl ?_
                  refine x_iload_n (pc' := 104) 0 (dX2_cut 54 rfl rfl) rfl rfl rfl ?_
                  refine x_inv (pc' := 107) (ν := mX2_sign) (av := [_, _]) (st := []) rfl rfl (dX2_cut 55 rfl rfl) (Nat.le_of_ble_eq_true rfl) wX2_sign q212 (inv_V (k := 1) (dX2_cut 55 rfl rfl) q1197 q1199 qs10 wX2_sign (by decide) lX2_sign (by decide) s1.1) (exN (by decide)) rfl ?_
                  refine C.mono hf (fun _ _ => KI.g (fun x35 h33 hf le34 => ?_))
                  replace s1 := s1.le sc1 (le34)
                  refine x_istore_n (pc' := 108) (dX2_cut 56 rfl rfl) rfl (by decide) rfl rfl ?_
                  refine x_goto (tgt := 12) (dX2_cut 57 rfl rfl) (by decide) ?_
                  exact X.sub [2, 0] rfl (by simp) hf
                · replace hf := hf.2 c32
                  refine x_aload_n (pc' := 95) 1 (dX2_cut 49 rfl rfl) rfl rfl rfl ?_
                  refine x_inv (pc' := 98) (ν := mX2_number) (av := [_]) (st := []) rfl rfl (dX2_cut 50 rfl rfl) (Nat.le_of_ble_eq_true rfl) wX2_number q212 (inv_V (k := 1) (dX2_cut 50 rfl rfl) q1186 q1188 qs9 wX2_number (by decide) lX2_number (by decide) s1.1) (exN (by decide)) rfl ?_
                  refine C.mono hf (fun _ _ => KI.g (fun x38 h36 hf le37 => ?_))
                  replace s1 := s1.le sc1 (le37)
                  refine x_istore_n (pc' := 99) (dX2_cut 51 rfl rfl) rfl (by decide) rfl rfl ?_
                  refine x_goto (tgt := 108) (dX2_cut 52 rfl rfl) (by decide) ?_
                  refine x_goto (tgt := 12) (dX2_cut 57 rfl rfl) (by decide) ?_
                  exact X.sub [2, 0] rfl (by simp) hf
              · replace hf := hf.1 (Classical.not_not.mp c28)
                replace c28 := Classical.not_not.mp c28
                refine x_aload_n (pc' := 79) 1 (dX2_cut 41 rfl rfl) rfl rfl rfl ?_
                refine x_iload_n (pc' := 80) 0 (dX2_cut 42 rfl rfl) rfl rfl rfl ?_
                refine x_inv (pc' := 83) (ν := mX2_word) (av := [_, _]) (st := []) rfl rfl (dX2_cut 43 rfl rfl) (Nat.le_of_ble_eq_true rfl) wX2_word q212 (inv_V (k := 1) (dX2_cut 43 rfl rfl) q1169 q1171 qs6 wX2_word (by decide) lX2_word (by decide) s1.1) (exN (by decide)) rfl ?_
                refine C.mono hf (fun _ _ => KI.g (fun x41 h39 hf le40 => ?_))
                replace s1 := s1.le sc1 (le40)
                refine x_istore_n (pc' := 84) (dX2_cut 44 rfl rfl) rfl (by decide) rfl rfl ?_
                refine x_goto (tgt := 108) (dX2_cut 45 rfl rfl) (by decide) ?_
                refine x_goto (tgt := 12) (dX2_cut 57 rfl rfl) (by decide) ?_
                exact X.sub [2, 0] rfl (by simp) hf
        · replace hf := hf.1 (Classical.not_not.mp c13)
          replace c13 := Classical.not_not.mp c13
          refine x_aload_n (pc' := 46) 1 (dX2_cut 25 rfl rfl) rfl rfl rfl ?_
          refine x_dup (pc' := 47) (dX2_cut 26 rfl rfl) rfl rfl ?_
          refine x_getI (pc' := 50) (dX2_cut 27 rfl rfl) g29 q339 (Or.inl rfl) rfl (hf_of 1 s1.1 rfl (by decide) m1_29) ?_
          refine x_iconst (pc' := 51) (v := 1) (dX2_cut 28 rfl rfl) (by decide) rfl ?_
          refine x_iadd (pc' := 52) (dX2_cut 29 rfl rfl) rfl ?_
          refine x_putI (pc' := 55) (dX2_cut 30 rfl rfl) g29 q339 (Or.inl rfl) (Or.inl rfl) (Or.inl (by decide)) rfl (hf_of 1 s1.1 rfl (by decide) m1_29) (fun h42 e43 => ?_)
          replace hf := hf h42 e43
          replace s1 : So 1 (gW G) h42 := by rw [e43]; exact s1.le sc1 (pI_le (Or.inl rfl))
          refine x_goto (tgt := 108) (dX2_cut 31 rfl rfl) (by decide) ?_
          refine x_goto (tgt := 12) (dX2_cut 57 rfl rfl) (by decide) ?_
          exact X.sub [1, 2] rfl (by simp) hf
theorem bX2_look (G : Gh) (d : Nat) (h : AH) (Q : Outcome → AH → Prop) (p1 : Int32) (s1 : So 1 (gW G) h) (hf : ((fI h (gW G 1) 23) ≤ ((fI h (gW G 1) 29) + p1) → (Q (.returned (some (.int ((-1))))) h)) ∧ (¬ ((fI h (gW G 1) 23) ≤ ((fI h (gW G 1) 29) + p1)) → (vp_in ((fI h (gW G 1) 29) + p1) 4096 ∧ (Q (.returned (some (.int ((aI h (gW G 1022) ((fI h (gW G 1) 29) + p1).toNatClampNeg) &&& 255)))) h)))) : C G mX2_look d [.ref (gW G 1), .int (p1)] h Q := by
  refine C.of_X (by decide +kernel) (Nat.le_of_ble_eq_true rfl) wX2_look ?_
  show X G mX2_look d none [] 0 [(0, .ref (gW G 1)), (1, .int (p1))] [] h Q
  refine x_aload_n (pc' := 1) 0 (dX2_look 0 rfl rfl) rfl rfl rfl ?_
  refine x_getI (pc' := 4) (dX2_look 1 rfl rfl) g29 q339 (Or.inl rfl) rfl (hf_of 1 s1.1 rfl (by decide) m1_29) ?_
  refine x_iload_n (pc' := 5) 1 (dX2_look 2 rfl rfl) rfl rfl rfl ?_
  refine x_iadd (pc' := 6) (dX2_look 3 rfl rfl) rfl ?_
  refine x_aload_n (pc' := 7) 0 (dX2_look 4 rfl rfl) rfl rfl rfl ?_
  refine x_getI (pc' := 10) (dX2_look 5 rfl rfl) g23 q320 (Or.inl rfl) rfl (hf_of 1 s1.1 rfl (by decide) m1_23) ?_
  refine x_icmp_ge (pc' := 13) (tgt := 31) (dX2_look 6 rfl rfl) (by decide) rfl (fun c1 => ?_) (fun c1 => ?_)
  · replace hf := hf.1 c1
    refine x_iconst (pc' := 32) (v := -1) (dX2_look 17 rfl rfl) (by decide) rfl ?_
    exact x_iret (dX2_look 18 rfl rfl) rfl hf
  · replace hf := hf.2 c1
    refine x_aload_n (pc' := 14) 0 (dX2_look 7 rfl rfl) rfl rfl rfl ?_
    refine x_getR (pc' := 17) (dX2_look 8 rfl rfl) g22 q318 (Or.inl rfl) rfl (hf_of 1 s1.1 rfl (by decide) m1_22) (s1.2 1 _ rfl rfl).1 ?_
    refine x_aload_n (pc' := 18) 0 (dX2_look 9 rfl rfl) rfl rfl rfl ?_
    refine x_getI (pc' := 21) (dX2_look 10 rfl rfl) g29 q339 (Or.inl rfl) rfl (hf_of 1 s1.1 rfl (by decide) m1_29) ?_
    refine x_iload_n (pc' := 22) 1 (dX2_look 11 rfl rfl) rfl rfl rfl ?_
    refine x_iadd (pc' := 23) (dX2_look 12 rfl rfl) rfl ?_
    obtain ⟨i2, hf⟩ := hf
    refine x_bald (pc' := 24) (dX2_look 13 rfl rfl) rfl (s1.2 1 _ rfl rfl).2.1 (by rw [(s1.2 1 _ rfl rfl).2.2.2 (by decide)]; exact i2) ?_
    refine x_sipush (pc' := 27) (v := 255) (dX2_look 14 rfl rfl) (by decide) rfl ?_
    refine x_iand (pc' := 28) (dX2_look 15 rfl rfl) rfl ?_
    refine x_goto (tgt := 32) (dX2_look 16 rfl rfl) (by decide) ?_
    exact x_iret (dX2_look 18 rfl rfl) rfl hf
theorem bX2_small (G : Gh) (d : Nat) (h : AH) (Q : Outcome → AH → Prop) (p0 : Int32) (hf : (p0 < 97 → (Q (.returned (some (.int 0))) h)) ∧ (¬ (p0 < 97) → ((122 < p0 → (Q (.returned (some (.int 0))) h)) ∧ (¬ (122 < p0) → (Q (.returned (some (.int 1))) h))))) : C G mX2_small d [.int (p0)] h Q := by
  refine C.of_X (by decide +kernel) (Nat.le_of_ble_eq_true rfl) wX2_small ?_
  show X G mX2_small d none [] 0 [(0, .int (p0))] [] h Q
  refine x_iload_n (pc' := 1) 0 (dX2_small 0 rfl rfl) rfl rfl rfl ?_
  refine x_bipush (pc' := 3) (v := 97) (dX2_small 1 rfl rfl) (by decide) rfl ?_
  refine x_icmp_lt (pc' := 6) (tgt := 16) (dX2_small 2 rfl rfl) (by decide) rfl (fun c1 => ?_) (fun c1 => ?_)
  · replace hf := hf.1 c1
    refine x_iconst (pc' := 17) (v := 0) (dX2_small 8 rfl rfl) (by decide) rfl ?_
    exact x_zret (ty := .boolean) (dX2_small 9 rfl rfl) rfl (by decide) hf
  · replace hf := hf.2 c1
    refine x_iload_n (pc' := 7) 0 (dX2_small 3 rfl rfl) rfl rfl rfl ?_
    refine x_bipush (pc' := 9) (v := 122) (dX2_small 4 rfl rfl) (by decide) rfl ?_
    refine x_icmp_gt (pc' := 12) (tgt := 16) (dX2_small 5 rfl rfl) (by decide) rfl (fun c2 => ?_) (fun c2 => ?_)
    · replace hf := hf.1 c2
      refine x_iconst (pc' := 17) (v := 0) (dX2_small 8 rfl rfl) (by decide) rfl ?_
      exact x_zret (ty := .boolean) (dX2_small 9 rfl rfl) rfl (by decide) hf
    · replace hf := hf.2 c2
      refine x_iconst (pc' := 13) (v := 1) (dX2_small 6 rfl rfl) (by decide) rfl ?_
      refine x_goto (tgt := 17) (dX2_small 7 rfl rfl) (by decide) ?_
      exact x_zret (ty := .boolean) (dX2_small 9 rfl rfl) rfl (by decide) hf
theorem bX2_great (G : Gh) (d : Nat) (h : AH) (Q : Outcome → AH → Prop) (p0 : Int32) (hf : (p0 < 65 → (Q (.returned (some (.int 0))) h)) ∧ (¬ (p0 < 65) → ((90 < p0 → (Q (.returned (some (.int 0))) h)) ∧ (¬ (90 < p0) → (Q (.returned (some (.int 1))) h))))) : C G mX2_great d [.int (p0)] h Q := by
  refine C.of_X (by decide +kernel) (Nat.le_of_ble_eq_true rfl) wX2_great ?_
  show X G mX2_great d none [] 0 [(0, .int (p0))] [] h Q
  refine x_iload_n (pc' := 1) 0 (dX2_great 0 rfl rfl) rfl rfl rfl ?_
  refine x_bipush (pc' := 3) (v := 65) (dX2_great 1 rfl rfl) (by decide) rfl ?_
  refine x_icmp_lt (pc' := 6) (tgt := 16) (dX2_great 2 rfl rfl) (by decide) rfl (fun c1 => ?_) (fun c1 => ?_)
  · replace hf := hf.1 c1
    refine x_iconst (pc' := 17) (v := 0) (dX2_great 8 rfl rfl) (by decide) rfl ?_
    exact x_zret (ty := .boolean) (dX2_great 9 rfl rfl) rfl (by decide) hf
  · replace hf := hf.2 c1
    refine x_iload_n (pc' := 7) 0 (dX2_great 3 rfl rfl) rfl rfl rfl ?_
    refine x_bipush (pc' := 9) (v := 90) (dX2_great 4 rfl rfl) (by decide) rfl ?_
    refine x_icmp_gt (pc' := 12) (tgt := 16) (dX2_great 5 rfl rfl) (by decide) rfl (fun c2 => ?_) (fun c2 => ?_)
    · replace hf := hf.1 c2
      refine x_iconst (pc' := 17) (v := 0) (dX2_great 8 rfl rfl) (by decide) rfl ?_
      exact x_zret (ty := .boolean) (dX2_great 9 rfl rfl) rfl (by decide) hf
    · replace hf := hf.2 c2
      refine x_iconst (pc' := 13) (v := 1) (dX2_great 6 rfl rfl) (by decide) rfl ?_
      refine x_goto (tgt := 17) (dX2_great 7 rfl rfl) (by decide) ?_
      exact x_zret (ty := .boolean) (dX2_great 9 rfl rfl) rfl (by decide) hf
theorem bX2_word (G : Gh) (d : Nat) (h : AH) (Q : Outcome → AH → Prop) (p1 : Int32) (s1 : So 1 (gW G) h) (hf : ∀ x1 : Int32, x1 = fI h (gW G 1) 29 → (∀ h2, h2 = pI h (gW G 1) 29 ((fI h (gW G 1) 29) + 1) → ((p1 = 39 → (C G mX2_look d [.ref (gW G 1), .int (0)] h2 (KI Q (fun x6 h4 => C G mX2_small d [.int (x6)] h4 (KI Q (fun x9 h7 => (x9 = 0 → (C G mX2_add d [.ref (gW G 1), .int (292), .int (x1)] h7 (KV Q (fun h11 => Q (.returned (some (.int 0))) h11)))) ∧ (¬ x9 = 0 → (X G mX2_word (d + 1) none [] 50 [(0, .ref (gW G 1)), (1, .int (p1)), (2, .int (x1)), (3, .long (0)), (5, .long (0)), (7, .int (0))] [] h7 Q)))))))) ∧ (¬ p1 = 39 → (X G mX2_word (d + 1) none [] 50 [(0, .ref (gW G 1)), (1, .int (p1)), (2, .int (x1)), (3, .long (0)), (5, .long (0)), (7, .int (0))] [] h2 Q))))) : C G mX2_word (d + 1) [.ref (gW G 1), .int (p1)] h Q := by
  refine C.of_X (by decide +kernel) (Nat.le_of_ble_eq_true rfl) wX2_word ?_
  show X G mX2_word (d + 1) none [] 0 [(0, .ref (gW G 1)), (1, .int (p1))] [] h Q
  refine x_aload_n (pc' := 1) 0 (dX2_word 0 rfl rfl) rfl rfl rfl ?_
  refine x_getI (pc' := 4) (dX2_word 1 rfl rfl) g29 q339 (Or.inl rfl) rfl (hf_of 1 s1.1 rfl (by decide) m1_29) ?_
  replace hf := hf _ rfl
  refine x_istore_n (pc' := 5) (dX2_word 2 rfl rfl) rfl (by decide) rfl rfl ?_
  refine x_lconst (pc' := 6) (v := 0) (dX2_word 3 rfl rfl) (by decide) rfl ?_
  refine x_lstore_n (pc' := 7) (dX2_word 4 rfl rfl) rfl (by decide) rfl rfl ?_
  refine x_lconst (pc' := 8) (v := 0) (dX2_word 5 rfl rfl) (by decide) rfl ?_
  refine x_lstore (pc' := 10) (dX2_word 6 rfl rfl) (by decide) rfl rfl ?_
  refine x_iconst (pc' := 11) (v := 0) (dX2_word 7 rfl rfl) (by decide) rfl ?_
  refine x_istore (pc' := 13) (dX2_word 8 rfl rfl) (by decide) rfl rfl ?_
  refine x_aload_n (pc' := 14) 4 (dX2_word 9 rfl rfl) rfl rfl rfl ?_
  refine x_dup (pc' := 15) (dX2_word 10 rfl rfl) rfl rfl ?_
  refine x_getI (pc' := 18) (dX2_word 11 rfl rfl) g29 q339 (Or.inl rfl) rfl (hf_of 1 s1.1 rfl (by decide) m1_29) ?_
  refine x_iconst (pc' := 19) (v := 1) (dX2_word 12 rfl rfl) (by decide) rfl ?_
  refine x_iadd (pc' := 20) (dX2_word 13 rfl rfl) rfl ?_
  refine x_putI (pc' := 23) (dX2_word 14 rfl rfl) g29 q339 (Or.inl rfl) (Or.inl rfl) (Or.inl (by decide)) rfl (hf_of 1 s1.1 rfl (by decide) m1_29) (fun h2 e13 => ?_)
  replace hf := hf h2 e13
  replace s1 : So 1 (gW G) h2 := by rw [e13]; exact s1.le sc1 (pI_le (Or.inl rfl))
  refine x_iload_n (pc' := 24) 5 (dX2_word 15 rfl rfl) rfl rfl rfl ?_
  refine x_bipush (pc' := 26) (v := 39) (dX2_word 16 rfl rfl) (by decide) rfl ?_
  refine x_icmp_ne (pc' := 29) (tgt := 50) (dX2_word 17 rfl rfl) (by decide) rfl (fun c3 => ?_) (fun c3 => ?_)
  · replace hf := hf.2 c3
    exact X.sub [4, 5, 3, 2, 1, 0] rfl (by simp) hf
  · replace hf := hf.1 (Classical.not_not.mp c3)
    replace c3 := Classical.not_not.mp c3
    refine x_aload_n (pc' := 30) 4 (dX2_word 18 rfl rfl) rfl rfl rfl ?_
    refine x_iconst (pc' := 31) (v := 0) (dX2_word 19 rfl rfl) (by decide) rfl ?_
    refine x_inv (pc' := 34) (ν := mX2_look) (av := [_, _]) (st := []) rfl rfl (dX2_word 20 rfl rfl) (Nat.le_of_ble_eq_true rfl) wX2_look q212 (inv_V (k := 1) (dX2_word 20 rfl rfl) q1159 q1161 qs5 wX2_look (by decide) lX2_look (by decide) s1.1) (exN (by decide)) rfl ?_
    refine C.mono hf (fun _ _ => KI.g (fun x6 h4 hf le5 => ?_))
    replace s1 := s1.le sc1 (le5)
    refine x_inv (pc' := 37) (ν := mX2_small) (av := [_]) (st := []) rfl rfl (dX2_word 21 rfl rfl) (Nat.le_of_ble_eq_true rfl) wX2_small q212 (inv_S (dX2_word 21 rfl rfl) q1163 q1164 q212 wX2_small (by decide) lX2_small) (exN (by decide)) rfl ?_
    refine C.mono hf (fun _ _ => KI.g (fun x9 h7 hf le8 => ?_))
    replace s1 := s1.le sc1 (le8)
    refine x_if_ne (pc' := 40) (tgt := 50) (dX2_word 22 rfl rfl) (by decide) rfl (fun c10 => ?_) (fun c10 => ?_)
    · replace hf := hf.2 c10
      exact X.sub [4, 5, 3, 2, 1, 0] rfl (by simp) hf
    · replace hf := hf.1 (Classical.not_not.mp c10)
      replace c10 := Classical.not_not.mp c10
      refine x_aload_n (pc' := 41) 4 (dX2_word 23 rfl rfl) rfl rfl rfl ?_
      refine x_sipush (pc' := 44) (v := 292) (dX2_word 24 rfl rfl) (by decide) rfl ?_
      refine x_iload_n (pc' := 45) 3 (dX2_word 25 rfl rfl) rfl rfl rfl ?_
      refine x_inv (pc' := 48) (ν := mX2_add) (av := [_, _, _]) (st := []) rfl rfl (dX2_word 26 rfl rfl) (Nat.le_of_ble_eq_true rfl) wX2_add q212 (inv_V (k := 1) (dX2_word 26 rfl rfl) q1173 q1175 qs7 wX2_add (by decide) lX2_add (by decide) s1.1) (exN (by decide)) rfl ?_
      refine C.mono hf (fun _ _ => KV.g (fun h11 hf le12 => ?_))
      replace s1 := s1.le sc1 (le12)
      refine x_iconst (pc' := 49) (v := 0) (dX2_word 27 rfl rfl) (by decide) rfl ?_
      exact x_zret (ty := .boolean) (dX2_word 28 rfl rfl) rfl (by decide) hf
theorem bX2_word_50 (G : Gh) (d : Nat) (h : AH) (Q : Outcome → AH → Prop) (l1 : Int32) (l2 : Int32) (l3 : Int64) (l5 : Int64) (l7 : Int32) (s1 : So 1 (gW G) h) (hf : C G mX2_look d [.ref (gW G 1), .int (0)] h (KI Q (fun x3 h1 => C G mX2_small d [.int (x3)] h1 (KI Q (fun x6 h4 => (x6 = 0 → ((l1 = 39 → (X G mX2_word (d + 1) none [] 115 [(0, .ref (gW G 1)), (1, .int (l1)), (2, .int (l2)), (3, .long (l3)), (5, .long (l5)), (7, .int (l7)), (8, .int (l2))] [] h4 Q)) ∧ (¬ l1 = 39 → (C G mX2_look d [.ref (gW G 1), .int (0)] h4 (KI Q (fun x13 h11 => C G mX2_great d [.int (x13)] h11 (KI Q (fun x16 h14 => (x16 = 0 → (C G mX2_look d [.ref (gW G 1), .int (0)] h14 (KI Q (fun x22 h20 => C G mX2_digit d [.int (x22)] h20 (KI Q (fun x25 h23 => (x25 = 0 → (C G mX2_look d [.ref (gW G 1), .int (0)] h23 (KI Q (fun x31 h29 => (x31 = 95 → (∀ h33, h33 = pI h29 (gW G 1) 29 ((fI h29 (gW G 1) 29) + 1) → (X G mX2_word (d + 1) none [] 50 [(0, .ref (gW G 1)), (1, .int (l1)), (2, .int (l2)), (3, .long (l3)), (5, .long (l5)), (7, .int (l7))] [] h33 Q))) ∧ (¬ x31 = 95 → (X G mX2_word (d + 1) none [] 115 [(0, .ref (gW G 1)), (1, .int (l1)), (2, .int (l2)), (3, .long (l3)), (5, .long (l5)), (7, .int (l7)), (8, .int (l2))] [] h29 Q)))))) ∧ (¬ x25 = 0 → (∀ h27, h27 = pI h23 (gW G 1) 29 ((fI h23 (gW G 1) 29) + 1) → (X G mX2_word (d + 1) none [] 50 [(0, .ref (gW G 1)), (1, .int (l1)), (2, .int (l2)), (3, .long (l3)), (5, .long (l5)), (7, .int (l7))] [] h27 Q))))))))) ∧ (¬ x16 = 0 → (∀ h18, h18 = pI h14 (gW G 1) 29 ((fI h14 (gW G 1) 29) + 1) → (X G mX2_word (d + 1) none [] 50 [(0, .ref (gW G 1)), (1, .int (l1)), (2, .int (l2)), (3, .long (l3)), (5, .long (l5)), (7, .int (l7))] [] h18 Q))))))))))) ∧ (¬ x6 = 0 → (∀ h8, h8 = pI h4 (gW G 1) 29 ((fI h4 (gW G 1) 29) + 1) → (X G mX2_word (d + 1) none [] 50 [(0, .ref (gW G 1)), (1, .int (l1)), (2, .int (l2)), (3, .long (l3)), (5, .long (l5)), (7, .int (l7))] [] h8 Q)))))))) : X G mX2_word (d + 1) none [] 50 [(0, .ref (gW G 1)), (1, .int (l1)), (2, .int (l2)), (3, .long (l3)), (5, .long (l5)), (7, .int (l7))] [] h Q := by
  refine x_aload_n (pc' := 51) 0 (dX2_word 29 rfl rfl) rfl rfl rfl ?_
  refine x_iconst (pc' := 52) (v := 0) (dX2_word 30 rfl rfl) (by decide) rfl ?_
  refine x_inv (pc' := 55) (ν := mX2_look) (av := [_, _]) (st := []) rfl rfl (dX2_word 31 rfl rfl) (Nat.le_of_ble_eq_true rfl) wX2_look q212 (inv_V (k := 1) (dX2_word 31 rfl rfl) q1159 q1161 qs5 wX2_look (by decide) lX2_look (by decide) s1.1) (exN (by decide)) rfl ?_
  refine C.mono hf (fun _ _ => KI.g (fun x3 h1 hf le2 => ?_))
  replace s1 := s1.le sc1 (le2)
  refine x_inv (pc' := 58) (ν := mX2_small) (av := [_]) (st := []) rfl rfl (dX2_word 32 rfl rfl) (Nat.le_of_ble_eq_true rfl) wX2_small q212 (inv_S (dX2_word 32 rfl rfl) q1163 q1164 q212 wX2_small (by decide) lX2_small) (exN (by decide)) rfl ?_
  refine C.mono hf (fun _ _ => KI.g (fun x6 h4 hf le5 => ?_))
  replace s1 := s1.le sc1 (le5)
  refine x_if_ne (pc' := 61) (tgt := 99) (dX2_word 33 rfl rfl) (by decide) rfl (fun c7 => ?_) (fun c7 => ?_)
  · replace hf := hf.2 c7
    refine x_aload_n (pc' := 100) 0 (dX2_word 52 rfl rfl) rfl rfl rfl ?_
    refine x_dup (pc' := 101) (dX2_word 53 rfl rfl) rfl rfl ?_
    refine x_getI (pc' := 104) (dX2_word 54 rfl rfl) g29 q339 (Or.inl rfl) rfl (hf_of 1 s1.1 rfl (by decide) m1_29) ?_
    refine x_iconst (pc' := 105) (v := 1) (dX2_word 55 rfl rfl) (by decide) rfl ?_
    refine x_iadd (pc' := 106) (dX2_word 56 rfl rfl) rfl ?_
    refine x_putI (pc' := 109) (dX2_word 57 rfl rfl) g29 q339 (Or.inl rfl) (Or.inl rfl) (Or.inl (by decide)) rfl (hf_of 1 s1.1 rfl (by decide) m1_29) (fun h8 e9 => ?_)
    replace hf := hf h8 e9
    replace s1 : So 1 (gW G) h8 := by rw [e9]; exact s1.le sc1 (pI_le (Or.inl rfl))
    refine x_goto (tgt := 50) (dX2_word 58 rfl rfl) (by decide) ?_
    exact X.sub [0, 1, 2, 3, 4, 5] rfl (by simp) hf
  · replace hf := hf.1 (Classical.not_not.mp c7)
    replace c7 := Classical.not_not.mp c7
    refine x_iload_n (pc' := 62) 1 (dX2_word 34 rfl rfl) rfl rfl rfl ?_
    refine x_bipush (pc' := 64) (v := 39) (dX2_word 35 rfl rfl) (by decide) rfl ?_
    refine x_icmp_eq (pc' := 67) (tgt := 112) (dX2_word 36 rfl rfl) (by decide) rfl (fun c10 => ?_) (fun c10 => ?_)
    · replace hf := hf.1 c10
      refine x_iload_n (pc' := 113) 2 (dX2_word 59 rfl rfl) rfl rfl rfl ?_
      refine x_istore (pc' := 115) (dX2_word 60 rfl rfl) (by decide) rfl rfl ?_
      exact X.sub [1, 2, 3, 4, 5, 6, 0] rfl (by simp) hf
    · replace hf := hf.2 c10
      refine x_aload_n (pc' := 68) 0 (dX2_word 37 rfl rfl) rfl rfl rfl ?_
      refine x_iconst (pc' := 69) (v := 0) (dX2_word 38 rfl rfl) (by decide) rfl ?_
      refine x_inv (pc' := 72) (ν := mX2_look) (av := [_, _]) (st := []) rfl rfl (dX2_word 39 rfl rfl) (Nat.le_of_ble_eq_true rfl) wX2_look q212 (inv_V (k := 1) (dX2_word 39 rfl rfl) q1159 q1161 qs5 wX2_look (by decide) lX2_look (by decide) s1.1) (exN (by decide)) rfl ?_
      refine C.mono hf (fun _ _ => KI.g (fun x13 h11 hf le12 => ?_))
      replace s1 := s1.le sc1 (le12)
      refine x_inv (pc' := 75) (ν := mX2_great) (av := [_]) (st := []) rfl rfl (dX2_word 40 rfl rfl) (Nat.le_of_ble_eq_true rfl) wX2_great q212 (inv_S (dX2_word 40 rfl rfl) q1166 q1167 q212 wX2_great (by decide) lX2_great) (exN (by decide)) rfl ?_
      refine C.mono hf (fun _ _ => KI.g (fun x16 h14 hf le15 => ?_))
      replace s1 := s1.le sc1 (le15)
      refine x_if_ne (pc' := 78) (tgt := 99) (dX2_word 41 rfl rfl) (by decide) rfl (fun c17 => ?_) (fun c17 => ?_)
      · replace hf := hf.2 c17
        refine x_aload_n (pc' := 100) 0 (dX2_word 52 rfl rfl) rfl rfl rfl ?_
        refine x_dup (pc' := 101) (dX2_word 53 rfl rfl) rfl rfl ?_
        refine x_getI (pc' := 104) (dX2_word 54 rfl rfl) g29 q339 (Or.inl rfl) rfl (hf_of 1 s1.1 rfl (by decide) m1_29) ?_
        refine x_iconst (pc' := 105) (v := 1) (dX2_word 55 rfl rfl) (by decide) rfl ?_
        refine x_iadd (pc' := 106) (dX2_word 56 rfl rfl) rfl ?_
        refine x_putI (pc' := 109) (dX2_word 57 rfl rfl) g29 q339 (Or.inl rfl) (Or.inl rfl) (Or.inl (by decide)) rfl (hf_of 1 s1.1 rfl (by decide) m1_29) (fun h18 e19 => ?_)
        replace hf := hf h18 e19
        replace s1 : So 1 (gW G) h18 := by rw [e19]; exact s1.le sc1 (pI_le (Or.inl rfl))
        refine x_goto (tgt := 50) (dX2_word 58 rfl rfl) (by decide) ?_
        exact X.sub [0, 1, 2, 3, 4, 5] rfl (by simp) hf
      · replace hf := hf.1 (Classical.not_not.mp c17)
        replace c17 := Classical.not_not.mp c17
        refine x_aload_n (pc' := 79) 0 (dX2_word 42 rfl rfl) rfl rfl rfl ?_
        refine x_iconst (pc' := 80) (v := 0) (dX2_word 43 rfl rfl) (by decide) rfl ?_
        refine x_inv (pc' := 83) (ν := mX2_look) (av := [_, _]) (st := []) rfl rfl (dX2_word 44 rfl rfl) (Nat.le_of_ble_eq_true rfl) wX2_look q212 (inv_V (k := 1) (dX2_word 44 rfl rfl) q1159 q1161 qs5 wX2_look (by decide) lX2_look (by decide) s1.1) (exN (by decide)) rfl ?_
        refine C.mono hf (fun _ _ => KI.g (fun x22 h20 hf le21 => ?_))
        replace s1 := s1.le sc1 (le21)
        refine x_inv (pc' := 86) (ν := mX2_digit) (av := [_]) (st := []) rfl rfl (dX2_word 45 rfl rfl) (Nat.le_of_ble_eq_true rfl) wX2_digit q212 (inv_S (dX2_word 45 rfl rfl) q1177 q1178 q212 wX2_digit (by decide) lX2_digit) (exN (by decide)) rfl ?_
        refine C.mono hf (fun _ _ => KI.g (fun x25 h23 hf le24 => ?_))
        replace s1 := s1.le sc1 (le24)
        refine x_if_ne (pc' := 89) (tgt := 99) (dX2_word 46 rfl rfl) (by decide) rfl (fun c26 => ?_) (fun c26 => ?_)
        · replace hf := hf.2 c26
          refine x_aload_n (pc' := 100) 0 (dX2_word 52 rfl rfl) rfl rfl rfl ?_
          refine x_dup (pc' := 101) (dX2_word 53 rfl rfl) rfl rfl ?_
          refine x_getI (pc' := 104) (dX2_word 54 rfl rfl) g29 q339 (Or.inl rfl) rfl (hf_of 1 s1.1 rfl (by decide) m1_29) ?_
          refine x_iconst (pc' := 105) (v := 1) (dX2_word 55 rfl rfl) (by decide) rfl ?_
          refine x_iadd (pc' := 106) (dX2_word 56 rfl rfl) rfl ?_
          refine x_putI (pc' := 109) (dX2_word 57 rfl rfl) g29 q339 (Or.inl rfl) (Or.inl rfl) (Or.inl (by decide)) rfl (hf_of 1 s1.1 rfl (by decide) m1_29) (fun h27 e28 => ?_)
          replace hf := hf h27 e28
          replace s1 : So 1 (gW G) h27 := by rw [e28]; exact s1.le sc1 (pI_le (Or.inl rfl))
          refine x_goto (tgt := 50) (dX2_word 58 rfl rfl) (by decide) ?_
          exact X.sub [0, 1, 2, 3, 4, 5] rfl (by simp) hf
        · replace hf := hf.1 (Classical.not_not.mp c26)
          replace c26 := Classical.not_not.mp c26
          refine x_aload_n (pc' := 90) 0 (dX2_word 47 rfl rfl) rfl rfl rfl ?_
          refine x_iconst (pc' := 91) (v := 0) (dX2_word 48 rfl rfl) (by decide) rfl ?_
          refine x_inv (pc' := 94) (ν := mX2_look) (av := [_, _]) (st := []) rfl rfl (dX2_word 49 rfl rfl) (Nat.le_of_ble_eq_true rfl) wX2_look q212 (inv_V (k := 1) (dX2_word 49 rfl rfl) q1159 q1161 qs5 wX2_look (by decide) lX2_look (by decide) s1.1) (exN (by decide)) rfl ?_
          refine C.mono hf (fun _ _ => KI.g (fun x31 h29 hf le30 => ?_))
          replace s1 := s1.le sc1 (le30)
          refine x_bipush (pc' := 96) (v := 95) (dX2_word 50 rfl rfl) (by decide) rfl ?_
          refine x_icmp_ne (pc' := 99) (tgt := 112) (dX2_word 51 rfl rfl) (by decide) rfl (fun c32 => ?_) (fun c32 => ?_)
          · replace hf := hf.2 c32
            refine x_iload_n (pc' := 113) 2 (dX2_word 59 rfl rfl) rfl rfl rfl ?_
            refine x_istore (pc' := 115) (dX2_word 60 rfl rfl) (by decide) rfl rfl ?_
            exact X.sub [1, 2, 3, 4, 5, 6, 0] rfl (by simp) hf
          · replace hf := hf.1 (Classical.not_not.mp c32)
            replace c32 := Classical.not_not.mp c32
            refine x_aload_n (pc' := 100) 0 (dX2_word 52 rfl rfl) rfl rfl rfl ?_
            refine x_dup (pc' := 101) (dX2_word 53 rfl rfl) rfl rfl ?_
            refine x_getI (pc' := 104) (dX2_word 54 rfl rfl) g29 q339 (Or.inl rfl) rfl (hf_of 1 s1.1 rfl (by decide) m1_29) ?_
            refine x_iconst (pc' := 105) (v := 1) (dX2_word 55 rfl rfl) (by decide) rfl ?_
            refine x_iadd (pc' := 106) (dX2_word 56 rfl rfl) rfl ?_
            refine x_putI (pc' := 109) (dX2_word 57 rfl rfl) g29 q339 (Or.inl rfl) (Or.inl rfl) (Or.inl (by decide)) rfl (hf_of 1 s1.1 rfl (by decide) m1_29) (fun h33 e34 => ?_)
            replace hf := hf h33 e34
            replace s1 : So 1 (gW G) h33 := by rw [e34]; exact s1.le sc1 (pI_le (Or.inl rfl))
            refine x_goto (tgt := 50) (dX2_word 58 rfl rfl) (by decide) ?_
            exact X.sub [0, 1, 2, 3, 4, 5] rfl (by simp) hf
theorem bX2_word_115 (G : Gh) (d : Nat) (h : AH) (Q : Outcome → AH → Prop) (l1 : Int32) (l2 : Int32) (l3 : Int64) (l5 : Int64) (l7 : Int32) (l8 : Int32) (s1 : So 1 (gW G) h) (hf : ((fI h (gW G 1) 29) ≤ l8 → (vp_in (fI h (gW G 1) 28) 4098 ∧ ∀ h3, h3 = sJ h (gW G 1026) (fI h (gW G 1) 28).toNatClampNeg l3 → (vp_in (fI h3 (gW G 1) 28) 4098 ∧ ∀ h6, h6 = sJ h3 (gW G 1027) (fI h3 (gW G 1) 28).toNatClampNeg l5 → ((l7 ≤ 12 → ((l1 = 39 → (C G mX2_add d [.ref (gW G 1), .int (282), .int (l2)] h6 (KV Q (fun h23 => (12 < l7 → (Q (.returned (some (.int 0))) h23)) ∧ (¬ (12 < l7) → (Q (.returned (some (.int 1))) h23)))))) ∧ (¬ l1 = 39 → (C G mX2_great d [.int (l1)] h6 (KI Q (fun x12 h10 => (x12 = 0 → (C G mX2_kindOf d [.ref (gW G 1), .int (l2), .int (l7)] h10 (KI Q (fun x16 h14 => C G mX2_add d [.ref (gW G 1), .int (x16), .int (l2)] h14 (KV Q (fun h17 => (12 < l7 → (Q (.returned (some (.int 0))) h17)) ∧ (¬ (12 < l7) → (Q (.returned (some (.int 1))) h17)))))))) ∧ (¬ x12 = 0 → (C G mX2_add d [.ref (gW G 1), .int (281), .int (l2)] h10 (KV Q (fun h20 => (12 < l7 → (Q (.returned (some (.int 0))) h20)) ∧ (¬ (12 < l7) → (Q (.returned (some (.int 1))) h20)))))))))))) ∧ (¬ (l7 ≤ 12) → (C G mX2_add d [.ref (gW G 1), .int (292), .int (l2)] h6 (KV Q (fun h26 => (12 < l7 → (Q (.returned (some (.int 0))) h26)) ∧ (¬ (12 < l7) → (Q (.returned (some (.int 1))) h26)))))))))) ∧ (¬ ((fI h (gW G 1) 29) ≤ l8) → ((8 ≤ l7 → (vp_in l8 4096 ∧ (∀ y31 : Int64, y31 = (l5 <<< ((8 : Int32).toInt64 &&& 63)) ||| ((aI h (gW G 1022) l8.toNatClampNeg : Int32).toInt64) → (∀ x32 : Int32, x32 = l7 + 1 → (∀ x33 : Int32, x33 = l8 + 1 → (X G mX2_word (d + 1) none [] 115 [(0, .ref (gW G 1)), (1, .int (l1)), (2, .int (l2)), (3, .long (l3)), (5, .long (y31)), (7, .int (x32)), (8, .int (x33))] [] h Q)))))) ∧ (¬ (8 ≤ l7) → (vp_in l8 4096 ∧ (∀ y35 : Int64, y35 = (l3 <<< ((8 : Int32).toInt64 &&& 63)) ||| ((aI h (gW G 1022) l8.toNatClampNeg : Int32).toInt64) → (∀ x36 : Int32, x36 = l7 + 1 → (∀ x37 : Int32, x37 = l8 + 1 → (X G mX2_word (d + 1) none [] 115 [(0, .ref (gW G 1)), (1, .int (l1)), (2, .int (l2)), (3, .long (y35)), (5, .long (l5)), (7, .int (x36)), (8, .int (x37))] [] h Q))))))))) : X G mX2_word (d + 1) none [] 115 [(0, .ref (gW G 1)), (1, .int (l1)), (2, .int (l2)), (3, .long (l3)), (5, .long (l5)), (7, .int (l7)), (8, .int (l8))] [] h Q := by
  refine x_iload (pc' := 117) 6 (dX2_word 61 rfl rfl) rfl rfl ?_
  refine x_aload_n (pc' := 118) 0 (dX2_word 62 rfl rfl) rfl rfl rfl ?_
  refine x_getI (pc' := 121) (dX2_word 63 rfl rfl) g29 q339 (Or.inl rfl) rfl (hf_of 1 s1.1 rfl (by decide) m1_29) ?_
  refine x_icmp_ge (pc' := 124) (tgt := 173) (dX2_word 64 rfl rfl) (by decide) rfl (fun c1 => ?_) (fun c1 => ?_)
  · replace hf := hf.1 c1
    refine x_aload_n (pc' := 174) 0 (dX2_word 92 rfl rfl) rfl rfl rfl ?_
    refine x_getR (pc' := 177) (dX2_word 93 rfl rfl) g26 q332 (Or.inl rfl) rfl (hf_of 1 s1.1 rfl (by decide) m1_26) (s1.2 4 _ rfl rfl).1 ?_
    refine x_aload_n (pc' := 178) 0 (dX2_word 94 rfl rfl) rfl rfl rfl ?_
    refine x_getI (pc' := 181) (dX2_word 95 rfl rfl) g28 q337 (Or.inl rfl) rfl (hf_of 1 s1.1 rfl (by decide) m1_28) ?_
    refine x_lload_n (pc' := 182) 3 (dX2_word 96 rfl rfl) rfl rfl rfl ?_
    obtain ⟨i2, hf⟩ := hf
    refine x_last (pc' := 183) (dX2_word 97 rfl rfl) rfl (s1.2 4 _ rfl rfl).2.1 (Or.inl ⟨26, by decide, rfl, by decide⟩) (by rw [(s1.2 4 _ rfl rfl).2.2.2 (by decide)]; exact i2) (fun h3 e4 => ?_)
    replace hf := hf h3 e4
    replace s1 : So 1 (gW G) h3 := by rw [e4]; exact s1.le sc1 (sJ_le )
    refine x_aload_n (pc' := 184) 0 (dX2_word 98 rfl rfl) rfl rfl rfl ?_
    refine x_getR (pc' := 187) (dX2_word 99 rfl rfl) g27 q335 (Or.inl rfl) rfl (hf_of 1 s1.1 rfl (by decide) m1_27) (s1.2 5 _ rfl rfl).1 ?_
    refine x_aload_n (pc' := 188) 0 (dX2_word 100 rfl rfl) rfl rfl rfl ?_
    refine x_getI (pc' := 191) (dX2_word 101 rfl rfl) g28 q337 (Or.inl rfl) rfl (hf_of 1 s1.1 rfl (by decide) m1_28) ?_
    refine x_lload (pc' := 193) 4 (dX2_word 102 rfl rfl) rfl rfl ?_
    obtain ⟨i5, hf⟩ := hf
    refine x_last (pc' := 194) (dX2_word 103 rfl rfl) rfl (s1.2 5 _ rfl rfl).2.1 (Or.inl ⟨27, by decide, rfl, by decide⟩) (by rw [(s1.2 5 _ rfl rfl).2.2.2 (by decide)]; exact i5) (fun h6 e7 => ?_)
    replace hf := hf h6 e7
    replace s1 : So 1 (gW G) h6 := by rw [e7]; exact s1.le sc1 (sJ_le )
    refine x_aload_n (pc' := 195) 0 (dX2_word 104 rfl rfl) rfl rfl rfl ?_
    refine x_iload (pc' := 197) 5 (dX2_word 105 rfl rfl) rfl rfl ?_
    refine x_bipush (pc' := 199) (v := 12) (dX2_word 106 rfl rfl) (by decide) rfl ?_
    refine x_icmp_le (pc' := 202) (tgt := 208) (dX2_word 107 rfl rfl) (by decide) rfl (fun c8 => ?_) (fun c8 => ?_)
    · replace hf := hf.1 c8
      refine x_iload_n (pc' := 209) 1 (dX2_word 110 rfl rfl) rfl rfl rfl ?_
      refine x_bipush (pc' := 211) (v := 39) (dX2_word 111 rfl rfl) (by decide) rfl ?_
      refine x_icmp_ne (pc' := 214) (tgt := 220) (dX2_word 112 rfl rfl) (by decide) rfl (fun c9 => ?_) (fun c9 => ?_)
      · replace hf := hf.2 c9
        refine x_iload_n (pc' := 221) 1 (dX2_word 115 rfl rfl) rfl rfl rfl ?_
        refine x_inv (pc' := 224) (ν := mX2_great) (av := [_]) (st := [_]) rfl rfl (dX2_word 116 rfl rfl) (Nat.le_of_ble_eq_true rfl) wX2_great q212 (inv_S (dX2_word 116 rfl rfl) q1166 q1167 q212 wX2_great (by decide) lX2_great) (exN (by decide)) rfl ?_
        refine C.mono hf (fun _ _ => KI.g (fun x12 h10 hf le11 => ?_))
        replace s1 := s1.le sc1 (le11)
        refine x_if_eq (pc' := 227) (tgt := 233) (dX2_word 117 rfl rfl) (by decide) rfl (fun c13 => ?_) (fun c13 => ?_)
        · replace hf := hf.1 c13
          refine x_aload_n (pc' := 234) 0 (dX2_word 120 rfl rfl) rfl rfl rfl ?_
          refine x_iload_n (pc' := 235) 2 (dX2_word 121 rfl rfl) rfl rfl rfl ?_
          refine x_iload (pc' := 237) 5 (dX2_word 122 rfl rfl) rfl rfl ?_
          refine x_inv (pc' := 240) (ν := mX2_kindOf) (av := [_, _, _]) (st := [_]) rfl rfl (dX2_word 123 rfl rfl) (Nat.le_of_ble_eq_true rfl) wX2_kindOf q212 (inv_V (k := 1) (dX2_word 123 rfl rfl) q1180 q1182 qs8 wX2_kindOf (by decide) lX2_kindOf (by decide) s1.1) (exN (by decide)) rfl ?_
          refine C.mono hf (fun _ _ => KI.g (fun x16 h14 hf le15 => ?_))
          replace s1 := s1.le sc1 (le15)
          refine x_iload_n (pc' := 241) 2 (dX2_word 124 rfl rfl) rfl rfl rfl ?_
          refine x_inv (pc' := 244) (ν := mX2_add) (av := [_, _, _]) (st := []) rfl rfl (dX2_word 125 rfl rfl) (Nat.le_of_ble_eq_true rfl) wX2_add q212 (inv_V (k := 1) (dX2_word 125 rfl rfl) q1173 q1175 qs7 wX2_add (by decide) lX2_add (by decide) s1.1) (exN (by decide)) rfl ?_
          refine C.mono hf (fun _ _ => KV.g (fun h17 hf le18 => ?_))
          replace s1 := s1.le sc1 (le18)
          refine x_iload (pc' := 246) 5 (dX2_word 126 rfl rfl) rfl rfl ?_
          refine x_bipush (pc' := 248) (v := 12) (dX2_word 127 rfl rfl) (by decide) rfl ?_
          refine x_icmp_gt (pc' := 251) (tgt := 255) (dX2_word 128 rfl rfl) (by decide) rfl (fun c19 => ?_) (fun c19 => ?_)
          · replace hf := hf.1 c19
            refine x_iconst (pc' := 256) (v := 0) (dX2_word 131 rfl rfl) (by decide) rfl ?_
            exact x_zret (ty := .boolean) (dX2_word 132 rfl rfl) rfl (by decide) hf
          · replace hf := hf.2 c19
            refine x_iconst (pc' := 252) (v := 1) (dX2_word 129 rfl rfl) (by decide) rfl ?_
            refine x_goto (tgt := 256) (dX2_word 130 rfl rfl) (by decide) ?_
            exact x_zret (ty := .boolean) (dX2_word 132 rfl rfl) rfl (by decide) hf
        · replace hf := hf.2 c13
          refine x_sipush (pc' := 230) (v := 281) (dX2_word 118 rfl rfl) (by decide) rfl ?_
          refine x_goto (tgt := 240) (dX2_word 119 rfl rfl) (by decide) ?_
          refine x_iload_n (pc' := 241) 2 (dX2_word 124 rfl rfl) rfl rfl rfl ?_
          refine x_inv (pc' := 244) (ν := mX2_add) (av := [_, _, _]) (st := []) rfl rfl (dX2_word 125 rfl rfl) (Nat.le_of_ble_eq_true rfl) wX2_add q212 (inv_V (k := 1) (dX2_word 125 rfl rfl) q1173 q1175 qs7 wX2_add (by decide) lX2_add (by decide) s1.1) (exN (by decide)) rfl ?_
          refine C.mono hf (fun _ _ => KV.g (fun h20 hf le21 => ?_))
          replace s1 := s1.le sc1 (le21)
          refine x_iload (pc' := 246) 5 (dX2_word 126 rfl rfl) rfl rfl ?_
          refine x_bipush (pc' := 248) (v := 12) (dX2_word 127 rfl rfl) (by decide) rfl ?_
          refine x_icmp_gt (pc' := 251) (tgt := 255) (dX2_word 128 rfl rfl) (by decide) rfl (fun c22 => ?_) (fun c22 => ?_)
          · replace hf := hf.1 c22
            refine x_iconst (pc' := 256) (v := 0) (dX2_word 131 rfl rfl) (by decide) rfl ?_
            exact x_zret (ty := .boolean) (dX2_word 132 rfl rfl) rfl (by decide) hf
          · replace hf := hf.2 c22
            refine x_iconst (pc' := 252) (v := 1) (dX2_word 129 rfl rfl) (by decide) rfl ?_
            refine x_goto (tgt := 256) (dX2_word 130 rfl rfl) (by decide) ?_
            exact x_zret (ty := .boolean) (dX2_word 132 rfl rfl) rfl (by decide) hf
      · replace hf := hf.1 (Classical.not_not.mp c9)
        replace c9 := Classical.not_not.mp c9
        refine x_sipush (pc' := 217) (v := 282) (dX2_word 113 rfl rfl) (by decide) rfl ?_
        refine x_goto (tgt := 240) (dX2_word 114 rfl rfl) (by decide) ?_
        refine x_iload_n (pc' := 241) 2 (dX2_word 124 rfl rfl) rfl rfl rfl ?_
        refine x_inv (pc' := 244) (ν := mX2_add) (av := [_, _, _]) (st := []) rfl rfl (dX2_word 125 rfl rfl) (Nat.le_of_ble_eq_true rfl) wX2_add q212 (inv_V (k := 1) (dX2_word 125 rfl rfl) q1173 q1175 qs7 wX2_add (by decide) lX2_add (by decide) s1.1) (exN (by decide)) rfl ?_
        refine C.mono hf (fun _ _ => KV.g (fun h23 hf le24 => ?_))
        replace s1 := s1.le sc1 (le24)
        refine x_iload (pc' := 246) 5 (dX2_word 126 rfl rfl) rfl rfl ?_
        refine x_bipush (pc' := 248) (v := 12) (dX2_word 127 rfl rfl) (by decide) rfl ?_
        refine x_icmp_gt (pc' := 251) (tgt := 255) (dX2_word 128 rfl rfl) (by decide) rfl (fun c25 => ?_) (fun c25 => ?_)
        · replace hf := hf.1 c25
          refine x_iconst (pc' := 256) (v := 0) (dX2_word 131 rfl rfl) (by decide) rfl ?_
          exact x_zret (ty := .boolean) (dX2_word 132 rfl rfl) rfl (by decide) hf
        · replace hf := hf.2 c25
          refine x_iconst (pc' := 252) (v := 1) (dX2_word 129 rfl rfl) (by decide) rfl ?_
          refine x_goto (tgt := 256) (dX2_word 130 rfl rfl) (by decide) ?_
          exact x_zret (ty := .boolean) (dX2_word 132 rfl rfl) rfl (by decide) hf
    · replace hf := hf.2 c8
      refine x_sipush (pc' := 205) (v := 292) (dX2_word 108 rfl rfl) (by decide) rfl ?_
      refine x_goto (tgt := 240) (dX2_word 109 rfl rfl) (by decide) ?_
      refine x_iload_n (pc' := 241) 2 (dX2_word 124 rfl rfl) rfl rfl rfl ?_
      refine x_inv (pc' := 244) (ν := mX2_add) (av := [_, _, _]) (st := []) rfl rfl (dX2_word 125 rfl rfl) (Nat.le_of_ble_eq_true rfl) wX2_add q212 (inv_V (k := 1) (dX2_word 125 rfl rfl) q1173 q1175 qs7 wX2_add (by decide) lX2_add (by decide) s1.1) (exN (by decide)) rfl ?_
      refine C.mono hf (fun _ _ => KV.g (fun h26 hf le27 => ?_))
      replace s1 := s1.le sc1 (le27)
      refine x_iload (pc' := 246) 5 (dX2_word 126 rfl rfl) rfl rfl ?_
      refine x_bipush (pc' := 248) (v := 12) (dX2_word 127 rfl rfl) (by decide) rfl ?_
      refine x_icmp_gt (pc' := 251) (tgt := 255) (dX2_word 128 rfl rfl) (by decide) rfl (fun c28 => ?_) (fun c28 => ?_)
      · replace hf := hf.1 c28
        refine x_iconst (pc' := 256) (v := 0) (dX2_word 131 rfl rfl) (by decide) rfl ?_
        exact x_zret (ty := .boolean) (dX2_word 132 rfl rfl) rfl (by decide) hf
      · replace hf := hf.2 c28
        refine x_iconst (pc' := 252) (v := 1) (dX2_word 129 rfl rfl) (by decide) rfl ?_
        refine x_goto (tgt := 256) (dX2_word 130 rfl rfl) (by decide) ?_
        exact x_zret (ty := .boolean) (dX2_word 132 rfl rfl) rfl (by decide) hf
  · replace hf := hf.2 c1
    refine x_iload (pc' := 126) 5 (dX2_word 65 rfl rfl) rfl rfl ?_
    refine x_bipush (pc' := 128) (v := 8) (dX2_word 66 rfl rfl) (by decide) rfl ?_
    refine x_icmp_ge (pc' := 131) (tgt := 148) (dX2_word 67 rfl rfl) (by decide) rfl (fun c29 => ?_) (fun c29 => ?_)
    · replace hf := hf.1 c29
      refine x_lload (pc' := 150) 4 (dX2_word 79 rfl rfl) rfl rfl ?_
      refine x_bipush (pc' := 152) (v := 8) (dX2_word 80 rfl rfl) (by decide) rfl ?_
      refine x_lshl (pc' := 153) (dX2_word 81 rfl rfl) rfl ?_
      refine x_aload_n (pc' := 154) 0 (dX2_word 82 rfl rfl) rfl rfl rfl ?_
      refine x_getR (pc' := 157) (dX2_word 83 rfl rfl) g22 q318 (Or.inl rfl) rfl (hf_of 1 s1.1 rfl (by decide) m1_22) (s1.2 1 _ rfl rfl).1 ?_
      refine x_iload (pc' := 159) 6 (dX2_word 84 rfl rfl) rfl rfl ?_
      obtain ⟨i30, hf⟩ := hf
      refine x_bald (pc' := 160) (dX2_word 85 rfl rfl) rfl (s1.2 1 _ rfl rfl).2.1 (by rw [(s1.2 1 _ rfl rfl).2.2.2 (by decide)]; exact i30) ?_
      refine x_i2l (pc' := 161) (dX2_word 86 rfl rfl) rfl ?_
      refine x_lor (pc' := 162) (dX2_word 87 rfl rfl) rfl ?_
      replace hf := hf _ rfl
      refine x_lstore (pc' := 164) (dX2_word 88 rfl rfl) (by decide) rfl rfl ?_
      replace hf := hf _ rfl
      refine x_iinc (pc' := 167) 5 (dX2_word 89 rfl rfl) rfl (by rfl) (by decide) rfl rfl ?_
      replace hf := hf _ rfl
      refine x_iinc (pc' := 170) 6 (dX2_word 90 rfl rfl) rfl (by rfl) (by decide) rfl rfl ?_
      refine x_goto (tgt := 115) (dX2_word 91 rfl rfl) (by decide) ?_
      exact X.sub [3, 4, 5, 6, 2, 1, 0] rfl (by simp) hf
    · replace hf := hf.2 c29
      refine x_lload_n (pc' := 132) 3 (dX2_word 68 rfl rfl) rfl rfl rfl ?_
      refine x_bipush (pc' := 134) (v := 8) (dX2_word 69 rfl rfl) (by decide) rfl ?_
      refine x_lshl (pc' := 135) (dX2_word 70 rfl rfl) rfl ?_
      refine x_aload_n (pc' := 136) 0 (dX2_word 71 rfl rfl) rfl rfl rfl ?_
      refine x_getR (pc' := 139) (dX2_word 72 rfl rfl) g22 q318 (Or.inl rfl) rfl (hf_of 1 s1.1 rfl (by decide) m1_22) (s1.2 1 _ rfl rfl).1 ?_
      refine x_iload (pc' := 141) 6 (dX2_word 73 rfl rfl) rfl rfl ?_
      obtain ⟨i34, hf⟩ := hf
      refine x_bald (pc' := 142) (dX2_word 74 rfl rfl) rfl (s1.2 1 _ rfl rfl).2.1 (by rw [(s1.2 1 _ rfl rfl).2.2.2 (by decide)]; exact i34) ?_
      refine x_i2l (pc' := 143) (dX2_word 75 rfl rfl) rfl ?_
      refine x_lor (pc' := 144) (dX2_word 76 rfl rfl) rfl ?_
      replace hf := hf _ rfl
      refine x_lstore_n (pc' := 145) (dX2_word 77 rfl rfl) rfl (by decide) rfl rfl ?_
      refine x_goto (tgt := 164) (dX2_word 78 rfl rfl) (by decide) ?_
      replace hf := hf _ rfl
      refine x_iinc (pc' := 167) 5 (dX2_word 89 rfl rfl) rfl (by rfl) (by decide) rfl rfl ?_
      replace hf := hf _ rfl
      refine x_iinc (pc' := 170) 6 (dX2_word 90 rfl rfl) rfl (by rfl) (by decide) rfl rfl ?_
      refine x_goto (tgt := 115) (dX2_word 91 rfl rfl) (by decide) ?_
      exact X.sub [3, 4, 5, 2, 6, 1, 0] rfl (by simp) hf
theorem bX2_add (G : Gh) (d : Nat) (h : AH) (Q : Outcome → AH → Prop) (p1 : Int32) (p2 : Int32) (s1 : So 1 (gW G) h) (hf : vp_in (fI h (gW G 1) 28) 4098 ∧ ∀ h2, h2 = sI h (gW G 1024) (fI h (gW G 1) 28).toNatClampNeg p1 → (vp_in (fI h2 (gW G 1) 28) 4098 ∧ ∀ h5, h5 = sI h2 (gW G 1025) (fI h2 (gW G 1) 28).toNatClampNeg p2 → (∀ h7, h7 = pI h5 (gW G 1) 28 ((fI h5 (gW G 1) 28) + 1) → (Q (.returned none) h7)))) : C G mX2_add d [.ref (gW G 1), .int (p1), .int (p2)] h Q := by
  refine C.of_X (by decide +kernel) (Nat.le_of_ble_eq_true rfl) wX2_add ?_
  show X G mX2_add d none [] 0 [(0, .ref (gW G 1)), (1, .int (p1)), (2, .int (p2))] [] h Q
  refine x_aload_n (pc' := 1) 0 (dX2_add 0 rfl rfl) rfl rfl rfl ?_
  refine x_getR (pc' := 4) (dX2_add 1 rfl rfl) g24 q322 (Or.inl rfl) rfl (hf_of 1 s1.1 rfl (by decide) m1_24) (s1.2 2 _ rfl rfl).1 ?_
  refine x_aload_n (pc' := 5) 0 (dX2_add 2 rfl rfl) rfl rfl rfl ?_
  refine x_getI (pc' := 8) (dX2_add 3 rfl rfl) g28 q337 (Or.inl rfl) rfl (hf_of 1 s1.1 rfl (by decide) m1_28) ?_
  refine x_iload_n (pc' := 9) 1 (dX2_add 4 rfl rfl) rfl rfl rfl ?_
  obtain ⟨i1, hf⟩ := hf
  refine x_iast (pc' := 10) (dX2_add 5 rfl rfl) rfl (s1.2 2 _ rfl rfl).2.1 (Or.inl ⟨24, by decide, rfl, by decide⟩) (by rw [(s1.2 2 _ rfl rfl).2.2.2 (by decide)]; exact i1) (fun h2 e3 => ?_)
  replace hf := hf h2 e3
  replace s1 : So 1 (gW G) h2 := by rw [e3]; exact s1.le sc1 (sI_le )
  refine x_aload_n (pc' := 11) 0 (dX2_add 6 rfl rfl) rfl rfl rfl ?_
  refine x_getR (pc' := 14) (dX2_add 7 rfl rfl) g25 q325 (Or.inl rfl) rfl (hf_of 1 s1.1 rfl (by decide) m1_25) (s1.2 3 _ rfl rfl).1 ?_
  refine x_aload_n (pc' := 15) 0 (dX2_add 8 rfl rfl) rfl rfl rfl ?_
  refine x_getI (pc' := 18) (dX2_add 9 rfl rfl) g28 q337 (Or.inl rfl) rfl (hf_of 1 s1.1 rfl (by decide) m1_28) ?_
  refine x_iload_n (pc' := 19) 2 (dX2_add 10 rfl rfl) rfl rfl rfl ?_
  obtain ⟨i4, hf⟩ := hf
  refine x_iast (pc' := 20) (dX2_add 11 rfl rfl) rfl (s1.2 3 _ rfl rfl).2.1 (Or.inl ⟨25, by decide, rfl, by decide⟩) (by rw [(s1.2 3 _ rfl rfl).2.2.2 (by decide)]; exact i4) (fun h5 e6 => ?_)
  replace hf := hf h5 e6
  replace s1 : So 1 (gW G) h5 := by rw [e6]; exact s1.le sc1 (sI_le )
  refine x_aload_n (pc' := 21) 0 (dX2_add 12 rfl rfl) rfl rfl rfl ?_
  refine x_dup (pc' := 22) (dX2_add 13 rfl rfl) rfl rfl ?_
  refine x_getI (pc' := 25) (dX2_add 14 rfl rfl) g28 q337 (Or.inl rfl) rfl (hf_of 1 s1.1 rfl (by decide) m1_28) ?_
  refine x_iconst (pc' := 26) (v := 1) (dX2_add 15 rfl rfl) (by decide) rfl ?_
  refine x_iadd (pc' := 27) (dX2_add 16 rfl rfl) rfl ?_
  refine x_putI (pc' := 30) (dX2_add 17 rfl rfl) g28 q337 (Or.inl rfl) (Or.inl rfl) (Or.inl (by decide)) rfl (hf_of 1 s1.1 rfl (by decide) m1_28) (fun h7 e8 => ?_)
  replace hf := hf h7 e8
  replace s1 : So 1 (gW G) h7 := by rw [e8]; exact s1.le sc1 (pI_le (Or.inl rfl))
  exact x_vret (dX2_add 18 rfl rfl) rfl hf
theorem bX2_digit (G : Gh) (d : Nat) (h : AH) (Q : Outcome → AH → Prop) (p0 : Int32) (hf : (p0 < 48 → (Q (.returned (some (.int 0))) h)) ∧ (¬ (p0 < 48) → ((57 < p0 → (Q (.returned (some (.int 0))) h)) ∧ (¬ (57 < p0) → (Q (.returned (some (.int 1))) h))))) : C G mX2_digit d [.int (p0)] h Q := by
  refine C.of_X (by decide +kernel) (Nat.le_of_ble_eq_true rfl) wX2_digit ?_
  show X G mX2_digit d none [] 0 [(0, .int (p0))] [] h Q
  refine x_iload_n (pc' := 1) 0 (dX2_digit 0 rfl rfl) rfl rfl rfl ?_
  refine x_bipush (pc' := 3) (v := 48) (dX2_digit 1 rfl rfl) (by decide) rfl ?_
  refine x_icmp_lt (pc' := 6) (tgt := 16) (dX2_digit 2 rfl rfl) (by decide) rfl (fun c1 => ?_) (fun c1 => ?_)
  · replace hf := hf.1 c1
    refine x_iconst (pc' := 17) (v := 0) (dX2_digit 8 rfl rfl) (by decide) rfl ?_
    exact x_zret (ty := .boolean) (dX2_digit 9 rfl rfl) rfl (by decide) hf
  · replace hf := hf.2 c1
    refine x_iload_n (pc' := 7) 0 (dX2_digit 3 rfl rfl) rfl rfl rfl ?_
    refine x_bipush (pc' := 9) (v := 57) (dX2_digit 4 rfl rfl) (by decide) rfl ?_
    refine x_icmp_gt (pc' := 12) (tgt := 16) (dX2_digit 5 rfl rfl) (by decide) rfl (fun c2 => ?_) (fun c2 => ?_)
    · replace hf := hf.1 c2
      refine x_iconst (pc' := 17) (v := 0) (dX2_digit 8 rfl rfl) (by decide) rfl ?_
      exact x_zret (ty := .boolean) (dX2_digit 9 rfl rfl) rfl (by decide) hf
    · replace hf := hf.2 c2
      refine x_iconst (pc' := 13) (v := 1) (dX2_digit 6 rfl rfl) (by decide) rfl ?_
      refine x_goto (tgt := 17) (dX2_digit 7 rfl rfl) (by decide) ?_
      exact x_zret (ty := .boolean) (dX2_digit 9 rfl rfl) rfl (by decide) hf
theorem bX2_kindOf (G : Gh) (d : Nat) (h : AH) (Q : Outcome → AH → Prop) (p1 : Int32) (p2 : Int32) (hf : X G mX2_kindOf (d + 1) none [] 2 [(0, .ref (gW G 1)), (1, .int (p1)), (2, .int (p2)), (3, .int (0))] [] h Q) : C G mX2_kindOf (d + 1) [.ref (gW G 1), .int (p1), .int (p2)] h Q := by
  refine C.of_X (by decide +kernel) (Nat.le_of_ble_eq_true rfl) wX2_kindOf ?_
  show X G mX2_kindOf (d + 1) none [] 0 [(0, .ref (gW G 1)), (1, .int (p1)), (2, .int (p2))] [] h Q
  refine x_iconst (pc' := 1) (v := 0) (dX2_kindOf 0 rfl rfl) (by decide) rfl ?_
  refine x_istore_n (pc' := 2) (dX2_kindOf 1 rfl rfl) rfl (by decide) rfl rfl ?_
  exact X.sub [1, 2, 3, 0] rfl (by simp) hf
theorem bX2_kindOf_2 (G : Gh) (d : Nat) (h : AH) (Q : Outcome → AH → Prop) (l1 : Int32) (l2 : Int32) (l3 : Int32) (s1 : So 1 (gW G) h) (hf : ((Int32.ofNat (hL h (gW G 1021))) ≤ l3 → (Q (.returned (some (.int 280))) h)) ∧ (¬ ((Int32.ofNat (hL h (gW G 1021))) ≤ l3) → (vp_in l3 19 ∧ ∃ b3, aR h (gW G 1021) l3.toNatClampNeg = some b3 ∧ (∃ n7, n7 < slen.length ∧ b3 = G.2.2.2.1 n7 ∧ (C G mJ0_length d [.ref (b3)] h (KI Q (fun x8 h5 => (x8 = l2 → (X G mX2_kindOf (d + 1) none [] 34 [(0, .ref (gW G 1)), (1, .int (l1)), (2, .int (l2)), (3, .int (l3)), (4, .int (1)), (5, .int (0))] [] h5 Q)) ∧ (¬ x8 = l2 → (X G mX2_kindOf (d + 1) none [] 34 [(0, .ref (gW G 1)), (1, .int (l1)), (2, .int (l2)), (3, .int (l3)), (4, .int (0)), (5, .int (0))] [] h5 Q))))))))) : X G mX2_kindOf (d + 1) none [] 2 [(0, .ref (gW G 1)), (1, .int (l1)), (2, .int (l2)), (3, .int (l3))] [] h Q := by
  refine x_iload_n (pc' := 3) 3 (dX2_kindOf 2 rfl rfl) rfl rfl rfl ?_
  refine x_aload_n (pc' := 4) 0 (dX2_kindOf 3 rfl rfl) rfl rfl rfl ?_
  refine x_getR (pc' := 7) (dX2_kindOf 4 rfl rfl) g21 q317 (Or.inl rfl) rfl (hf_of 1 s1.1 rfl (by decide) m1_21) (s1.2 0 _ rfl rfl).1 ?_
  refine x_alen (pc' := 8) (t := 5) (ty := .object "java/lang/String") (dX2_kindOf 5 rfl rfl) rfl rfl (s1.2 0 _ rfl rfl).2.1 ?_
  refine x_icmp_ge (pc' := 11) (tgt := 98) (dX2_kindOf 6 rfl rfl) (by decide) rfl (fun c1 => ?_) (fun c1 => ?_)
  · replace hf := hf.1 c1
    refine x_sipush (pc' := 101) (v := 280) (dX2_kindOf 52 rfl rfl) (by decide) rfl ?_
    exact x_iret (dX2_kindOf 53 rfl rfl) rfl hf
  · replace hf := hf.2 c1
    refine x_aload_n (pc' := 12) 0 (dX2_kindOf 7 rfl rfl) rfl rfl rfl ?_
    refine x_getR (pc' := 15) (dX2_kindOf 8 rfl rfl) g21 q317 (Or.inl rfl) rfl (hf_of 1 s1.1 rfl (by decide) m1_21) (s1.2 0 _ rfl rfl).1 ?_
    refine x_iload_n (pc' := 16) 3 (dX2_kindOf 9 rfl rfl) rfl rfl rfl ?_
    obtain ⟨i2, hf⟩ := hf
    obtain ⟨b3, e4, hf⟩ := hf
    refine x_aald (pc' := 17) (t := 5) (C := "java/lang/String") (dX2_kindOf 10 rfl rfl) rfl (by decide) rfl (s1.2 0 _ rfl rfl).2.1 (by rw [(s1.2 0 _ rfl rfl).2.2.2 (by decide)]; exact i2) e4 ?_
    obtain ⟨n7, n7l, n7e, hf⟩ := hf
    refine x_inv (pc' := 20) (ν := mJ0_length) (av := [_]) (st := []) rfl rfl (dX2_kindOf 11 rfl rfl) (Nat.le_of_ble_eq_true rfl) wJ0_length q215 (inv_VSa n7e (dX2_kindOf 11 rfl rfl) q1184 q381 q382 wJ0_length (by decide) lJ0_length n7l) (exN (by decide)) rfl ?_
    refine C.mono hf (fun _ _ => KI.g (fun x8 h5 hf le6 => ?_))
    replace s1 := s1.le sc1 (le6)
    refine x_iload_n (pc' := 21) 2 (dX2_kindOf 12 rfl rfl) rfl rfl rfl ?_
    refine x_icmp_ne (pc' := 24) (tgt := 28) (dX2_kindOf 13 rfl rfl) (by decide) rfl (fun c9 => ?_) (fun c9 => ?_)
    · replace hf := hf.2 c9
      refine x_iconst (pc' := 29) (v := 0) (dX2_kindOf 16 rfl rfl) (by decide) rfl ?_
      refine x_istore (pc' := 31) (dX2_kindOf 17 rfl rfl) (by decide) rfl rfl ?_
      refine x_iconst (pc' := 32) (v := 0) (dX2_kindOf 18 rfl rfl) (by decide) rfl ?_
      refine x_istore (pc' := 34) (dX2_kindOf 19 rfl rfl) (by decide) rfl rfl ?_
      exact X.sub [2, 3, 4, 5, 1, 0] rfl (by simp) hf
    · replace hf := hf.1 (Classical.not_not.mp c9)
      replace c9 := Classical.not_not.mp c9
      refine x_iconst (pc' := 25) (v := 1) (dX2_kindOf 14 rfl rfl) (by decide) rfl ?_
      refine x_goto (tgt := 29) (dX2_kindOf 15 rfl rfl) (by decide) ?_
      refine x_istore (pc' := 31) (dX2_kindOf 17 rfl rfl) (by decide) rfl rfl ?_
      refine x_iconst (pc' := 32) (v := 0) (dX2_kindOf 18 rfl rfl) (by decide) rfl ?_
      refine x_istore (pc' := 34) (dX2_kindOf 19 rfl rfl) (by decide) rfl rfl ?_
      exact X.sub [2, 3, 4, 5, 1, 0] rfl (by simp) hf
theorem bX2_kindOf_34 (G : Gh) (d : Nat) (h : AH) (Q : Outcome → AH → Prop) (l1 : Int32) (l2 : Int32) (l3 : Int32) (l4 : Int32) (l5 : Int32) (s1 : So 1 (gW G) h) (hf : (l4 = 0 → (∀ x3 : Int32, x3 = l3 + 1 → (X G mX2_kindOf (d + 1) none [] 2 [(0, .ref (gW G 1)), (1, .int (l1)), (2, .int (l2)), (3, .int (x3))] [] h Q))) ∧ (¬ l4 = 0 → ((l2 ≤ l5 → (Q (.returned (some (.int (256 + l3)))) h)) ∧ (¬ (l2 ≤ l5) → (vp_in l3 19 ∧ ∃ b7, aR h (gW G 1021) l3.toNatClampNeg = some b7 ∧ (∃ n11, n11 < slen.length ∧ b7 = G.2.2.2.1 n11 ∧ (C G mJ0_charAt d [.ref (b7), .int (l5)] h (KI Q (fun x12 h9 => vp_in (l1 + l5) 4096 ∧ ((x12 = (aI h9 (gW G 1022) (l1 + l5).toNatClampNeg) → (∀ x16 : Int32, x16 = l5 + 1 → (X G mX2_kindOf (d + 1) none [] 34 [(0, .ref (gW G 1)), (1, .int (l1)), (2, .int (l2)), (3, .int (l3)), (4, .int (1)), (5, .int (x16))] [] h9 Q))) ∧ (¬ (x12 = (aI h9 (gW G 1022) (l1 + l5).toNatClampNeg)) → (∀ x15 : Int32, x15 = l5 + 1 → (X G mX2_kindOf (d + 1) none [] 34 [(0, .ref (gW G 1)), (1, .int (l1)), (2, .int (l2)), (3, .int (l3)), (4, .int (0)), (5, .int (x15))] [] h9 Q))))))))))))) : X G mX2_kindOf (d + 1) none [] 34 [(0, .ref (gW G 1)), (1, .int (l1)), (2, .int (l2)), (3, .int (l3)), (4, .int (l4)), (5, .int (l5))] [] h Q := by
  refine x_iload (pc' := 36) 4 (dX2_kindOf 20 rfl rfl) rfl rfl ?_
  refine x_if_eq (pc' := 39) (tgt := 81) (dX2_kindOf 21 rfl rfl) (by decide) rfl (fun c1 => ?_) (fun c1 => ?_)
  · replace hf := hf.1 c1
    refine x_iload (pc' := 83) 4 (dX2_kindOf 44 rfl rfl) rfl rfl ?_
    refine x_if_eq (pc' := 86) (tgt := 92) (dX2_kindOf 45 rfl rfl) (by decide) rfl (fun c2 => ?_) (fun c2 => ?_)
    · replace hf := hf _ rfl
      refine x_iinc (pc' := 95) 3 (dX2_kindOf 50 rfl rfl) rfl (by rfl) (by decide) rfl rfl ?_
      refine x_goto (tgt := 2) (dX2_kindOf 51 rfl rfl) (by decide) ?_
      exact X.sub [1, 2, 3, 0] rfl (by simp) hf
    · exact absurd c1 c2
  · replace hf := hf.2 c1
    refine x_iload (pc' := 41) 5 (dX2_kindOf 22 rfl rfl) rfl rfl ?_
    refine x_iload_n (pc' := 42) 2 (dX2_kindOf 23 rfl rfl) rfl rfl rfl ?_
    refine x_icmp_ge (pc' := 45) (tgt := 81) (dX2_kindOf 24 rfl rfl) (by decide) rfl (fun c4 => ?_) (fun c4 => ?_)
    · replace hf := hf.1 c4
      refine x_iload (pc' := 83) 4 (dX2_kindOf 44 rfl rfl) rfl rfl ?_
      refine x_if_eq (pc' := 86) (tgt := 92) (dX2_kindOf 45 rfl rfl) (by decide) rfl (fun c5 => ?_) (fun c5 => ?_)
      · exact absurd c5 c1
      · refine x_sipush (pc' := 89) (v := 256) (dX2_kindOf 46 rfl rfl) (by decide) rfl ?_
        refine x_iload_n (pc' := 90) 3 (dX2_kindOf 47 rfl rfl) rfl rfl rfl ?_
        refine x_iadd (pc' := 91) (dX2_kindOf 48 rfl rfl) rfl ?_
        exact x_iret (dX2_kindOf 49 rfl rfl) rfl hf
    · replace hf := hf.2 c4
      refine x_aload_n (pc' := 46) 0 (dX2_kindOf 25 rfl rfl) rfl rfl rfl ?_
      refine x_getR (pc' := 49) (dX2_kindOf 26 rfl rfl) g21 q317 (Or.inl rfl) rfl (hf_of 1 s1.1 rfl (by decide) m1_21) (s1.2 0 _ rfl rfl).1 ?_
      refine x_iload_n (pc' := 50) 3 (dX2_kindOf 27 rfl rfl) rfl rfl rfl ?_
      obtain ⟨i6, hf⟩ := hf
      obtain ⟨b7, e8, hf⟩ := hf
      refine x_aald (pc' := 51) (t := 5) (C := "java/lang/String") (dX2_kindOf 28 rfl rfl) rfl (by decide) rfl (s1.2 0 _ rfl rfl).2.1 (by rw [(s1.2 0 _ rfl rfl).2.2.2 (by decide)]; exact i6) e8 ?_
      refine x_iload (pc' := 53) 5 (dX2_kindOf 29 rfl rfl) rfl rfl ?_
      obtain ⟨n11, n11l, n11e, hf⟩ := hf
      refine x_inv (pc' := 56) (ν := mJ0_charAt) (av := [_, _]) (st := []) rfl rfl (dX2_kindOf 30 rfl rfl) (Nat.le_of_ble_eq_true rfl) wJ0_charAt q215 (inv_VSa n11e (dX2_kindOf 30 rfl rfl) q1185 q391 q392 wJ0_charAt (by decide) lJ0_charAt n11l) (exN (by decide)) rfl ?_
      refine C.mono hf (fun _ _ => KI.g (fun x12 h9 hf le10 => ?_))
      replace s1 := s1.le sc1 (le10)
      refine x_aload_n (pc' := 57) 0 (dX2_kindOf 31 rfl rfl) rfl rfl rfl ?_
      refine x_getR (pc' := 60) (dX2_kindOf 32 rfl rfl) g22 q318 (Or.inl rfl) rfl (hf_of 1 s1.1 rfl (by decide) m1_22) (s1.2 1 _ rfl rfl).1 ?_
      refine x_iload_n (pc' := 61) 1 (dX2_kindOf 33 rfl rfl) rfl rfl rfl ?_
      refine x_iload (pc' := 63) 5 (dX2_kindOf 34 rfl rfl) rfl rfl ?_
      refine x_iadd (pc' := 64) (dX2_kindOf 35 rfl rfl) rfl ?_
      obtain ⟨i13, hf⟩ := hf
      refine x_bald (pc' := 65) (dX2_kindOf 36 rfl rfl) rfl (s1.2 1 _ rfl rfl).2.1 (by rw [(s1.2 1 _ rfl rfl).2.2.2 (by decide)]; exact i13) ?_
      refine x_icmp_ne (pc' := 68) (tgt := 72) (dX2_kindOf 37 rfl rfl) (by decide) rfl (fun c14 => ?_) (fun c14 => ?_)
      · replace hf := hf.2 c14
        refine x_iconst (pc' := 73) (v := 0) (dX2_kindOf 40 rfl rfl) (by decide) rfl ?_
        refine x_istore (pc' := 75) (dX2_kindOf 41 rfl rfl) (by decide) rfl rfl ?_
        replace hf := hf _ rfl
        refine x_iinc (pc' := 78) 5 (dX2_kindOf 42 rfl rfl) rfl (by rfl) (by decide) rfl rfl ?_
        refine x_goto (tgt := 34) (dX2_kindOf 43 rfl rfl) (by decide) ?_
        exact X.sub [2, 3, 4, 5, 1, 0] rfl (by simp) hf
      · replace hf := hf.1 (Classical.not_not.mp c14)
        replace c14 := Classical.not_not.mp c14
        refine x_iconst (pc' := 69) (v := 1) (dX2_kindOf 38 rfl rfl) (by decide) rfl ?_
        refine x_goto (tgt := 73) (dX2_kindOf 39 rfl rfl) (by decide) ?_
        refine x_istore (pc' := 75) (dX2_kindOf 41 rfl rfl) (by decide) rfl rfl ?_
        replace hf := hf _ rfl
        refine x_iinc (pc' := 78) 5 (dX2_kindOf 42 rfl rfl) rfl (by rfl) (by decide) rfl rfl ?_
        refine x_goto (tgt := 34) (dX2_kindOf 43 rfl rfl) (by decide) ?_
        exact X.sub [2, 3, 4, 5, 1, 0] rfl (by simp) hf
theorem bX2_number (G : Gh) (d : Nat) (h : AH) (Q : Outcome → AH → Prop)  (s1 : So 1 (gW G) h) (hf : ∀ x1 : Int32, x1 = fI h (gW G 1) 29 → (X G mX2_number (d + 1) none [] 7 [(0, .ref (gW G 1)), (1, .int (x1)), (2, .long (0))] [] h Q)) : C G mX2_number (d + 1) [.ref (gW G 1)] h Q := by
  refine C.of_X (by decide +kernel) (Nat.le_of_ble_eq_true rfl) wX2_number ?_
  show X G mX2_number (d + 1) none [] 0 [(0, .ref (gW G 1))] [] h Q
  refine x_aload_n (pc' := 1) 0 (dX2_number 0 rfl rfl) rfl rfl rfl ?_
  refine x_getI (pc' := 4) (dX2_number 1 rfl rfl) g29 q339 (Or.inl rfl) rfl (hf_of 1 s1.1 rfl (by decide) m1_29) ?_
  replace hf := hf _ rfl
  refine x_istore_n (pc' := 5) (dX2_number 2 rfl rfl) rfl (by decide) rfl rfl ?_
  refine x_lconst (pc' := 6) (v := 0) (dX2_number 3 rfl rfl) (by decide) rfl ?_
  refine x_lstore_n (pc' := 7) (dX2_number 4 rfl rfl) rfl (by decide) rfl rfl ?_
  exact X.sub [2, 1, 0] rfl (by simp) hf
theorem bX2_number_7 (G : Gh) (d : Nat) (h : AH) (Q : Outcome → AH → Prop) (l1 : Int32) (l2 : Int64) (s1 : So 1 (gW G) h) (hf : C G mX2_look d [.ref (gW G 1), .int (0)] h (KI Q (fun x3 h1 => C G mX2_digit d [.int (x3)] h1 (KI Q (fun x6 h4 => (x6 = 0 → (vp_in (fI h4 (gW G 1) 28) 4098 ∧ ∀ h9, h9 = sJ h4 (gW G 1026) (fI h4 (gW G 1) 28).toNatClampNeg l2 → ((0 < (lg_cmp l2 2147483647) → (C G mX2_add d [.ref (gW G 1), .int (292), .int (l1)] h9 (KV Q (fun h13 => Q (.returned (some (.int 0))) h13)))) ∧ (¬ (0 < (lg_cmp l2 2147483647)) → (C G mX2_add d [.ref (gW G 1), .int (283), .int (l1)] h9 (KV Q (fun h16 => Q (.returned (some (.int 1))) h16))))))) ∧ (¬ x6 = 0 → (C G mX2_look d [.ref (gW G 1), .int (0)] h4 (KI Q (fun x20 h18 => C G mJ9_min d [.long (((l2 * 10) + ((x20 : Int32).toInt64)) - 48), .long (1099511627776)] h18 (KJ Q (fun y23 h21 => ∀ h24, h24 = pI h21 (gW G 1) 29 ((fI h21 (gW G 1) 29) + 1) → (X G mX2_number (d + 1) none [] 7 [(0, .ref (gW G 1)), (1, .int (l1)), (2, .long (y23))] [] h24 Q)))))))))))) : X G mX2_number (d + 1) none [] 7 [(0, .ref (gW G 1)), (1, .int (l1)), (2, .long (l2))] [] h Q := by
  refine x_aload_n (pc' := 8) 0 (dX2_number 5 rfl rfl) rfl rfl rfl ?_
  refine x_iconst (pc' := 9) (v := 0) (dX2_number 6 rfl rfl) (by decide) rfl ?_
  refine x_inv (pc' := 12) (ν := mX2_look) (av := [_, _]) (st := []) rfl rfl (dX2_number 7 rfl rfl) (Nat.le_of_ble_eq_true rfl) wX2_look q212 (inv_V (k := 1) (dX2_number 7 rfl rfl) q1159 q1161 qs5 wX2_look (by decide) lX2_look (by decide) s1.1) (exN (by decide)) rfl ?_
  refine C.mono hf (fun _ _ => KI.g (fun x3 h1 hf le2 => ?_))
  replace s1 := s1.le sc1 (le2)
  refine x_inv (pc' := 15) (ν := mX2_digit) (av := [_]) (st := []) rfl rfl (dX2_number 8 rfl rfl) (Nat.le_of_ble_eq_true rfl) wX2_digit q212 (inv_S (dX2_number 8 rfl rfl) q1177 q1178 q212 wX2_digit (by decide) lX2_digit) (exN (by decide)) rfl ?_
  refine C.mono hf (fun _ _ => KI.g (fun x6 h4 hf le5 => ?_))
  replace s1 := s1.le sc1 (le5)
  refine x_if_eq (pc' := 18) (tgt := 54) (dX2_number 9 rfl rfl) (by decide) rfl (fun c7 => ?_) (fun c7 => ?_)
  · replace hf := hf.1 c7
    refine x_aload_n (pc' := 55) 0 (dX2_number 30 rfl rfl) rfl rfl rfl ?_
    refine x_getR (pc' := 58) (dX2_number 31 rfl rfl) g26 q332 (Or.inl rfl) rfl (hf_of 1 s1.1 rfl (by decide) m1_26) (s1.2 4 _ rfl rfl).1 ?_
    refine x_aload_n (pc' := 59) 0 (dX2_number 32 rfl rfl) rfl rfl rfl ?_
    refine x_getI (pc' := 62) (dX2_number 33 rfl rfl) g28 q337 (Or.inl rfl) rfl (hf_of 1 s1.1 rfl (by decide) m1_28) ?_
    refine x_lload_n (pc' := 63) 2 (dX2_number 34 rfl rfl) rfl rfl rfl ?_
    obtain ⟨i8, hf⟩ := hf
    refine x_last (pc' := 64) (dX2_number 35 rfl rfl) rfl (s1.2 4 _ rfl rfl).2.1 (Or.inl ⟨26, by decide, rfl, by decide⟩) (by rw [(s1.2 4 _ rfl rfl).2.2.2 (by decide)]; exact i8) (fun h9 e10 => ?_)
    replace hf := hf h9 e10
    replace s1 : So 1 (gW G) h9 := by rw [e10]; exact s1.le sc1 (sJ_le )
    refine x_lload_n (pc' := 65) 2 (dX2_number 36 rfl rfl) rfl rfl rfl ?_
    refine x_ldc2 (pc' := 68) (dX2_number 37 rfl rfl) q1196 rfl ?_
    refine x_lcmp (pc' := 69) (dX2_number 38 rfl rfl) rfl ?_
    refine x_if_gt (pc' := 72) (tgt := 76) (dX2_number 39 rfl rfl) (by decide) rfl (fun c11 => ?_) (fun c11 => ?_)
    · replace hf := hf.1 c11
      refine x_iconst (pc' := 77) (v := 0) (dX2_number 42 rfl rfl) (by decide) rfl ?_
      refine x_istore (pc' := 79) (dX2_number 43 rfl rfl) (by decide) rfl rfl ?_
      refine x_aload_n (pc' := 80) 1 (dX2_number 44 rfl rfl) rfl rfl rfl ?_
      refine x_iload (pc' := 82) 0 (dX2_number 45 rfl rfl) rfl rfl ?_
      refine x_if_eq (pc' := 85) (tgt := 91) (dX2_number 46 rfl rfl) (by decide) rfl (fun c12 => ?_) (fun c12 => ?_)
      · refine x_sipush (pc' := 94) (v := 292) (dX2_number 49 rfl rfl) (by decide) rfl ?_
        refine x_iload_n (pc' := 95) 2 (dX2_number 50 rfl rfl) rfl rfl rfl ?_
        refine x_inv (pc' := 98) (ν := mX2_add) (av := [_, _, _]) (st := []) rfl rfl (dX2_number 51 rfl rfl) (Nat.le_of_ble_eq_true rfl) wX2_add q212 (inv_V (k := 1) (dX2_number 51 rfl rfl) q1173 q1175 qs7 wX2_add (by decide) lX2_add (by decide) s1.1) (exN (by decide)) rfl ?_
        refine C.mono hf (fun _ _ => KV.g (fun h13 hf le14 => ?_))
        replace s1 := s1.le sc1 (le14)
        refine x_iload (pc' := 100) 0 (dX2_number 52 rfl rfl) rfl rfl ?_
        exact x_zret (ty := .boolean) (dX2_number 53 rfl rfl) rfl (by decide) hf
      · exact absurd (by decide) c12
    · replace hf := hf.2 c11
      refine x_iconst (pc' := 73) (v := 1) (dX2_number 40 rfl rfl) (by decide) rfl ?_
      refine x_goto (tgt := 77) (dX2_number 41 rfl rfl) (by decide) ?_
      refine x_istore (pc' := 79) (dX2_number 43 rfl rfl) (by decide) rfl rfl ?_
      refine x_aload_n (pc' := 80) 1 (dX2_number 44 rfl rfl) rfl rfl rfl ?_
      refine x_iload (pc' := 82) 0 (dX2_number 45 rfl rfl) rfl rfl ?_
      refine x_if_eq (pc' := 85) (tgt := 91) (dX2_number 46 rfl rfl) (by decide) rfl (fun c15 => ?_) (fun c15 => ?_)
      · exact absurd c15 (by decide)
      · refine x_sipush (pc' := 88) (v := 283) (dX2_number 47 rfl rfl) (by decide) rfl ?_
        refine x_goto (tgt := 94) (dX2_number 48 rfl rfl) (by decide) ?_
        refine x_iload_n (pc' := 95) 2 (dX2_number 50 rfl rfl) rfl rfl rfl ?_
        refine x_inv (pc' := 98) (ν := mX2_add) (av := [_, _, _]) (st := []) rfl rfl (dX2_number 51 rfl rfl) (Nat.le_of_ble_eq_true rfl) wX2_add q212 (inv_V (k := 1) (dX2_number 51 rfl rfl) q1173 q1175 qs7 wX2_add (by decide) lX2_add (by decide) s1.1) (exN (by decide)) rfl ?_
        refine C.mono hf (fun _ _ => KV.g (fun h16 hf le17 => ?_))
        replace s1 := s1.le sc1 (le17)
        refine x_iload (pc' := 100) 0 (dX2_number 52 rfl rfl) rfl rfl ?_
        exact x_zret (ty := .boolean) (dX2_number 53 rfl rfl) rfl (by decide) hf
  · replace hf := hf.2 c7
    refine x_lload_n (pc' := 19) 2 (dX2_number 10 rfl rfl) rfl rfl rfl ?_
    refine x_ldc2 (pc' := 22) (dX2_number 11 rfl rfl) q1190 rfl ?_
    refine x_lmul (pc' := 23) (dX2_number 12 rfl rfl) rfl ?_
    refine x_aload_n (pc' := 24) 0 (dX2_number 13 rfl rfl) rfl rfl rfl ?_
    refine x_iconst (pc' := 25) (v := 0) (dX2_number 14 rfl rfl) (by decide) rfl ?_
    refine x_inv (pc' := 28) (ν := mX2_look) (av := [_, _]) (st := [_]) rfl rfl (dX2_number 15 rfl rfl) (Nat.le_of_ble_eq_true rfl) wX2_look q212 (inv_V (k := 1) (dX2_number 15 rfl rfl) q1159 q1161 qs5 wX2_look (by decide) lX2_look (by decide) s1.1) (exN (by decide)) rfl ?_
    refine C.mono hf (fun _ _ => KI.g (fun x20 h18 hf le19 => ?_))
    replace s1 := s1.le sc1 (le19)
    refine x_i2l (pc' := 29) (dX2_number 16 rfl rfl) rfl ?_
    refine x_ladd (pc' := 30) (dX2_number 17 rfl rfl) rfl ?_
    refine x_ldc2 (pc' := 33) (dX2_number 18 rfl rfl) q1191 rfl ?_
    refine x_lsub (pc' := 34) (dX2_number 19 rfl rfl) rfl ?_
    refine x_ldc2 (pc' := 37) (dX2_number 20 rfl rfl) q1192 rfl ?_
    refine x_inv (pc' := 40) (ν := mJ9_min) (av := [_, _]) (st := []) rfl rfl (dX2_number 21 rfl rfl) (Nat.le_of_ble_eq_true rfl) wJ9_min q235 (inv_S (dX2_number 21 rfl rfl) q1193 q1194 q235 wJ9_min (by decide) lJ9_min) (exN (by decide)) rfl ?_
    refine C.mono hf (fun _ _ => KJ.g (fun y23 h21 hf le22 => ?_))
    replace s1 := s1.le sc1 (le22)
    refine x_lstore_n (pc' := 41) (dX2_number 22 rfl rfl) rfl (by decide) rfl rfl ?_
    refine x_aload_n (pc' := 42) 1 (dX2_number 23 rfl rfl) rfl rfl rfl ?_
    refine x_dup (pc' := 43) (dX2_number 24 rfl rfl) rfl rfl ?_
    refine x_getI (pc' := 46) (dX2_number 25 rfl rfl) g29 q339 (Or.inl rfl) rfl (hf_of 1 s1.1 rfl (by decide) m1_29) ?_
    refine x_iconst (pc' := 47) (v := 1) (dX2_number 26 rfl rfl) (by decide) rfl ?_
    refine x_iadd (pc' := 48) (dX2_number 27 rfl rfl) rfl ?_
    refine x_putI (pc' := 51) (dX2_number 28 rfl rfl) g29 q339 (Or.inl rfl) (Or.inl rfl) (Or.inl (by decide)) rfl (hf_of 1 s1.1 rfl (by decide) m1_29) (fun h24 e25 => ?_)
    replace hf := hf h24 e25
    replace s1 : So 1 (gW G) h24 := by rw [e25]; exact s1.le sc1 (pI_le (Or.inl rfl))
    refine x_goto (tgt := 7) (dX2_number 29 rfl rfl) (by decide) ?_
    exact X.sub [1, 2, 0] rfl (by simp) hf
theorem bX2_sign (G : Gh) (d : Nat) (h : AH) (Q : Outcome → AH → Prop) (p1 : Int32) (s1 : So 1 (gW G) h) (hf : C G mX2_look d [.ref (gW G 1), .int (1)] h (KI Q (fun x3 h1 => (p1 = 61 → ((x3 = 62 → (X G mX2_sign (d + 1) none [] 133 [(0, .ref (gW G 1)), (1, .int (p1))] [.int (284)] h1 Q)) ∧ (¬ x3 = 62 → (X G mX2_sign (d + 1) none [] 24 [(0, .ref (gW G 1)), (1, .int (p1)), (2, .int (x3))] [] h1 Q)))) ∧ (¬ p1 = 61 → (X G mX2_sign (d + 1) none [] 24 [(0, .ref (gW G 1)), (1, .int (p1)), (2, .int (x3))] [] h1 Q))))) : C G mX2_sign (d + 1) [.ref (gW G 1), .int (p1)] h Q := by
  refine C.of_X (by decide +kernel) (Nat.le_of_ble_eq_true rfl) wX2_sign ?_
  show X G mX2_sign (d + 1) none [] 0 [(0, .ref (gW G 1)), (1, .int (p1))] [] h Q
  refine x_aload_n (pc' := 1) 0 (dX2_sign 0 rfl rfl) rfl rfl rfl ?_
  refine x_iconst (pc' := 2) (v := 1) (dX2_sign 1 rfl rfl) (by decide) rfl ?_
  refine x_inv (pc' := 5) (ν := mX2_look) (av := [_, _]) (st := []) rfl rfl (dX2_sign 2 rfl rfl) (Nat.le_of_ble_eq_true rfl) wX2_look q212 (inv_V (k := 1) (dX2_sign 2 rfl rfl) q1159 q1161 qs5 wX2_look (by decide) lX2_look (by decide) s1.1) (exN (by decide)) rfl ?_
  refine C.mono hf (fun _ _ => KI.g (fun x3 h1 hf le2 => ?_))
  replace s1 := s1.le sc1 (le2)
  refine x_istore_n (pc' := 6) (dX2_sign 3 rfl rfl) rfl (by decide) rfl rfl ?_
  refine x_iload_n (pc' := 7) 2 (dX2_sign 4 rfl rfl) rfl rfl rfl ?_
  refine x_bipush (pc' := 9) (v := 61) (dX2_sign 5 rfl rfl) (by decide) rfl ?_
  refine x_icmp_ne (pc' := 12) (tgt := 24) (dX2_sign 6 rfl rfl) (by decide) rfl (fun c4 => ?_) (fun c4 => ?_)
  · replace hf := hf.2 c4
    exact X.sub [1, 2, 0] rfl (by simp) hf
  · replace hf := hf.1 (Classical.not_not.mp c4)
    replace c4 := Classical.not_not.mp c4
    refine x_iload_n (pc' := 13) 0 (dX2_sign 7 rfl rfl) rfl rfl rfl ?_
    refine x_bipush (pc' := 15) (v := 62) (dX2_sign 8 rfl rfl) (by decide) rfl ?_
    refine x_icmp_ne (pc' := 18) (tgt := 24) (dX2_sign 9 rfl rfl) (by decide) rfl (fun c5 => ?_) (fun c5 => ?_)
    · replace hf := hf.2 c5
      exact X.sub [1, 2, 0] rfl (by simp) hf
    · replace hf := hf.1 (Classical.not_not.mp c5)
      replace c5 := Classical.not_not.mp c5
      refine x_sipush (pc' := 21) (v := 284) (dX2_sign 10 rfl rfl) (by decide) rfl ?_
      refine x_goto (tgt := 133) (dX2_sign 11 rfl rfl) (by decide) ?_
      exact X.sub [1, 2] rfl (by simp) hf
theorem bX2_sign_24 (G : Gh) (d : Nat) (h : AH) (Q : Outcome → AH → Prop) (l1 : Int32) (l2 : Int32) (hf : (l1 = 45 → ((l2 = 62 → (X G mX2_sign (d + 1) none [] 133 [(0, .ref (gW G 1)), (1, .int (l1))] [.int (285)] h Q)) ∧ (¬ l2 = 62 → ((l1 = 58 → ((l2 = 58 → (X G mX2_sign (d + 1) none [] 133 [(0, .ref (gW G 1)), (1, .int (l1))] [.int (286)] h Q)) ∧ (¬ l2 = 58 → ((l2 = 61 → (X G mX2_sign (d + 1) none [] 133 [(0, .ref (gW G 1)), (1, .int (l1))] [.int (287)] h Q)) ∧ (¬ l2 = 61 → (X G mX2_sign (d + 1) none [] 78 [(0, .ref (gW G 1)), (1, .int (l1)), (2, .int (l2))] [] h Q)))))) ∧ (¬ l1 = 58 → (X G mX2_sign (d + 1) none [] 78 [(0, .ref (gW G 1)), (1, .int (l1)), (2, .int (l2))] [] h Q)))))) ∧ (¬ l1 = 45 → ((l1 = 58 → ((l2 = 58 → (X G mX2_sign (d + 1) none [] 133 [(0, .ref (gW G 1)), (1, .int (l1))] [.int (286)] h Q)) ∧ (¬ l2 = 58 → ((l2 = 61 → (X G mX2_sign (d + 1) none [] 133 [(0, .ref (gW G 1)), (1, .int (l1))] [.int (287)] h Q)) ∧ (¬ l2 = 61 → (X G mX2_sign (d + 1) none [] 78 [(0, .ref (gW G 1)), (1, .int (l1)), (2, .int (l2))] [] h Q)))))) ∧ (¬ l1 = 58 → (X G mX2_sign (d + 1) none [] 78 [(0, .ref (gW G 1)), (1, .int (l1)), (2, .int (l2))] [] h Q))))) : X G mX2_sign (d + 1) none [] 24 [(0, .ref (gW G 1)), (1, .int (l1)), (2, .int (l2))] [] h Q := by
  refine x_iload_n (pc' := 25) 1 (dX2_sign 12 rfl rfl) rfl rfl rfl ?_
  refine x_bipush (pc' := 27) (v := 45) (dX2_sign 13 rfl rfl) (by decide) rfl ?_
  refine x_icmp_ne (pc' := 30) (tgt := 42) (dX2_sign 14 rfl rfl) (by decide) rfl (fun c1 => ?_) (fun c1 => ?_)
  · replace hf := hf.2 c1
    refine x_iload_n (pc' := 43) 1 (dX2_sign 20 rfl rfl) rfl rfl rfl ?_
    refine x_bipush (pc' := 45) (v := 58) (dX2_sign 21 rfl rfl) (by decide) rfl ?_
    refine x_icmp_ne (pc' := 48) (tgt := 60) (dX2_sign 22 rfl rfl) (by decide) rfl (fun c2 => ?_) (fun c2 => ?_)
    · replace hf := hf.2 c2
      refine x_iload_n (pc' := 61) 1 (dX2_sign 28 rfl rfl) rfl rfl rfl ?_
      refine x_bipush (pc' := 63) (v := 58) (dX2_sign 29 rfl rfl) (by decide) rfl ?_
      refine x_icmp_ne (pc' := 66) (tgt := 78) (dX2_sign 30 rfl rfl) (by decide) rfl (fun c3 => ?_) (fun c3 => ?_)
      · exact X.sub [0, 1, 2] rfl (by simp) hf
      · exact absurd c2 c3
    · replace hf := hf.1 (Classical.not_not.mp c2)
      replace c2 := Classical.not_not.mp c2
      refine x_iload_n (pc' := 49) 2 (dX2_sign 23 rfl rfl) rfl rfl rfl ?_
      refine x_bipush (pc' := 51) (v := 58) (dX2_sign 24 rfl rfl) (by decide) rfl ?_
      refine x_icmp_ne (pc' := 54) (tgt := 60) (dX2_sign 25 rfl rfl) (by decide) rfl (fun c4 => ?_) (fun c4 => ?_)
      · replace hf := hf.2 c4
        refine x_iload_n (pc' := 61) 1 (dX2_sign 28 rfl rfl) rfl rfl rfl ?_
        refine x_bipush (pc' := 63) (v := 58) (dX2_sign 29 rfl rfl) (by decide) rfl ?_
        refine x_icmp_ne (pc' := 66) (tgt := 78) (dX2_sign 30 rfl rfl) (by decide) rfl (fun c5 => ?_) (fun c5 => ?_)
        · exact absurd c2 c5
        · refine x_iload_n (pc' := 67) 2 (dX2_sign 31 rfl rfl) rfl rfl rfl ?_
          refine x_bipush (pc' := 69) (v := 61) (dX2_sign 32 rfl rfl) (by decide) rfl ?_
          refine x_icmp_ne (pc' := 72) (tgt := 78) (dX2_sign 33 rfl rfl) (by decide) rfl (fun c6 => ?_) (fun c6 => ?_)
          · replace hf := hf.2 c6
            exact X.sub [0, 1, 2] rfl (by simp) hf
          · replace hf := hf.1 (Classical.not_not.mp c6)
            replace c6 := Classical.not_not.mp c6
            refine x_sipush (pc' := 75) (v := 287) (dX2_sign 34 rfl rfl) (by decide) rfl ?_
            refine x_goto (tgt := 133) (dX2_sign 35 rfl rfl) (by decide) ?_
            exact X.sub [0, 1] rfl (by simp) hf
      · replace hf := hf.1 (Classical.not_not.mp c4)
        replace c4 := Classical.not_not.mp c4
        refine x_sipush (pc' := 57) (v := 286) (dX2_sign 26 rfl rfl) (by decide) rfl ?_
        refine x_goto (tgt := 133) (dX2_sign 27 rfl rfl) (by decide) ?_
        exact X.sub [0, 1] rfl (by simp) hf
  · replace hf := hf.1 (Classical.not_not.mp c1)
    replace c1 := Classical.not_not.mp c1
    refine x_iload_n (pc' := 31) 2 (dX2_sign 15 rfl rfl) rfl rfl rfl ?_
    refine x_bipush (pc' := 33) (v := 62) (dX2_sign 16 rfl rfl) (by decide) rfl ?_
    refine x_icmp_ne (pc' := 36) (tgt := 42) (dX2_sign 17 rfl rfl) (by decide) rfl (fun c7 => ?_) (fun c7 => ?_)
    · replace hf := hf.2 c7
      refine x_iload_n (pc' := 43) 1 (dX2_sign 20 rfl rfl) rfl rfl rfl ?_
      refine x_bipush (pc' := 45) (v := 58) (dX2_sign 21 rfl rfl) (by decide) rfl ?_
      refine x_icmp_ne (pc' := 48) (tgt := 60) (dX2_sign 22 rfl rfl) (by decide) rfl (fun c8 => ?_) (fun c8 => ?_)
      · replace hf := hf.2 c8
        refine x_iload_n (pc' := 61) 1 (dX2_sign 28 rfl rfl) rfl rfl rfl ?_
        refine x_bipush (pc' := 63) (v := 58) (dX2_sign 29 rfl rfl) (by decide) rfl ?_
        refine x_icmp_ne (pc' := 66) (tgt := 78) (dX2_sign 30 rfl rfl) (by decide) rfl (fun c9 => ?_) (fun c9 => ?_)
        · exact X.sub [0, 1, 2] rfl (by simp) hf
        · exact absurd c8 c9
      · replace hf := hf.1 (Classical.not_not.mp c8)
        replace c8 := Classical.not_not.mp c8
        refine x_iload_n (pc' := 49) 2 (dX2_sign 23 rfl rfl) rfl rfl rfl ?_
        refine x_bipush (pc' := 51) (v := 58) (dX2_sign 24 rfl rfl) (by decide) rfl ?_
        refine x_icmp_ne (pc' := 54) (tgt := 60) (dX2_sign 25 rfl rfl) (by decide) rfl (fun c10 => ?_) (fun c10 => ?_)
        · replace hf := hf.2 c10
          refine x_iload_n (pc' := 61) 1 (dX2_sign 28 rfl rfl) rfl rfl rfl ?_
          refine x_bipush (pc' := 63) (v := 58) (dX2_sign 29 rfl rfl) (by decide) rfl ?_
          refine x_icmp_ne (pc' := 66) (tgt := 78) (dX2_sign 30 rfl rfl) (by decide) rfl (fun c11 => ?_) (fun c11 => ?_)
          · exact absurd c8 c11
          · refine x_iload_n (pc' := 67) 2 (dX2_sign 31 rfl rfl) rfl rfl rfl ?_
            refine x_bipush (pc' := 69) (v := 61) (dX2_sign 32 rfl rfl) (by decide) rfl ?_
            refine x_icmp_ne (pc' := 72) (tgt := 78) (dX2_sign 33 rfl rfl) (by decide) rfl (fun c12 => ?_) (fun c12 => ?_)
            · replace hf := hf.2 c12
              exact X.sub [0, 1, 2] rfl (by simp) hf
            · replace hf := hf.1 (Classical.not_not.mp c12)
              replace c12 := Classical.not_not.mp c12
              refine x_sipush (pc' := 75) (v := 287) (dX2_sign 34 rfl rfl) (by decide) rfl ?_
              refine x_goto (tgt := 133) (dX2_sign 35 rfl rfl) (by decide) ?_
              exact X.sub [0, 1] rfl (by simp) hf
        · replace hf := hf.1 (Classical.not_not.mp c10)
          replace c10 := Classical.not_not.mp c10
          refine x_sipush (pc' := 57) (v := 286) (dX2_sign 26 rfl rfl) (by decide) rfl ?_
          refine x_goto (tgt := 133) (dX2_sign 27 rfl rfl) (by decide) ?_
          exact X.sub [0, 1] rfl (by simp) hf
    · replace hf := hf.1 (Classical.not_not.mp c7)
      replace c7 := Classical.not_not.mp c7
      refine x_sipush (pc' := 39) (v := 285) (dX2_sign 18 rfl rfl) (by decide) rfl ?_
      refine x_goto (tgt := 133) (dX2_sign 19 rfl rfl) (by decide) ?_
      exact X.sub [0, 1] rfl (by simp) hf
theorem bX2_sign_78 (G : Gh) (d : Nat) (h : AH) (Q : Outcome → AH → Prop) (l1 : Int32) (l2 : Int32) (hf : (l1 = 60 → ((l2 = 62 → (X G mX2_sign (d + 1) none [] 133 [(0, .ref (gW G 1)), (1, .int (l1))] [.int (288)] h Q)) ∧ (¬ l2 = 62 → ((l2 = 61 → (X G mX2_sign (d + 1) none [] 133 [(0, .ref (gW G 1)), (1, .int (l1))] [.int (289)] h Q)) ∧ (¬ l2 = 61 → ((l1 = 62 → (X G mX2_sign (d + 1) none [] 133 [(0, .ref (gW G 1)), (1, .int (l1))] [.int (0)] h Q)) ∧ (¬ l1 = 62 → (X G mX2_sign (d + 1) none [] 133 [(0, .ref (gW G 1)), (1, .int (l1))] [.int (0)] h Q)))))))) ∧ (¬ l1 = 60 → ((l1 = 62 → ((l2 = 61 → (X G mX2_sign (d + 1) none [] 133 [(0, .ref (gW G 1)), (1, .int (l1))] [.int (290)] h Q)) ∧ (¬ l2 = 61 → (X G mX2_sign (d + 1) none [] 133 [(0, .ref (gW G 1)), (1, .int (l1))] [.int (0)] h Q)))) ∧ (¬ l1 = 62 → (X G mX2_sign (d + 1) none [] 133 [(0, .ref (gW G 1)), (1, .int (l1))] [.int (0)] h Q))))) : X G mX2_sign (d + 1) none [] 78 [(0, .ref (gW G 1)), (1, .int (l1)), (2, .int (l2))] [] h Q := by
  refine x_iload_n (pc' := 79) 1 (dX2_sign 36 rfl rfl) rfl rfl rfl ?_
  refine x_bipush (pc' := 81) (v := 60) (dX2_sign 37 rfl rfl) (by decide) rfl ?_
  refine x_icmp_ne (pc' := 84) (tgt := 96) (dX2_sign 38 rfl rfl) (by decide) rfl (fun c1 => ?_) (fun c1 => ?_)
  · replace hf := hf.2 c1
    refine x_iload_n (pc' := 97) 1 (dX2_sign 44 rfl rfl) rfl rfl rfl ?_
    refine x_bipush (pc' := 99) (v := 60) (dX2_sign 45 rfl rfl) (by decide) rfl ?_
    refine x_icmp_ne (pc' := 102) (tgt := 114) (dX2_sign 46 rfl rfl) (by decide) rfl (fun c2 => ?_) (fun c2 => ?_)
    · refine x_iload_n (pc' := 115) 1 (dX2_sign 52 rfl rfl) rfl rfl rfl ?_
      refine x_bipush (pc' := 117) (v := 62) (dX2_sign 53 rfl rfl) (by decide) rfl ?_
      refine x_icmp_ne (pc' := 120) (tgt := 132) (dX2_sign 54 rfl rfl) (by decide) rfl (fun c3 => ?_) (fun c3 => ?_)
      · replace hf := hf.2 c3
        refine x_iconst (pc' := 133) (v := 0) (dX2_sign 60 rfl rfl) (by decide) rfl ?_
        exact X.sub [0, 1] rfl (by simp) hf
      · replace hf := hf.1 (Classical.not_not.mp c3)
        replace c3 := Classical.not_not.mp c3
        refine x_iload_n (pc' := 121) 2 (dX2_sign 55 rfl rfl) rfl rfl rfl ?_
        refine x_bipush (pc' := 123) (v := 61) (dX2_sign 56 rfl rfl) (by decide) rfl ?_
        refine x_icmp_ne (pc' := 126) (tgt := 132) (dX2_sign 57 rfl rfl) (by decide) rfl (fun c4 => ?_) (fun c4 => ?_)
        · replace hf := hf.2 c4
          refine x_iconst (pc' := 133) (v := 0) (dX2_sign 60 rfl rfl) (by decide) rfl ?_
          exact X.sub [0, 1] rfl (by simp) hf
        · replace hf := hf.1 (Classical.not_not.mp c4)
          replace c4 := Classical.not_not.mp c4
          refine x_sipush (pc' := 129) (v := 290) (dX2_sign 58 rfl rfl) (by decide) rfl ?_
          refine x_goto (tgt := 133) (dX2_sign 59 rfl rfl) (by decide) ?_
          exact X.sub [0, 1] rfl (by simp) hf
    · exact absurd c1 c2
  · replace hf := hf.1 (Classical.not_not.mp c1)
    replace c1 := Classical.not_not.mp c1
    refine x_iload_n (pc' := 85) 2 (dX2_sign 39 rfl rfl) rfl rfl rfl ?_
    refine x_bipush (pc' := 87) (v := 62) (dX2_sign 40 rfl rfl) (by decide) rfl ?_
    refine x_icmp_ne (pc' := 90) (tgt := 96) (dX2_sign 41 rfl rfl) (by decide) rfl (fun c5 => ?_) (fun c5 => ?_)
    · replace hf := hf.2 c5
      refine x_iload_n (pc' := 97) 1 (dX2_sign 44 rfl rfl) rfl rfl rfl ?_
      refine x_bipush (pc' := 99) (v := 60) (dX2_sign 45 rfl rfl) (by decide) rfl ?_
      refine x_icmp_ne (pc' := 102) (tgt := 114) (dX2_sign 46 rfl rfl) (by decide) rfl (fun c6 => ?_) (fun c6 => ?_)
      · exact absurd c1 c6
      · refine x_iload_n (pc' := 103) 2 (dX2_sign 47 rfl rfl) rfl rfl rfl ?_
        refine x_bipush (pc' := 105) (v := 61) (dX2_sign 48 rfl rfl) (by decide) rfl ?_
        refine x_icmp_ne (pc' := 108) (tgt := 114) (dX2_sign 49 rfl rfl) (by decide) rfl (fun c7 => ?_) (fun c7 => ?_)
        · replace hf := hf.2 c7
          refine x_iload_n (pc' := 115) 1 (dX2_sign 52 rfl rfl) rfl rfl rfl ?_
          refine x_bipush (pc' := 117) (v := 62) (dX2_sign 53 rfl rfl) (by decide) rfl ?_
          refine x_icmp_ne (pc' := 120) (tgt := 132) (dX2_sign 54 rfl rfl) (by decide) rfl (fun c8 => ?_) (fun c8 => ?_)
          · replace hf := hf.2 c8
            refine x_iconst (pc' := 133) (v := 0) (dX2_sign 60 rfl rfl) (by decide) rfl ?_
            exact X.sub [0, 1] rfl (by simp) hf
          · replace hf := hf.1 (Classical.not_not.mp c8)
            replace c8 := Classical.not_not.mp c8
            refine x_iload_n (pc' := 121) 2 (dX2_sign 55 rfl rfl) rfl rfl rfl ?_
            refine x_bipush (pc' := 123) (v := 61) (dX2_sign 56 rfl rfl) (by decide) rfl ?_
            refine x_icmp_ne (pc' := 126) (tgt := 132) (dX2_sign 57 rfl rfl) (by decide) rfl (fun c9 => ?_) (fun c9 => ?_)
            · refine x_iconst (pc' := 133) (v := 0) (dX2_sign 60 rfl rfl) (by decide) rfl ?_
              exact X.sub [0, 1] rfl (by simp) hf
            · exact absurd c7 c9
        · replace hf := hf.1 (Classical.not_not.mp c7)
          replace c7 := Classical.not_not.mp c7
          refine x_sipush (pc' := 111) (v := 289) (dX2_sign 50 rfl rfl) (by decide) rfl ?_
          refine x_goto (tgt := 133) (dX2_sign 51 rfl rfl) (by decide) ?_
          exact X.sub [0, 1] rfl (by simp) hf
    · replace hf := hf.1 (Classical.not_not.mp c5)
      replace c5 := Classical.not_not.mp c5
      refine x_sipush (pc' := 93) (v := 288) (dX2_sign 42 rfl rfl) (by decide) rfl ?_
      refine x_goto (tgt := 133) (dX2_sign 43 rfl rfl) (by decide) ?_
      exact X.sub [0, 1] rfl (by simp) hf
theorem bX2_sign_133 (G : Gh) (d : Nat) (h : AH) (Q : Outcome → AH → Prop) (l1 : Int32) (t0 : Int32) (hf : ∃ n3, n3 < slen.length ∧ G.2.2.2.1 24 = G.2.2.2.1 n3 ∧ (C G mJ0_indexOf d [.ref (G.2.2.2.1 24), .int (l1)] h (KI Q (fun x4 h1 => (x4 < 0 → ((t0 = 0 → (X G mX2_sign (d + 1) none [] 171 [(0, .ref (gW G 1)), (3, .int (t0)), (4, .int (0))] [.int (292), .ref (gW G 1)] h1 Q)) ∧ (¬ t0 = 0 → (X G mX2_sign (d + 1) none [] 171 [(0, .ref (gW G 1)), (3, .int (t0)), (4, .int (0))] [.int (t0), .ref (gW G 1)] h1 Q)))) ∧ (¬ (x4 < 0) → ((t0 = 0 → (X G mX2_sign (d + 1) none [] 171 [(0, .ref (gW G 1)), (3, .int (t0)), (4, .int (1))] [.int (l1), .ref (gW G 1)] h1 Q)) ∧ (¬ t0 = 0 → (X G mX2_sign (d + 1) none [] 171 [(0, .ref (gW G 1)), (3, .int (t0)), (4, .int (1))] [.int (t0), .ref (gW G 1)] h1 Q)))))))) : X G mX2_sign (d + 1) none [] 133 [(0, .ref (gW G 1)), (1, .int (l1))] [.int (t0)] h Q := by
  refine x_istore_n (pc' := 134) (dX2_sign 61 rfl rfl) rfl (by decide) rfl rfl ?_
  refine x_ldcS (pc' := 136) (tx := "()[],;|_+-*~!=<>@") (i := 24) (dX2_sign 62 rfl rfl) (List.mem_of_getElem? (i := 24) rfl) rfl ?_
  refine x_iload_n (pc' := 137) 2 (dX2_sign 63 rfl rfl) rfl rfl rfl ?_
  obtain ⟨n3, n3l, n3e, hf⟩ := hf
  refine x_inv (pc' := 140) (ν := mJ0_indexOf) (av := [_, _]) (st := []) rfl rfl (dX2_sign 64 rfl rfl) (Nat.le_of_ble_eq_true rfl) wJ0_indexOf q215 (inv_VSa n3e (dX2_sign 64 rfl rfl) q1202 q1203 q1204 wJ0_indexOf (by decide) lJ0_indexOf n3l) (exN (by decide)) rfl ?_
  refine C.mono hf (fun _ _ => KI.g (fun x4 h1 hf le2 => ?_))
  refine x_if_lt (pc' := 143) (tgt := 147) (dX2_sign 65 rfl rfl) (by decide) rfl (fun c5 => ?_) (fun c5 => ?_)
  · replace hf := hf.1 c5
    refine x_iconst (pc' := 148) (v := 0) (dX2_sign 68 rfl rfl) (by decide) rfl ?_
    refine x_istore (pc' := 150) (dX2_sign 69 rfl rfl) (by decide) rfl rfl ?_
    refine x_aload_n (pc' := 151) 2 (dX2_sign 70 rfl rfl) rfl rfl rfl ?_
    refine x_iload_n (pc' := 152) 1 (dX2_sign 71 rfl rfl) rfl rfl rfl ?_
    refine x_if_eq (pc' := 155) (tgt := 159) (dX2_sign 72 rfl rfl) (by decide) rfl (fun c6 => ?_) (fun c6 => ?_)
    · replace hf := hf.1 c6
      refine x_iload (pc' := 161) 0 (dX2_sign 75 rfl rfl) rfl rfl ?_
      refine x_if_eq (pc' := 164) (tgt := 168) (dX2_sign 76 rfl rfl) (by decide) rfl (fun c7 => ?_) (fun c7 => ?_)
      · refine x_sipush (pc' := 171) (v := 292) (dX2_sign 79 rfl rfl) (by decide) rfl ?_
        exact X.sub [2, 1, 0] rfl (by simp) hf
      · exact absurd (by decide) c7
    · replace hf := hf.2 c6
      refine x_iload_n (pc' := 156) 1 (dX2_sign 73 rfl rfl) rfl rfl rfl ?_
      refine x_goto (tgt := 171) (dX2_sign 74 rfl rfl) (by decide) ?_
      exact X.sub [2, 1, 0] rfl (by simp) hf
  · replace hf := hf.2 c5
    refine x_iconst (pc' := 144) (v := 1) (dX2_sign 66 rfl rfl) (by decide) rfl ?_
    refine x_goto (tgt := 148) (dX2_sign 67 rfl rfl) (by decide) ?_
    refine x_istore (pc' := 150) (dX2_sign 69 rfl rfl) (by decide) rfl rfl ?_
    refine x_aload_n (pc' := 151) 2 (dX2_sign 70 rfl rfl) rfl rfl rfl ?_
    refine x_iload_n (pc' := 152) 1 (dX2_sign 71 rfl rfl) rfl rfl rfl ?_
    refine x_if_eq (pc' := 155) (tgt := 159) (dX2_sign 72 rfl rfl) (by decide) rfl (fun c8 => ?_) (fun c8 => ?_)
    · replace hf := hf.1 c8
      refine x_iload (pc' := 161) 0 (dX2_sign 75 rfl rfl) rfl rfl ?_
      refine x_if_eq (pc' := 164) (tgt := 168) (dX2_sign 76 rfl rfl) (by decide) rfl (fun c9 => ?_) (fun c9 => ?_)
      · exact absurd c9 (by decide)
      · refine x_iload_n (pc' := 165) 3 (dX2_sign 77 rfl rfl) rfl rfl rfl ?_
        refine x_goto (tgt := 171) (dX2_sign 78 rfl rfl) (by decide) ?_
        exact X.sub [2, 1, 0] rfl (by simp) hf
    · replace hf := hf.2 c8
      refine x_iload_n (pc' := 156) 1 (dX2_sign 73 rfl rfl) rfl rfl rfl ?_
      refine x_goto (tgt := 171) (dX2_sign 74 rfl rfl) (by decide) ?_
      exact X.sub [2, 1, 0] rfl (by simp) hf
theorem bX2_sign_171 (G : Gh) (d : Nat) (h : AH) (Q : Outcome → AH → Prop) (l3 : Int32) (l4 : Int32) (t0 : Int32) (s1 : So 1 (gW G) h) (hf : C G mX2_add d [.ref (gW G 1), .int (t0), .int (fI h (gW G 1) 29)] h (KV Q (fun h1 => (l3 = 0 → (∀ h4, h4 = pI h1 (gW G 1) 29 ((fI h1 (gW G 1) 29) + 1) → ((l4 = 0 → (Q (.returned (some (.int 0))) h4)) ∧ (¬ l4 = 0 → (Q (.returned (some (.int 1))) h4))))) ∧ (¬ l3 = 0 → (∀ h8, h8 = pI h1 (gW G 1) 29 ((fI h1 (gW G 1) 29) + 2) → (Q (.returned (some (.int 1))) h8)))))) : X G mX2_sign (d + 1) none [] 171 [(0, .ref (gW G 1)), (3, .int (l3)), (4, .int (l4))] [.int (t0), .ref (gW G 1)] h Q := by
  refine x_aload_n (pc' := 172) 0 (dX2_sign 80 rfl rfl) rfl rfl rfl ?_
  refine x_getI (pc' := 175) (dX2_sign 81 rfl rfl) g29 q339 (Or.inl rfl) rfl (hf_of 1 s1.1 rfl (by decide) m1_29) ?_
  refine x_inv (pc' := 178) (ν := mX2_add) (av := [_, _, _]) (st := []) rfl rfl (dX2_sign 82 rfl rfl) (Nat.le_of_ble_eq_true rfl) wX2_add q212 (inv_V (k := 1) (dX2_sign 82 rfl rfl) q1173 q1175 qs7 wX2_add (by decide) lX2_add (by decide) s1.1) (exN (by decide)) rfl ?_
  refine C.mono hf (fun _ _ => KV.g (fun h1 hf le2 => ?_))
  replace s1 := s1.le sc1 (le2)
  refine x_aload_n (pc' := 179) 0 (dX2_sign 83 rfl rfl) rfl rfl rfl ?_
  refine x_dup (pc' := 180) (dX2_sign 84 rfl rfl) rfl rfl ?_
  refine x_getI (pc' := 183) (dX2_sign 85 rfl rfl) g29 q339 (Or.inl rfl) rfl (hf_of 1 s1.1 rfl (by decide) m1_29) ?_
  refine x_iload_n (pc' := 184) 1 (dX2_sign 86 rfl rfl) rfl rfl rfl ?_
  refine x_if_eq (pc' := 187) (tgt := 191) (dX2_sign 87 rfl rfl) (by decide) rfl (fun c3 => ?_) (fun c3 => ?_)
  · replace hf := hf.1 c3
    refine x_iconst (pc' := 192) (v := 1) (dX2_sign 90 rfl rfl) (by decide) rfl ?_
    refine x_iadd (pc' := 193) (dX2_sign 91 rfl rfl) rfl ?_
    refine x_putI (pc' := 196) (dX2_sign 92 rfl rfl) g29 q339 (Or.inl rfl) (Or.inl rfl) (Or.inl (by decide)) rfl (hf_of 1 s1.1 rfl (by decide) m1_29) (fun h4 e7 => ?_)
    replace hf := hf h4 e7
    replace s1 : So 1 (gW G) h4 := by rw [e7]; exact s1.le sc1 (pI_le (Or.inl rfl))
    refine x_iload_n (pc' := 197) 1 (dX2_sign 93 rfl rfl) rfl rfl rfl ?_
    refine x_if_ne (pc' := 200) (tgt := 205) (dX2_sign 94 rfl rfl) (by decide) rfl (fun c5 => ?_) (fun c5 => ?_)
    · exact absurd c3 c5
    · refine x_iload (pc' := 202) 2 (dX2_sign 95 rfl rfl) rfl rfl ?_
      refine x_if_eq (pc' := 205) (tgt := 209) (dX2_sign 96 rfl rfl) (by decide) rfl (fun c6 => ?_) (fun c6 => ?_)
      · replace hf := hf.1 c6
        refine x_iconst (pc' := 210) (v := 0) (dX2_sign 99 rfl rfl) (by decide) rfl ?_
        exact x_zret (ty := .boolean) (dX2_sign 100 rfl rfl) rfl (by decide) hf
      · replace hf := hf.2 c6
        refine x_iconst (pc' := 206) (v := 1) (dX2_sign 97 rfl rfl) (by decide) rfl ?_
        refine x_goto (tgt := 210) (dX2_sign 98 rfl rfl) (by decide) ?_
        exact x_zret (ty := .boolean) (dX2_sign 100 rfl rfl) rfl (by decide) hf
  · replace hf := hf.2 c3
    refine x_iconst (pc' := 188) (v := 2) (dX2_sign 88 rfl rfl) (by decide) rfl ?_
    refine x_goto (tgt := 192) (dX2_sign 89 rfl rfl) (by decide) ?_
    refine x_iadd (pc' := 193) (dX2_sign 91 rfl rfl) rfl ?_
    refine x_putI (pc' := 196) (dX2_sign 92 rfl rfl) g29 q339 (Or.inl rfl) (Or.inl rfl) (Or.inl (by decide)) rfl (hf_of 1 s1.1 rfl (by decide) m1_29) (fun h8 e10 => ?_)
    replace hf := hf h8 e10
    replace s1 : So 1 (gW G) h8 := by rw [e10]; exact s1.le sc1 (pI_le (Or.inl rfl))
    refine x_iload_n (pc' := 197) 1 (dX2_sign 93 rfl rfl) rfl rfl rfl ?_
    refine x_if_ne (pc' := 200) (tgt := 205) (dX2_sign 94 rfl rfl) (by decide) rfl (fun c9 => ?_) (fun c9 => ?_)
    · refine x_iconst (pc' := 206) (v := 1) (dX2_sign 97 rfl rfl) (by decide) rfl ?_
      refine x_goto (tgt := 210) (dX2_sign 98 rfl rfl) (by decide) ?_
      exact x_zret (ty := .boolean) (dX2_sign 100 rfl rfl) rfl (by decide) hf
    · exact absurd c3 c9
theorem bX3_init (G : Gh) (d : Nat) (h : AH) (Q : Outcome → AH → Prop) (a0 : Nat) (hf : (¬ (150000 : Int32) < 0) ∧ (hc h + 1 ≤ MC) ∧ (hs h + (150000 : Int32).toNatClampNeg ≤ MS) ∧ ∀ q1, hK h q1 = 0 → ∀ h3, h3 = nA h q1 0 (150000 : Int32).toNatClampNeg → (hK h3 a0 = 3 ∧ (∀ h8, h8 = pR h3 a0 30 (some q1) → ((¬ (150000 : Int32) < 0) ∧ (hc h8 + 1 ≤ MC) ∧ (hs h8 + (150000 : Int32).toNatClampNeg ≤ MS) ∧ ∀ q9, hK h8 q9 = 0 → ∀ h11, h11 = nA h8 q9 0 (150000 : Int32).toNatClampNeg → (∀ h15, h15 = pR h11 a0 31 (some q9) → ((¬ (150000 : Int32) < 0) ∧ (hc h15 + 1 ≤ MC) ∧ (hs h15 + (150000 : Int32).toNatClampNeg ≤ MS) ∧ ∀ q16, hK h15 q16 = 0 → ∀ h18, h18 = nA h15 q16 0 (150000 : Int32).toNatClampNeg → (∀ h22, h22 = pR h18 a0 32 (some q16) → ((¬ (150000 : Int32) < 0) ∧ (hc h22 + 1 ≤ MC) ∧ (hs h22 + (150000 : Int32).toNatClampNeg ≤ MS) ∧ ∀ q23, hK h22 q23 = 0 → ∀ h25, h25 = nA h22 q23 0 (150000 : Int32).toNatClampNeg → (∀ h29, h29 = pR h25 a0 33 (some q23) → ((¬ (150000 : Int32) < 0) ∧ (hc h29 + 1 ≤ MC) ∧ (hs h29 + (150000 : Int32).toNatClampNeg ≤ MS) ∧ ∀ q30, hK h29 q30 = 0 → ∀ h32, h32 = nA h29 q30 0 (150000 : Int32).toNatClampNeg → (∀ h36, h36 = pR h32 a0 34 (some q30) → ((¬ (150000 : Int32) < 0) ∧ (hc h36 + 1 ≤ MC) ∧ (hs h36 + (150000 : Int32).toNatClampNeg ≤ MS) ∧ ∀ q37, hK h36 q37 = 0 → ∀ h39, h39 = nA h36 q37 0 (150000 : Int32).toNatClampNeg → (∀ h43, h43 = pR h39 a0 35 (some q37) → ((¬ (300000 : Int32) < 0) ∧ (hc h43 + 1 ≤ MC) ∧ (hs h43 + (300000 : Int32).toNatClampNeg ≤ MS) ∧ ∀ q44, hK h43 q44 = 0 → ∀ h46, h46 = nA h43 q44 0 (300000 : Int32).toNatClampNeg → (∀ h50, h50 = pR h46 a0 39 (some q44) → ((¬ (212 : Int32) < 0) ∧ (hc h50 + 1 ≤ MC) ∧ (hs h50 + (212 : Int32).toNatClampNeg ≤ MS) ∧ ∀ q51, hK h50 q51 = 0 → ∀ h53, h53 = nA h50 q51 6 (212 : Int32).toNatClampNeg → (∀ h57, h57 = pR h53 a0 40 (some q51) → ((¬ (200 : Int32) < 0) ∧ (hc h57 + 1 ≤ MC) ∧ (hs h57 + (200 : Int32).toNatClampNeg ≤ MS) ∧ ∀ q58, hK h57 q58 = 0 → ∀ h60, h60 = nA h57 q58 0 (200 : Int32).toNatClampNeg → (∀ h64, h64 = pR h60 a0 46 (some q58) → (C G mX3_add d [.ref (a0), .ref (G.2.2.2.1 25), .int (2)] h64 (KV Q (fun h65 => C G mX3_add d [.ref (a0), .ref (G.2.2.2.1 25), .int (0)] h65 (KV Q (fun h67 => X G mX3_init (d + 1) (some a0) [] 95 [(0, .ref (a0)), (1, .int (2))] [] h67 Q)))))))))))))))))))))))) : C G mX3_init (d + 1) [.ref (a0)] h Q := by
  refine C.of_X (by decide +kernel) (Nat.le_of_ble_eq_true rfl) wX3_init ?_
  show X G mX3_init (d + 1) (some a0) [] 0 [(0, .ref (a0))] [] h Q
  refine x_aload_n (pc' := 1) 0 (dX3_init 0 rfl rfl) rfl rfl rfl ?_
  refine x_objInit (pc' := 4) (dX3_init 1 rfl rfl) q367 q288 q289 (by decide) (by omega) rfl ?_
  refine x_aload_n (pc' := 5) 0 (dX3_init 2 rfl rfl) rfl rfl rfl ?_
  refine x_ldc (pc' := 7) (dX3_init 3 rfl rfl) q368 rfl ?_
  obtain ⟨z5, n1, n2, hf⟩ := hf
  refine x_newa0 (pc' := 9) (dX3_init 4 rfl rfl) rfl z5 (by decide) n1 n2 (fun q1 h3 k2 e4 => ?_)
  replace hf := hf q1 k2 h3 e4
  have k6 : hK h3 q1 = 1000 := by rw [e4]; exact kNAs
  obtain ⟨k7, hf⟩ := hf
  refine x_putR (pc' := 12) (dX3_init 5 rfl rfl) g30 q479 (Or.inl rfl) (Or.inr ⟨rfl, rfl, rfl, rfl⟩) (Or.inr rfl) rfl (hf_of 2 k7 rfl (by decide) m2_30) (fun h8 e77 => ?_)
  replace hf := hf h8 e77
  replace k6 : hK h8 q1 = 1000 := by rw [e77]; exact k6
  replace k7 : hK h8 a0 = 3 := by rw [e77]; exact k7
  refine x_aload_n (pc' := 13) 0 (dX3_init 6 rfl rfl) rfl rfl rfl ?_
  refine x_ldc (pc' := 15) (dX3_init 7 rfl rfl) q368 rfl ?_
  obtain ⟨z13, n1, n2, hf⟩ := hf
  refine x_newa0 (pc' := 17) (dX3_init 8 rfl rfl) rfl z13 (by decide) n1 n2 (fun q9 h11 k10 e12 => ?_)
  replace hf := hf q9 k10 h11 e12
  replace k6 : hK h11 q1 = 1000 := by rw [e12]; exact kNA k6 (by decide) k10
  replace k7 : hK h11 a0 = 3 := by rw [e12]; exact kNA k7 (by decide) k10
  have k14 : hK h11 q9 = 1000 := by rw [e12]; exact kNAs
  refine x_putR (pc' := 20) (dX3_init 9 rfl rfl) g31 q480 (Or.inl rfl) (Or.inr ⟨rfl, rfl, rfl, rfl⟩) (Or.inr rfl) rfl (hf_of 2 k7 rfl (by decide) m2_31) (fun h15 e76 => ?_)
  replace hf := hf h15 e76
  replace k6 : hK h15 q1 = 1000 := by rw [e76]; exact k6
  replace k7 : hK h15 a0 = 3 := by rw [e76]; exact k7
  replace k14 : hK h15 q9 = 1000 := by rw [e76]; exact k14
  refine x_aload_n (pc' := 21) 0 (dX3_init 10 rfl rfl) rfl rfl rfl ?_
  refine x_ldc (pc' := 23) (dX3_init 11 rfl rfl) q368 rfl ?_
  obtain ⟨z20, n1, n2, hf⟩ := hf
  refine x_newa0 (pc' := 25) (dX3_init 12 rfl rfl) rfl z20 (by decide) n1 n2 (fun q16 h18 k17 e19 => ?_)
  replace hf := hf q16 k17 h18 e19
  replace k6 : hK h18 q1 = 1000 := by rw [e19]; exact kNA k6 (by decide) k17
  replace k7 : hK h18 a0 = 3 := by rw [e19]; exact kNA k7 (by decide) k17
  replace k14 : hK h18 q9 = 1000 := by rw [e19]; exact kNA k14 (by decide) k17
  have k21 : hK h18 q16 = 1000 := by rw [e19]; exact kNAs
  refine x_putR (pc' := 28) (dX3_init 13 rfl rfl) g32 q481 (Or.inl rfl) (Or.inr ⟨rfl, rfl, rfl, rfl⟩) (Or.inr rfl) rfl (hf_of 2 k7 rfl (by decide) m2_32) (fun h22 e75 => ?_)
  replace hf := hf h22 e75
  replace k6 : hK h22 q1 = 1000 := by rw [e75]; exact k6
  replace k7 : hK h22 a0 = 3 := by rw [e75]; exact k7
  replace k14 : hK h22 q9 = 1000 := by rw [e75]; exact k14
  replace k21 : hK h22 q16 = 1000 := by rw [e75]; exact k21
  refine x_aload_n (pc' := 29) 0 (dX3_init 14 rfl rfl) rfl rfl rfl ?_
  refine x_ldc (pc' := 31) (dX3_init 15 rfl rfl) q368 rfl ?_
  obtain ⟨z27, n1, n2, hf⟩ := hf
  refine x_newa0 (pc' := 33) (dX3_init 16 rfl rfl) rfl z27 (by decide) n1 n2 (fun q23 h25 k24 e26 => ?_)
  replace hf := hf q23 k24 h25 e26
  replace k6 : hK h25 q1 = 1000 := by rw [e26]; exact kNA k6 (by decide) k24
  replace k7 : hK h25 a0 = 3 := by rw [e26]; exact kNA k7 (by decide) k24
  replace k14 : hK h25 q9 = 1000 := by rw [e26]; exact kNA k14 (by decide) k24
  replace k21 : hK h25 q16 = 1000 := by rw [e26]; exact kNA k21 (by decide) k24
  have k28 : hK h25 q23 = 1000 := by rw [e26]; exact kNAs
  refine x_putR (pc' := 36) (dX3_init 17 rfl rfl) g33 q482 (Or.inl rfl) (Or.inr ⟨rfl, rfl, rfl, rfl⟩) (Or.inr rfl) rfl (hf_of 2 k7 rfl (by decide) m2_33) (fun h29 e74 => ?_)
  replace hf := hf h29 e74
  replace k6 : hK h29 q1 = 1000 := by rw [e74]; exact k6
  replace k7 : hK h29 a0 = 3 := by rw [e74]; exact k7
  replace k14 : hK h29 q9 = 1000 := by rw [e74]; exact k14
  replace k21 : hK h29 q16 = 1000 := by rw [e74]; exact k21
  replace k28 : hK h29 q23 = 1000 := by rw [e74]; exact k28
  refine x_aload_n (pc' := 37) 0 (dX3_init 18 rfl rfl) rfl rfl rfl ?_
  refine x_ldc (pc' := 39) (dX3_init 19 rfl rfl) q368 rfl ?_
  obtain ⟨z34, n1, n2, hf⟩ := hf
  refine x_newa0 (pc' := 41) (dX3_init 20 rfl rfl) rfl z34 (by decide) n1 n2 (fun q30 h32 k31 e33 => ?_)
  replace hf := hf q30 k31 h32 e33
  replace k6 : hK h32 q1 = 1000 := by rw [e33]; exact kNA k6 (by decide) k31
  replace k7 : hK h32 a0 = 3 := by rw [e33]; exact kNA k7 (by decide) k31
  replace k14 : hK h32 q9 = 1000 := by rw [e33]; exact kNA k14 (by decide) k31
  replace k21 : hK h32 q16 = 1000 := by rw [e33]; exact kNA k21 (by decide) k31
  replace k28 : hK h32 q23 = 1000 := by rw [e33]; exact kNA k28 (by decide) k31
  have k35 : hK h32 q30 = 1000 := by rw [e33]; exact kNAs
  refine x_putR (pc' := 44) (dX3_init 21 rfl rfl) g34 q483 (Or.inl rfl) (Or.inr ⟨rfl, rfl, rfl, rfl⟩) (Or.inr rfl) rfl (hf_of 2 k7 rfl (by decide) m2_34) (fun h36 e73 => ?_)
  replace hf := hf h36 e73
  replace k6 : hK h36 q1 = 1000 := by rw [e73]; exact k6
  replace k7 : hK h36 a0 = 3 := by rw [e73]; exact k7
  replace k14 : hK h36 q9 = 1000 := by rw [e73]; exact k14
  replace k21 : hK h36 q16 = 1000 := by rw [e73]; exact k21
  replace k28 : hK h36 q23 = 1000 := by rw [e73]; exact k28
  replace k35 : hK h36 q30 = 1000 := by rw [e73]; exact k35
  refine x_aload_n (pc' := 45) 0 (dX3_init 22 rfl rfl) rfl rfl rfl ?_
  refine x_ldc (pc' := 47) (dX3_init 23 rfl rfl) q368 rfl ?_
  obtain ⟨z41, n1, n2, hf⟩ := hf
  refine x_newa0 (pc' := 49) (dX3_init 24 rfl rfl) rfl z41 (by decide) n1 n2 (fun q37 h39 k38 e40 => ?_)
  replace hf := hf q37 k38 h39 e40
  replace k6 : hK h39 q1 = 1000 := by rw [e40]; exact kNA k6 (by decide) k38
  replace k7 : hK h39 a0 = 3 := by rw [e40]; exact kNA k7 (by decide) k38
  replace k14 : hK h39 q9 = 1000 := by rw [e40]; exact kNA k14 (by decide) k38
  replace k21 : hK h39 q16 = 1000 := by rw [e40]; exact kNA k21 (by decide) k38
  replace k28 : hK h39 q23 = 1000 := by rw [e40]; exact kNA k28 (by decide) k38
  replace k35 : hK h39 q30 = 1000 := by rw [e40]; exact kNA k35 (by decide) k38
  have k42 : hK h39 q37 = 1000 := by rw [e40]; exact kNAs
  refine x_putR (pc' := 52) (dX3_init 25 rfl rfl) g35 q484 (Or.inl rfl) (Or.inr ⟨rfl, rfl, rfl, rfl⟩) (Or.inr rfl) rfl (hf_of 2 k7 rfl (by decide) m2_35) (fun h43 e72 => ?_)
  replace hf := hf h43 e72
  replace k6 : hK h43 q1 = 1000 := by rw [e72]; exact k6
  replace k7 : hK h43 a0 = 3 := by rw [e72]; exact k7
  replace k14 : hK h43 q9 = 1000 := by rw [e72]; exact k14
  replace k21 : hK h43 q16 = 1000 := by rw [e72]; exact k21
  replace k28 : hK h43 q23 = 1000 := by rw [e72]; exact k28
  replace k35 : hK h43 q30 = 1000 := by rw [e72]; exact k35
  replace k42 : hK h43 q37 = 1000 := by rw [e72]; exact k42
  refine x_aload_n (pc' := 53) 0 (dX3_init 26 rfl rfl) rfl rfl rfl ?_
  refine x_ldc (pc' := 55) (dX3_init 27 rfl rfl) q369 rfl ?_
  obtain ⟨z48, n1, n2, hf⟩ := hf
  refine x_newa0 (pc' := 57) (dX3_init 28 rfl rfl) rfl z48 (by decide) n1 n2 (fun q44 h46 k45 e47 => ?_)
  replace hf := hf q44 k45 h46 e47
  replace k6 : hK h46 q1 = 1000 := by rw [e47]; exact kNA k6 (by decide) k45
  replace k7 : hK h46 a0 = 3 := by rw [e47]; exact kNA k7 (by decide) k45
  replace k14 : hK h46 q9 = 1000 := by rw [e47]; exact kNA k14 (by decide) k45
  replace k21 : hK h46 q16 = 1000 := by rw [e47]; exact kNA k21 (by decide) k45
  replace k28 : hK h46 q23 = 1000 := by rw [e47]; exact kNA k28 (by decide) k45
  replace k35 : hK h46 q30 = 1000 := by rw [e47]; exact kNA k35 (by decide) k45
  replace k42 : hK h46 q37 = 1000 := by rw [e47]; exact kNA k42 (by decide) k45
  have k49 : hK h46 q44 = 1000 := by rw [e47]; exact kNAs
  refine x_putR (pc' := 60) (dX3_init 29 rfl rfl) g39 q488 (Or.inl rfl) (Or.inr ⟨rfl, rfl, rfl, rfl⟩) (Or.inr rfl) rfl (hf_of 2 k7 rfl (by decide) m2_39) (fun h50 e71 => ?_)
  replace hf := hf h50 e71
  replace k6 : hK h50 q1 = 1000 := by rw [e71]; exact k6
  replace k7 : hK h50 a0 = 3 := by rw [e71]; exact k7
  replace k14 : hK h50 q9 = 1000 := by rw [e71]; exact k14
  replace k21 : hK h50 q16 = 1000 := by rw [e71]; exact k21
  replace k28 : hK h50 q23 = 1000 := by rw [e71]; exact k28
  replace k35 : hK h50 q30 = 1000 := by rw [e71]; exact k35
  replace k42 : hK h50 q37 = 1000 := by rw [e71]; exact k42
  replace k49 : hK h50 q44 = 1000 := by rw [e71]; exact k49
  refine x_aload_n (pc' := 61) 0 (dX3_init 30 rfl rfl) rfl rfl rfl ?_
  refine x_sipush (pc' := 64) (v := 212) (dX3_init 31 rfl rfl) (by decide) rfl ?_
  obtain ⟨z55, n1, n2, hf⟩ := hf
  refine x_newq (pc' := 67) (t := 6) (E := "LetMill$TypeName") (dX3_init 32 rfl rfl) q370 (by decide) (by decide) rfl rfl z55 (by decide) n1 n2 (fun q51 h53 k52 e54 => ?_)
  replace hf := hf q51 k52 h53 e54
  replace k6 : hK h53 q1 = 1000 := by rw [e54]; exact kNA k6 (by decide) k52
  replace k7 : hK h53 a0 = 3 := by rw [e54]; exact kNA k7 (by decide) k52
  replace k14 : hK h53 q9 = 1000 := by rw [e54]; exact kNA k14 (by decide) k52
  replace k21 : hK h53 q16 = 1000 := by rw [e54]; exact kNA k21 (by decide) k52
  replace k28 : hK h53 q23 = 1000 := by rw [e54]; exact kNA k28 (by decide) k52
  replace k35 : hK h53 q30 = 1000 := by rw [e54]; exact kNA k35 (by decide) k52
  replace k42 : hK h53 q37 = 1000 := by rw [e54]; exact kNA k42 (by decide) k52
  replace k49 : hK h53 q44 = 1000 := by rw [e54]; exact kNA k49 (by decide) k52
  have k56 : hK h53 q51 = 1006 := by rw [e54]; exact kNAs
  refine x_putR (pc' := 70) (dX3_init 33 rfl rfl) g40 q489 (Or.inl rfl) (Or.inr ⟨rfl, rfl, rfl, rfl⟩) (Or.inr rfl) rfl (hf_of 2 k7 rfl (by decide) m2_40) (fun h57 e70 => ?_)
  replace hf := hf h57 e70
  replace k6 : hK h57 q1 = 1000 := by rw [e70]; exact k6
  replace k7 : hK h57 a0 = 3 := by rw [e70]; exact k7
  replace k14 : hK h57 q9 = 1000 := by rw [e70]; exact k14
  replace k21 : hK h57 q16 = 1000 := by rw [e70]; exact k21
  replace k28 : hK h57 q23 = 1000 := by rw [e70]; exact k28
  replace k35 : hK h57 q30 = 1000 := by rw [e70]; exact k35
  replace k42 : hK h57 q37 = 1000 := by rw [e70]; exact k42
  replace k49 : hK h57 q44 = 1000 := by rw [e70]; exact k49
  replace k56 : hK h57 q51 = 1006 := by rw [e70]; exact k56
  refine x_aload_n (pc' := 71) 0 (dX3_init 34 rfl rfl) rfl rfl rfl ?_
  refine x_sipush (pc' := 74) (v := 200) (dX3_init 35 rfl rfl) (by decide) rfl ?_
  obtain ⟨z62, n1, n2, hf⟩ := hf
  refine x_newa0 (pc' := 76) (dX3_init 36 rfl rfl) rfl z62 (by decide) n1 n2 (fun q58 h60 k59 e61 => ?_)
  replace hf := hf q58 k59 h60 e61
  replace k6 : hK h60 q1 = 1000 := by rw [e61]; exact kNA k6 (by decide) k59
  replace k7 : hK h60 a0 = 3 := by rw [e61]; exact kNA k7 (by decide) k59
  replace k14 : hK h60 q9 = 1000 := by rw [e61]; exact kNA k14 (by decide) k59
  replace k21 : hK h60 q16 = 1000 := by rw [e61]; exact kNA k21 (by decide) k59
  replace k28 : hK h60 q23 = 1000 := by rw [e61]; exact kNA k28 (by decide) k59
  replace k35 : hK h60 q30 = 1000 := by rw [e61]; exact kNA k35 (by decide) k59
  replace k42 : hK h60 q37 = 1000 := by rw [e61]; exact kNA k42 (by decide) k59
  replace k49 : hK h60 q44 = 1000 := by rw [e61]; exact kNA k49 (by decide) k59
  replace k56 : hK h60 q51 = 1006 := by rw [e61]; exact kNA k56 (by decide) k59
  have k63 : hK h60 q58 = 1000 := by rw [e61]; exact kNAs
  refine x_putR (pc' := 79) (dX3_init 37 rfl rfl) g46 q508 (Or.inl rfl) (Or.inr ⟨rfl, rfl, rfl, rfl⟩) (Or.inr rfl) rfl (hf_of 2 k7 rfl (by decide) m2_46) (fun h64 e69 => ?_)
  replace hf := hf h64 e69
  replace k6 : hK h64 q1 = 1000 := by rw [e69]; exact k6
  replace k7 : hK h64 a0 = 3 := by rw [e69]; exact k7
  replace k14 : hK h64 q9 = 1000 := by rw [e69]; exact k14
  replace k21 : hK h64 q16 = 1000 := by rw [e69]; exact k21
  replace k28 : hK h64 q23 = 1000 := by rw [e69]; exact k28
  replace k35 : hK h64 q30 = 1000 := by rw [e69]; exact k35
  replace k42 : hK h64 q37 = 1000 := by rw [e69]; exact k42
  replace k49 : hK h64 q44 = 1000 := by rw [e69]; exact k49
  replace k56 : hK h64 q51 = 1006 := by rw [e69]; exact k56
  replace k63 : hK h64 q58 = 1000 := by rw [e69]; exact k63
  refine x_aload_n (pc' := 80) 0 (dX3_init 38 rfl rfl) rfl rfl rfl ?_
  refine x_ldcS (pc' := 82) (tx := "") (i := 25) (dX3_init 39 rfl rfl) (List.mem_of_getElem? (i := 25) rfl) rfl ?_
  refine x_iconst (pc' := 83) (v := 2) (dX3_init 40 rfl rfl) (by decide) rfl ?_
  refine x_inv (pc' := 86) (ν := mX3_add) (av := [_, _, _]) (st := []) rfl rfl (dX3_init 41 rfl rfl) (Nat.le_of_ble_eq_true rfl) wX3_add q213 (inv_V (k := 2) (dX3_init 41 rfl rfl) q373 q375 qs0 wX3_add (by decide) lX3_add (by decide) k7) (exN (by decide)) rfl ?_
  refine C.mono hf (fun _ _ => KV.g (fun h65 hf le66 => ?_))
  have k6 := leK le66 k6 (by decide)
  have k7 := leK le66 k7 (by decide)
  have k14 := leK le66 k14 (by decide)
  have k21 := leK le66 k21 (by decide)
  have k28 := leK le66 k28 (by decide)
  have k35 := leK le66 k35 (by decide)
  have k42 := leK le66 k42 (by decide)
  have k49 := leK le66 k49 (by decide)
  have k56 := leK le66 k56 (by decide)
  have k63 := leK le66 k63 (by decide)
  refine x_aload_n (pc' := 87) 0 (dX3_init 42 rfl rfl) rfl rfl rfl ?_
  refine x_ldcS (pc' := 89) (tx := "") (i := 25) (dX3_init 43 rfl rfl) (List.mem_of_getElem? (i := 25) rfl) rfl ?_
  refine x_iconst (pc' := 90) (v := 0) (dX3_init 44 rfl rfl) (by decide) rfl ?_
  refine x_inv (pc' := 93) (ν := mX3_add) (av := [_, _, _]) (st := []) rfl rfl (dX3_init 45 rfl rfl) (Nat.le_of_ble_eq_true rfl) wX3_add q213 (inv_V (k := 2) (dX3_init 45 rfl rfl) q373 q375 qs0 wX3_add (by decide) lX3_add (by decide) k7) (exN (by decide)) rfl ?_
  refine C.mono hf (fun _ _ => KV.g (fun h67 hf le68 => ?_))
  have k6 := leK le68 k6 (by decide)
  have k7 := leK le68 k7 (by decide)
  have k14 := leK le68 k14 (by decide)
  have k21 := leK le68 k21 (by decide)
  have k28 := leK le68 k28 (by decide)
  have k35 := leK le68 k35 (by decide)
  have k42 := leK le68 k42 (by decide)
  have k49 := leK le68 k49 (by decide)
  have k56 := leK le68 k56 (by decide)
  have k63 := leK le68 k63 (by decide)
  refine x_iconst (pc' := 94) (v := 2) (dX3_init 46 rfl rfl) (by decide) rfl ?_
  refine x_istore_n (pc' := 95) (dX3_init 47 rfl rfl) rfl (by decide) rfl rfl ?_
  exact X.sub [1, 0] rfl (by simp) hf
theorem bX3_init_95 (G : Gh) (d : Nat) (h : AH) (Q : Outcome → AH → Prop) (a0 : Nat) (l1 : Int32) (hf : (7 ≤ l1 → (hK h a0 = 3 ∧ (C G mX3_add d [.ref (a0), .ref (G.2.2.2.1 26), .int (0)] h (KV Q (fun h2 => C G mX3_add d [.ref (a0), .ref (G.2.2.2.1 27), .int (0)] h2 (KV Q (fun h5 => C G mX3_add d [.ref (a0), .ref (G.2.2.2.1 28), .int (0)] h5 (KV Q (fun h7 => C G mX3_add d [.ref (a0), .ref (G.2.2.2.1 29), .int (1)] h7 (KV Q (fun h9 => C G mX3_add d [.ref (a0), .ref (G.2.2.2.1 1), .int (1)] h9 (KV Q (fun h11 => C G mX3_built d [.ref (a0), .int (7)] h11 (KI Q (fun x15 h13 => ∀ h16, h16 = pI h13 a0 42 x15 → (C G mX3_built d [.ref (a0), .int (8)] h16 (KI Q (fun x19 h17 => ∀ h20, h20 = pI h17 a0 43 x19 → (C G mX3_built d [.ref (a0), .int (9)] h20 (KI Q (fun x23 h21 => ∀ h24, h24 = pI h21 a0 44 x23 → (Q (.returned none) h24)))))))))))))))))))))) ∧ (¬ (7 ≤ l1) → (hK h a0 = 3 ∧ (C G mX3_add d [.ref (a0), .ref (G.2.2.2.1 25), .int (l1)] h (KV Q (fun h28 => ∀ x31 : Int32, x31 = l1 + 1 → (X G mX3_init (d + 1) (some a0) [] 95 [(0, .ref (a0)), (1, .int (x31))] [] h28 Q))))))) : X G mX3_init (d + 1) (some a0) [] 95 [(0, .ref (a0)), (1, .int (l1))] [] h Q := by
  refine x_iload_n (pc' := 96) 1 (dX3_init 48 rfl rfl) rfl rfl rfl ?_
  refine x_bipush (pc' := 98) (v := 7) (dX3_init 49 rfl rfl) (by decide) rfl ?_
  refine x_icmp_ge (pc' := 101) (tgt := 114) (dX3_init 50 rfl rfl) (by decide) rfl (fun c1 => ?_) (fun c1 => ?_)
  · replace hf := hf.1 c1
    refine x_aload_n (pc' := 115) 0 (dX3_init 57 rfl rfl) rfl rfl rfl ?_
    refine x_ldcS (pc' := 117) (tx := "int") (i := 26) (dX3_init 58 rfl rfl) (List.mem_of_getElem? (i := 26) rfl) rfl ?_
    refine x_iconst (pc' := 118) (v := 0) (dX3_init 59 rfl rfl) (by decide) rfl ?_
    obtain ⟨k4, hf⟩ := hf
    refine x_inv (pc' := 121) (ν := mX3_add) (av := [_, _, _]) (st := []) rfl rfl (dX3_init 60 rfl rfl) (Nat.le_of_ble_eq_true rfl) wX3_add q213 (inv_V (k := 2) (dX3_init 60 rfl rfl) q373 q375 qs0 wX3_add (by decide) lX3_add (by decide) k4) (exN (by decide)) rfl ?_
    refine C.mono hf (fun _ _ => KV.g (fun h2 hf le3 => ?_))
    have k4 := leK le3 k4 (by decide)
    refine x_aload_n (pc' := 122) 0 (dX3_init 61 rfl rfl) rfl rfl rfl ?_
    refine x_ldcS (pc' := 124) (tx := "bool") (i := 27) (dX3_init 62 rfl rfl) (List.mem_of_getElem? (i := 27) rfl) rfl ?_
    refine x_iconst (pc' := 125) (v := 0) (dX3_init 63 rfl rfl) (by decide) rfl ?_
    refine x_inv (pc' := 128) (ν := mX3_add) (av := [_, _, _]) (st := []) rfl rfl (dX3_init 64 rfl rfl) (Nat.le_of_ble_eq_true rfl) wX3_add q213 (inv_V (k := 2) (dX3_init 64 rfl rfl) q373 q375 qs0 wX3_add (by decide) lX3_add (by decide) k4) (exN (by decide)) rfl ?_
    refine C.mono hf (fun _ _ => KV.g (fun h5 hf le6 => ?_))
    have k4 := leK le6 k4 (by decide)
    refine x_aload_n (pc' := 129) 0 (dX3_init 65 rfl rfl) rfl rfl rfl ?_
    refine x_ldcS (pc' := 131) (tx := "unit") (i := 28) (dX3_init 66 rfl rfl) (List.mem_of_getElem? (i := 28) rfl) rfl ?_
    refine x_iconst (pc' := 132) (v := 0) (dX3_init 67 rfl rfl) (by decide) rfl ?_
    refine x_inv (pc' := 135) (ν := mX3_add) (av := [_, _, _]) (st := []) rfl rfl (dX3_init 68 rfl rfl) (Nat.le_of_ble_eq_true rfl) wX3_add q213 (inv_V (k := 2) (dX3_init 68 rfl rfl) q373 q375 qs0 wX3_add (by decide) lX3_add (by decide) k4) (exN (by decide)) rfl ?_
    refine C.mono hf (fun _ _ => KV.g (fun h7 hf le8 => ?_))
    have k4 := leK le8 k4 (by decide)
    refine x_aload_n (pc' := 136) 0 (dX3_init 69 rfl rfl) rfl rfl rfl ?_
    refine x_ldcS (pc' := 138) (tx := "list") (i := 29) (dX3_init 70 rfl rfl) (List.mem_of_getElem? (i := 29) rfl) rfl ?_
    refine x_iconst (pc' := 139) (v := 1) (dX3_init 71 rfl rfl) (by decide) rfl ?_
    refine x_inv (pc' := 142) (ν := mX3_add) (av := [_, _, _]) (st := []) rfl rfl (dX3_init 72 rfl rfl) (Nat.le_of_ble_eq_true rfl) wX3_add q213 (inv_V (k := 2) (dX3_init 72 rfl rfl) q373 q375 qs0 wX3_add (by decide) lX3_add (by decide) k4) (exN (by decide)) rfl ?_
    refine C.mono hf (fun _ _ => KV.g (fun h9 hf le10 => ?_))
    have k4 := leK le10 k4 (by decide)
    refine x_aload_n (pc' := 143) 0 (dX3_init 73 rfl rfl) rfl rfl rfl ?_
    refine x_ldcS (pc' := 145) (tx := "ref") (i := 1) (dX3_init 74 rfl rfl) (List.mem_of_getElem? (i := 30) rfl) rfl ?_
    refine x_iconst (pc' := 146) (v := 1) (dX3_init 75 rfl rfl) (by decide) rfl ?_
    refine x_inv (pc' := 149) (ν := mX3_add) (av := [_, _, _]) (st := []) rfl rfl (dX3_init 76 rfl rfl) (Nat.le_of_ble_eq_true rfl) wX3_add q213 (inv_V (k := 2) (dX3_init 76 rfl rfl) q373 q375 qs0 wX3_add (by decide) lX3_add (by decide) k4) (exN (by decide)) rfl ?_
    refine C.mono hf (fun _ _ => KV.g (fun h11 hf le12 => ?_))
    have k4 := leK le12 k4 (by decide)
    refine x_aload_n (pc' := 150) 0 (dX3_init 77 rfl rfl) rfl rfl rfl ?_
    refine x_aload_n (pc' := 151) 0 (dX3_init 78 rfl rfl) rfl rfl rfl ?_
    refine x_bipush (pc' := 153) (v := 7) (dX3_init 79 rfl rfl) (by decide) rfl ?_
    refine x_inv (pc' := 156) (ν := mX3_built) (av := [_, _]) (st := [_]) rfl rfl (dX3_init 80 rfl rfl) (Nat.le_of_ble_eq_true rfl) wX3_built q213 (inv_V (k := 2) (dX3_init 80 rfl rfl) q471 q472 q473 wX3_built (by decide) lX3_built (by decide) k4) (exN (by decide)) rfl ?_
    refine C.mono hf (fun _ _ => KI.g (fun x15 h13 hf le14 => ?_))
    have k4 := leK le14 k4 (by decide)
    refine x_putI (pc' := 159) (dX3_init 81 rfl rfl) g42 q492 (Or.inl rfl) (Or.inr ⟨rfl, rfl, rfl, rfl⟩) (Or.inr rfl) rfl (hf_of 2 k4 rfl (by decide) m2_42) (fun h16 e27 => ?_)
    replace hf := hf h16 e27
    replace k4 : hK h16 a0 = 3 := by rw [e27]; exact k4
    refine x_aload_n (pc' := 160) 0 (dX3_init 82 rfl rfl) rfl rfl rfl ?_
    refine x_aload_n (pc' := 161) 0 (dX3_init 83 rfl rfl) rfl rfl rfl ?_
    refine x_bipush (pc' := 163) (v := 8) (dX3_init 84 rfl rfl) (by decide) rfl ?_
    refine x_inv (pc' := 166) (ν := mX3_built) (av := [_, _]) (st := [_]) rfl rfl (dX3_init 85 rfl rfl) (Nat.le_of_ble_eq_true rfl) wX3_built q213 (inv_V (k := 2) (dX3_init 85 rfl rfl) q471 q472 q473 wX3_built (by decide) lX3_built (by decide) k4) (exN (by decide)) rfl ?_
    refine C.mono hf (fun _ _ => KI.g (fun x19 h17 hf le18 => ?_))
    have k4 := leK le18 k4 (by decide)
    refine x_putI (pc' := 169) (dX3_init 86 rfl rfl) g43 q497 (Or.inl rfl) (Or.inr ⟨rfl, rfl, rfl, rfl⟩) (Or.inr rfl) rfl (hf_of 2 k4 rfl (by decide) m2_43) (fun h20 e26 => ?_)
    replace hf := hf h20 e26
    replace k4 : hK h20 a0 = 3 := by rw [e26]; exact k4
    refine x_aload_n (pc' := 170) 0 (dX3_init 87 rfl rfl) rfl rfl rfl ?_
    refine x_aload_n (pc' := 171) 0 (dX3_init 88 rfl rfl) rfl rfl rfl ?_
    refine x_bipush (pc' := 173) (v := 9) (dX3_init 89 rfl rfl) (by decide) rfl ?_
    refine x_inv (pc' := 176) (ν := mX3_built) (av := [_, _]) (st := [_]) rfl rfl (dX3_init 90 rfl rfl) (Nat.le_of_ble_eq_true rfl) wX3_built q213 (inv_V (k := 2) (dX3_init 90 rfl rfl) q471 q472 q473 wX3_built (by decide) lX3_built (by decide) k4) (exN (by decide)) rfl ?_
    refine C.mono hf (fun _ _ => KI.g (fun x23 h21 hf le22 => ?_))
    have k4 := leK le22 k4 (by decide)
    refine x_putI (pc' := 179) (dX3_init 91 rfl rfl) g44 q502 (Or.inl rfl) (Or.inr ⟨rfl, rfl, rfl, rfl⟩) (Or.inr rfl) rfl (hf_of 2 k4 rfl (by decide) m2_44) (fun h24 e25 => ?_)
    replace hf := hf h24 e25
    replace k4 : hK h24 a0 = 3 := by rw [e25]; exact k4
    exact x_vret (dX3_init 92 rfl rfl) rfl hf
  · replace hf := hf.2 c1
    refine x_aload_n (pc' := 102) 0 (dX3_init 51 rfl rfl) rfl rfl rfl ?_
    refine x_ldcS (pc' := 104) (tx := "") (i := 25) (dX3_init 52 rfl rfl) (List.mem_of_getElem? (i := 25) rfl) rfl ?_
    refine x_iload_n (pc' := 105) 1 (dX3_init 53 rfl rfl) rfl rfl rfl ?_
    obtain ⟨k30, hf⟩ := hf
    refine x_inv (pc' := 108) (ν := mX3_add) (av := [_, _, _]) (st := []) rfl rfl (dX3_init 54 rfl rfl) (Nat.le_of_ble_eq_true rfl) wX3_add q213 (inv_V (k := 2) (dX3_init 54 rfl rfl) q373 q375 qs0 wX3_add (by decide) lX3_add (by decide) k30) (exN (by decide)) rfl ?_
    refine C.mono hf (fun _ _ => KV.g (fun h28 hf le29 => ?_))
    have k30 := leK le29 k30 (by decide)
    replace hf := hf _ rfl
    refine x_iinc (pc' := 111) 1 (dX3_init 55 rfl rfl) rfl (by rfl) (by decide) rfl rfl ?_
    refine x_goto (tgt := 95) (dX3_init 56 rfl rfl) (by decide) ?_
    exact X.sub [1, 0] rfl (by simp) hf
theorem bX3_add (G : Gh) (d : Nat) (h : AH) (Q : Outcome → AH → Prop) (p1 : Nat) (p2 : Int32) (s2 : So 2 (gW G) h) (hf : C G mX4_spelled d [.ref (p1)] h (KJ Q (fun y3 h1 => C G mX3_add_2 d [.ref (gW G 2), .long (y3), .long (0), .int (p2)] h1 (KR Q (fun b6 h4 => hK h4 b6 = 4 ∧ (vp_in (fI h4 b6 52) 212 ∧ AOK G h4 b6 6 "LetMill$TypeName" ∧ ∀ h9, h9 = sR h4 (gW G 1040) (fI h4 b6 52).toNatClampNeg (some b6) → (Q (.returned none) h9))))))) : C G mX3_add (d + 1) [.ref (gW G 2), .ref (p1), .int (p2)] h Q := by
  refine C.of_X (by decide +kernel) (Nat.le_of_ble_eq_true rfl) wX3_add ?_
  show X G mX3_add (d + 1) none [] 0 [(0, .ref (gW G 2)), (1, .ref (p1)), (2, .int (p2))] [] h Q
  refine x_aload_n (pc' := 1) 0 (dX3_add 0 rfl rfl) rfl rfl rfl ?_
  refine x_aload_n (pc' := 2) 1 (dX3_add 1 rfl rfl) rfl rfl rfl ?_
  refine x_inv (pc' := 5) (ν := mX4_spelled) (av := [_]) (st := [_]) rfl rfl (dX3_add 2 rfl rfl) (Nat.le_of_ble_eq_true rfl) wX4_spelled q214 (inv_S (dX3_add 2 rfl rfl) q377 q378 q214 wX4_spelled (by decide) lX4_spelled) (exN (by decide)) rfl ?_
  refine C.mono hf (fun _ _ => KJ.g (fun y3 h1 hf le2 => ?_))
  replace s2 := s2.le sc2 (le2)
  refine x_lconst (pc' := 6) (v := 0) (dX3_add 3 rfl rfl) (by decide) rfl ?_
  refine x_iload_n (pc' := 7) 2 (dX3_add 4 rfl rfl) rfl rfl rfl ?_
  refine x_inv (pc' := 10) (ν := mX3_add_2) (av := [_, _, _, _]) (st := []) rfl rfl (dX3_add 5 rfl rfl) (Nat.le_of_ble_eq_true rfl) wX3_add_2 q213 (inv_V (k := 2) (dX3_add 5 rfl rfl) q428 q429 q430 wX3_add_2 (by decide) lX3_add_2 (by decide) s2.1) (exN (by decide)) rfl ?_
  refine C.mono hf (fun _ _ => KR.g (fun b6 h4 hf le5 => ?_))
  replace s2 := s2.le sc2 (le5)
  refine x_astore_n (pc' := 11) (dX3_add 6 rfl rfl) rfl (by decide) rfl rfl ?_
  refine x_aload_n (pc' := 12) 1 (dX3_add 7 rfl rfl) rfl rfl rfl ?_
  refine x_getR (pc' := 15) (dX3_add 8 rfl rfl) g40 q489 (Or.inl rfl) rfl (hf_of 2 s2.1 rfl (by decide) m2_40) (s2.2 7 _ rfl rfl).1 ?_
  refine x_aload_n (pc' := 16) 0 (dX3_add 9 rfl rfl) rfl rfl rfl ?_
  obtain ⟨k7, hf⟩ := hf
  refine x_getI (pc' := 19) (dX3_add 10 rfl rfl) g52 q448 (Or.inl rfl) rfl (hf_of 3 k7 rfl (by decide) m3_52) ?_
  refine x_aload_n (pc' := 20) 0 (dX3_add 11 rfl rfl) rfl rfl rfl ?_
  obtain ⟨i8, hf⟩ := hf
  obtain ⟨o11, hf⟩ := hf
  refine x_aast (pc' := 21) (t := 6) (E := "LetMill$TypeName") (dX3_add 12 rfl rfl) rfl (by decide) rfl (by decide) (s2.2 7 _ rfl rfl).2.1 (Or.inl ⟨40, by decide, rfl, by decide⟩) (by rw [(s2.2 7 _ rfl rfl).2.2.2 (by decide)]; exact i8) o11 (fun h9 e10 => ?_)
  replace hf := hf h9 e10
  replace k7 : hK h9 b6 = 4 := by rw [e10]; exact k7
  replace s2 : So 2 (gW G) h9 := by rw [e10]; exact s2.le sc2 (sR_le )
  exact x_vret (dX3_add 13 rfl rfl) rfl hf
theorem bX3_add_2 (G : Gh) (d : Nat) (h : AH) (Q : Outcome → AH → Prop) (p1 : Int64) (p3 : Int64) (p5 : Int32) (s2 : So 2 (gW G) h) (hf : (hc h + 1 ≤ MC) ∧ (hs h + 6 ≤ MS) ∧ ∀ q1, hK h q1 = 0 → ∀ h3, h3 = nO h q1 3 → (C G mX5_init d [.ref (q1), .long (p1), .long (p3), .int (p5), .int (fI h3 (gW G 2) 41)] h3 (KV Q (fun h6 => vp_in (fI h6 (gW G 2) 41) 212 ∧ AOK G h6 q1 6 "LetMill$TypeName" ∧ ∀ h9, h9 = sR h6 (gW G 1040) (fI h6 (gW G 2) 41).toNatClampNeg (some q1) → (∀ h11, h11 = pI h9 (gW G 2) 41 ((fI h9 (gW G 2) 41) + 1) → (Q (.returned (some (.ref (q1)))) h11)))))) : C G mX3_add_2 (d + 1) [.ref (gW G 2), .long (p1), .long (p3), .int (p5)] h Q := by
  refine C.of_X (by decide +kernel) (Nat.le_of_ble_eq_true rfl) wX3_add_2 ?_
  show X G mX3_add_2 (d + 1) none [] 0 [(0, .ref (gW G 2)), (1, .long (p1)), (3, .long (p3)), (5, .int (p5))] [] h Q
  obtain ⟨n1, n2, hf⟩ := hf
  refine x_new (pc' := 3) (k := 3) (dX3_add_2 0 rfl rfl) q370 (by decide) rfl (by decide) n1 n2 (fun q1 h3 k2 e4 => ?_)
  replace hf := hf q1 k2 h3 e4
  replace s2 : So 2 (gW G) h3 := by rw [e4]; exact s2.le sc2 (nO_le k2)
  have k5 : hK h3 q1 = 4 := by rw [e4]; exact kNOs
  refine x_dup (pc' := 4) (dX3_add_2 1 rfl rfl) rfl rfl ?_
  refine x_lload_n (pc' := 5) 1 (dX3_add_2 2 rfl rfl) rfl rfl rfl ?_
  refine x_lload_n (pc' := 6) 2 (dX3_add_2 3 rfl rfl) rfl rfl rfl ?_
  refine x_iload (pc' := 8) 3 (dX3_add_2 4 rfl rfl) rfl rfl ?_
  refine x_aload_n (pc' := 9) 0 (dX3_add_2 5 rfl rfl) rfl rfl rfl ?_
  refine x_getI (pc' := 12) (dX3_add_2 6 rfl rfl) g41 q491 (Or.inl rfl) rfl (hf_of 2 s2.1 rfl (by decide) m2_41) ?_
  refine x_inv (pc' := 15) (ν := mX5_init) (av := [_, _, _, _, _]) (st := [_]) rfl rfl (dX3_add_2 7 rfl rfl) (Nat.le_of_ble_eq_true rfl) wX5_init q219 (inv_I (dX3_add_2 7 rfl rfl) q433 q434 q435 rfl (by decide) lX5_init) (fun b hb => by exact Or.inl (by have e : some _ = some b := hb; cases e; simp)) rfl ?_
  refine C.mono hf (fun _ _ => KV.g (fun h6 hf le7 => ?_))
  replace s2 := s2.leX sc2 le7 k5 (by decide)
  have k5 := leK le7 k5 (by decide)
  refine x_astore (pc' := 17) (dX3_add_2 8 rfl rfl) (by decide) rfl rfl ?_
  refine x_aload_n (pc' := 18) 1 (dX3_add_2 9 rfl rfl) rfl rfl rfl ?_
  refine x_getR (pc' := 21) (dX3_add_2 10 rfl rfl) g40 q489 (Or.inl rfl) rfl (hf_of 2 s2.1 rfl (by decide) m2_40) (s2.2 7 _ rfl rfl).1 ?_
  refine x_aload_n (pc' := 22) 1 (dX3_add_2 11 rfl rfl) rfl rfl rfl ?_
  refine x_getI (pc' := 25) (dX3_add_2 12 rfl rfl) g41 q491 (Or.inl rfl) rfl (hf_of 2 s2.1 rfl (by decide) m2_41) ?_
  refine x_aload (pc' := 27) 0 (dX3_add_2 13 rfl rfl) rfl rfl ?_
  obtain ⟨i8, hf⟩ := hf
  obtain ⟨o13, hf⟩ := hf
  refine x_aast (pc' := 28) (t := 6) (E := "LetMill$TypeName") (dX3_add_2 14 rfl rfl) rfl (by decide) rfl (by decide) (s2.2 7 _ rfl rfl).2.1 (Or.inl ⟨40, by decide, rfl, by decide⟩) (by rw [(s2.2 7 _ rfl rfl).2.2.2 (by decide)]; exact i8) o13 (fun h9 e10 => ?_)
  replace hf := hf h9 e10
  replace k5 : hK h9 q1 = 4 := by rw [e10]; exact k5
  replace s2 : So 2 (gW G) h9 := by rw [e10]; exact s2.le sc2 (sR_le )
  refine x_aload_n (pc' := 29) 1 (dX3_add_2 15 rfl rfl) rfl rfl rfl ?_
  refine x_dup (pc' := 30) (dX3_add_2 16 rfl rfl) rfl rfl ?_
  refine x_getI (pc' := 33) (dX3_add_2 17 rfl rfl) g41 q491 (Or.inl rfl) rfl (hf_of 2 s2.1 rfl (by decide) m2_41) ?_
  refine x_iconst (pc' := 34) (v := 1) (dX3_add_2 18 rfl rfl) (by decide) rfl ?_
  refine x_iadd (pc' := 35) (dX3_add_2 19 rfl rfl) rfl ?_
  refine x_putI (pc' := 38) (dX3_add_2 20 rfl rfl) g41 q491 (Or.inl rfl) (Or.inl rfl) (Or.inl (by decide)) rfl (hf_of 2 s2.1 rfl (by decide) m2_41) (fun h11 e12 => ?_)
  replace hf := hf h11 e12
  replace k5 : hK h11 q1 = 4 := by rw [e12]; exact k5
  replace s2 : So 2 (gW G) h11 := by rw [e12]; exact s2.le sc2 (pI_le (Or.inl rfl))
  refine x_aload (pc' := 40) 0 (dX3_add_2 21 rfl rfl) rfl rfl ?_
  exact x_aret (dX3_add_2 22 rfl rfl) rfl (Or.inl ⟨_, rfl⟩) (Or.inr ⟨_, rfl⟩) hf
theorem bX3_built (G : Gh) (d : Nat) (h : AH) (Q : Outcome → AH → Prop) (p1 : Int32) (s2 : So 2 (gW G) h) (hf : C G mX3_node d [.ref (gW G 2), .int (p1)] h (KI Q (fun x3 h1 => Q (.returned (some (.int x3))) h1))) : C G mX3_built (d + 1) [.ref (gW G 2), .int (p1)] h Q := by
  refine C.of_X (by decide +kernel) (Nat.le_of_ble_eq_true rfl) wX3_built ?_
  show X G mX3_built (d + 1) none [] 0 [(0, .ref (gW G 2)), (1, .int (p1))] [] h Q
  refine x_aload_n (pc' := 1) 0 (dX3_built 0 rfl rfl) rfl rfl rfl ?_
  refine x_iload_n (pc' := 2) 1 (dX3_built 1 rfl rfl) rfl rfl rfl ?_
  refine x_inv (pc' := 5) (ν := mX3_node) (av := [_, _]) (st := []) rfl rfl (dX3_built 2 rfl rfl) (Nat.le_of_ble_eq_true rfl) wX3_node q213 (inv_V (k := 2) (dX3_built 2 rfl rfl) q475 q477 qs1 wX3_node (by decide) lX3_node (by decide) s2.1) (exN (by decide)) rfl ?_
  refine C.mono hf (fun _ _ => KI.g (fun x3 h1 hf le2 => ?_))
  replace s2 := s2.le sc2 (le2)
  exact x_iret (dX3_built 3 rfl rfl) rfl hf
theorem bX3_node (G : Gh) (d : Nat) (h : AH) (Q : Outcome → AH → Prop) (p1 : Int32) (s2 : So 2 (gW G) h) (hf : vp_in (fI h (gW G 2) 36) 150000 ∧ ∀ h2, h2 = sI h (gW G 1030) (fI h (gW G 2) 36).toNatClampNeg p1 → (vp_in (fI h2 (gW G 2) 36) 150000 ∧ ∀ h5, h5 = sI h2 (gW G 1031) (fI h2 (gW G 2) 36).toNatClampNeg (fI h2 (gW G 2) 37) → (vp_in (fI h5 (gW G 2) 36) 150000 ∧ ∀ h8, h8 = sI h5 (gW G 1032) (fI h5 (gW G 2) 36).toNatClampNeg ((-1)) → (vp_in (fI h8 (gW G 2) 36) 150000 ∧ ∀ h11, h11 = sI h8 (gW G 1033) (fI h8 (gW G 2) 36).toNatClampNeg 0 → (∀ h13, h13 = pI h11 (gW G 2) 36 ((fI h11 (gW G 2) 36) + 1) → (Q (.returned (some (.int ((fI h13 (gW G 2) 36) - 1)))) h13)))))) : C G mX3_node d [.ref (gW G 2), .int (p1)] h Q := by
  refine C.of_X (by decide +kernel) (Nat.le_of_ble_eq_true rfl) wX3_node ?_
  show X G mX3_node d none [] 0 [(0, .ref (gW G 2)), (1, .int (p1))] [] h Q
  refine x_aload_n (pc' := 1) 0 (dX3_node 0 rfl rfl) rfl rfl rfl ?_
  refine x_getR (pc' := 4) (dX3_node 1 rfl rfl) g30 q479 (Or.inl rfl) rfl (hf_of 2 s2.1 rfl (by decide) m2_30) (s2.2 0 _ rfl rfl).1 ?_
  refine x_aload_n (pc' := 5) 0 (dX3_node 2 rfl rfl) rfl rfl rfl ?_
  refine x_getI (pc' := 8) (dX3_node 3 rfl rfl) g36 q485 (Or.inl rfl) rfl (hf_of 2 s2.1 rfl (by decide) m2_36) ?_
  refine x_iload_n (pc' := 9) 1 (dX3_node 4 rfl rfl) rfl rfl rfl ?_
  obtain ⟨i1, hf⟩ := hf
  refine x_iast (pc' := 10) (dX3_node 5 rfl rfl) rfl (s2.2 0 _ rfl rfl).2.1 (Or.inl ⟨30, by decide, rfl, by decide⟩) (by rw [(s2.2 0 _ rfl rfl).2.2.2 (by decide)]; exact i1) (fun h2 e3 => ?_)
  replace hf := hf h2 e3
  replace s2 : So 2 (gW G) h2 := by rw [e3]; exact s2.le sc2 (sI_le )
  refine x_aload_n (pc' := 11) 0 (dX3_node 6 rfl rfl) rfl rfl rfl ?_
  refine x_getR (pc' := 14) (dX3_node 7 rfl rfl) g31 q480 (Or.inl rfl) rfl (hf_of 2 s2.1 rfl (by decide) m2_31) (s2.2 1 _ rfl rfl).1 ?_
  refine x_aload_n (pc' := 15) 0 (dX3_node 8 rfl rfl) rfl rfl rfl ?_
  refine x_getI (pc' := 18) (dX3_node 9 rfl rfl) g36 q485 (Or.inl rfl) rfl (hf_of 2 s2.1 rfl (by decide) m2_36) ?_
  refine x_aload_n (pc' := 19) 0 (dX3_node 10 rfl rfl) rfl rfl rfl ?_
  refine x_getI (pc' := 22) (dX3_node 11 rfl rfl) g37 q486 (Or.inl rfl) rfl (hf_of 2 s2.1 rfl (by decide) m2_37) ?_
  obtain ⟨i4, hf⟩ := hf
  refine x_iast (pc' := 23) (dX3_node 12 rfl rfl) rfl (s2.2 1 _ rfl rfl).2.1 (Or.inl ⟨31, by decide, rfl, by decide⟩) (by rw [(s2.2 1 _ rfl rfl).2.2.2 (by decide)]; exact i4) (fun h5 e6 => ?_)
  replace hf := hf h5 e6
  replace s2 : So 2 (gW G) h5 := by rw [e6]; exact s2.le sc2 (sI_le )
  refine x_aload_n (pc' := 24) 0 (dX3_node 13 rfl rfl) rfl rfl rfl ?_
  refine x_getR (pc' := 27) (dX3_node 14 rfl rfl) g32 q481 (Or.inl rfl) rfl (hf_of 2 s2.1 rfl (by decide) m2_32) (s2.2 2 _ rfl rfl).1 ?_
  refine x_aload_n (pc' := 28) 0 (dX3_node 15 rfl rfl) rfl rfl rfl ?_
  refine x_getI (pc' := 31) (dX3_node 16 rfl rfl) g36 q485 (Or.inl rfl) rfl (hf_of 2 s2.1 rfl (by decide) m2_36) ?_
  refine x_iconst (pc' := 32) (v := -1) (dX3_node 17 rfl rfl) (by decide) rfl ?_
  obtain ⟨i7, hf⟩ := hf
  refine x_iast (pc' := 33) (dX3_node 18 rfl rfl) rfl (s2.2 2 _ rfl rfl).2.1 (Or.inl ⟨32, by decide, rfl, by decide⟩) (by rw [(s2.2 2 _ rfl rfl).2.2.2 (by decide)]; exact i7) (fun h8 e9 => ?_)
  replace hf := hf h8 e9
  replace s2 : So 2 (gW G) h8 := by rw [e9]; exact s2.le sc2 (sI_le )
  refine x_aload_n (pc' := 34) 0 (dX3_node 19 rfl rfl) rfl rfl rfl ?_
  refine x_getR (pc' := 37) (dX3_node 20 rfl rfl) g33 q482 (Or.inl rfl) rfl (hf_of 2 s2.1 rfl (by decide) m2_33) (s2.2 3 _ rfl rfl).1 ?_
  refine x_aload_n (pc' := 38) 0 (dX3_node 21 rfl rfl) rfl rfl rfl ?_
  refine x_getI (pc' := 41) (dX3_node 22 rfl rfl) g36 q485 (Or.inl rfl) rfl (hf_of 2 s2.1 rfl (by decide) m2_36) ?_
  refine x_iconst (pc' := 42) (v := 0) (dX3_node 23 rfl rfl) (by decide) rfl ?_
  obtain ⟨i10, hf⟩ := hf
  refine x_iast (pc' := 43) (dX3_node 24 rfl rfl) rfl (s2.2 3 _ rfl rfl).2.1 (Or.inl ⟨33, by decide, rfl, by decide⟩) (by rw [(s2.2 3 _ rfl rfl).2.2.2 (by decide)]; exact i10) (fun h11 e12 => ?_)
  replace hf := hf h11 e12
  replace s2 : So 2 (gW G) h11 := by rw [e12]; exact s2.le sc2 (sI_le )
  refine x_aload_n (pc' := 44) 0 (dX3_node 25 rfl rfl) rfl rfl rfl ?_
  refine x_dup (pc' := 45) (dX3_node 26 rfl rfl) rfl rfl ?_
  refine x_getI (pc' := 48) (dX3_node 27 rfl rfl) g36 q485 (Or.inl rfl) rfl (hf_of 2 s2.1 rfl (by decide) m2_36) ?_
  refine x_iconst (pc' := 49) (v := 1) (dX3_node 28 rfl rfl) (by decide) rfl ?_
  refine x_iadd (pc' := 50) (dX3_node 29 rfl rfl) rfl ?_
  refine x_putI (pc' := 53) (dX3_node 30 rfl rfl) g36 q485 (Or.inl rfl) (Or.inl rfl) (Or.inl (by decide)) rfl (hf_of 2 s2.1 rfl (by decide) m2_36) (fun h13 e14 => ?_)
  replace hf := hf h13 e14
  replace s2 : So 2 (gW G) h13 := by rw [e14]; exact s2.le sc2 (pI_le (Or.inl rfl))
  refine x_aload_n (pc' := 54) 0 (dX3_node 31 rfl rfl) rfl rfl rfl ?_
  refine x_getI (pc' := 57) (dX3_node 32 rfl rfl) g36 q485 (Or.inl rfl) rfl (hf_of 2 s2.1 rfl (by decide) m2_36) ?_
  refine x_iconst (pc' := 58) (v := 1) (dX3_node 33 rfl rfl) (by decide) rfl ?_
  refine x_isub (pc' := 59) (dX3_node 34 rfl rfl) rfl ?_
  exact x_iret (dX3_node 35 rfl rfl) rfl hf
