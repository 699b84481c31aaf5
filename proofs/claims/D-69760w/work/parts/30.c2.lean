set_option maxRecDepth 100000
theorem bX6_con (G : Gh) (d : Nat) (h : AH) (Q : Outcome → AH → Prop) (p1 : Int32) (s3 : So 3 (gW G) h) (hf : C G mX6_tag d [.ref (gW G 3), .int (p1)] h (KI Q (fun x3 h1 => (x3 = 4 → (C G mX6_must d [.ref (gW G 3), .int (1)] h1 (KV Q (fun h12 => vp_in (p1 + 1) 960100 ∧ (C G mX7_get d [.ref (gW G 1059), .int (aI h12 (gW G 1055) (p1 + 1).toNatClampNeg)] h12 (KR Q (fun b17 h15 => hK h15 b17 = 54 ∧ (Q (.returned (some (.ref (b17)))) h15)))))))) ∧ (¬ x3 = 4 → (C G mX6_must d [.ref (gW G 3), .int (0)] h1 (KV Q (fun h5 => vp_in (p1 + 1) 960100 ∧ (C G mX7_get d [.ref (gW G 1059), .int (aI h5 (gW G 1055) (p1 + 1).toNatClampNeg)] h5 (KR Q (fun b10 h8 => hK h8 b10 = 54 ∧ (Q (.returned (some (.ref (b10)))) h8))))))))))) : C G mX6_con (d + 1) [.ref (gW G 3), .int (p1)] h Q := by
  refine C.of_X (by decide +kernel) (Nat.le_of_ble_eq_true rfl) wX6_con ?_
  show X G mX6_con (d + 1) none [] 0 [(0, .ref (gW G 3)), (1, .int (p1))] [] h Q
  refine x_aload_n (pc' := 1) 0 (dX6_con 0 rfl rfl) rfl rfl rfl ?_
  refine x_aload_n (pc' := 2) 0 (dX6_con 1 rfl rfl) rfl rfl rfl ?_
  refine x_iload_n (pc' := 3) 1 (dX6_con 2 rfl rfl) rfl rfl rfl ?_
  refine x_inv (pc' := 6) (ν := mX6_tag) (av := [_, _]) (st := [_]) rfl rfl (dX6_con 3 rfl rfl) (Nat.le_of_ble_eq_true rfl) wX6_tag q220 (inv_V (k := 4) (dX6_con 3 rfl rfl) q3070 q3071 q3072 wX6_tag (by decide) lX6_tag (by decide) s3.1) (exN (by decide)) rfl ?_
  refine C.mono hf (fun _ _ => KI.g (fun x3 h1 hf le2 => ?_))
  replace s3 := s3.le sc3 (le2)
  refine x_iconst (pc' := 7) (v := 4) (dX6_con 4 rfl rfl) (by decide) rfl ?_
  refine x_icmp_ne (pc' := 10) (tgt := 14) (dX6_con 5 rfl rfl) (by decide) rfl (fun c4 => ?_) (fun c4 => ?_)
  · replace hf := hf.2 c4
    refine x_iconst (pc' := 15) (v := 0) (dX6_con 8 rfl rfl) (by decide) rfl ?_
    refine x_inv (pc' := 18) (ν := mX6_must) (av := [_, _]) (st := []) rfl rfl (dX6_con 9 rfl rfl) (Nat.le_of_ble_eq_true rfl) wX6_must q220 (inv_V (k := 4) (dX6_con 9 rfl rfl) q3075 q3077 qs56 wX6_must (by decide) lX6_must (by decide) s3.1) (exN (by decide)) rfl ?_
    refine C.mono hf (fun _ _ => KV.g (fun h5 hf le6 => ?_))
    replace s3 := s3.le sc3 (le6)
    refine x_aload_n (pc' := 19) 0 (dX6_con 10 rfl rfl) rfl rfl rfl ?_
    refine x_getR (pc' := 22) (dX6_con 11 rfl rfl) g59 q607 (Or.inl rfl) rfl (hf_of 4 s3.1 rfl (by decide) m4_59) (s3.2 3 _ rfl rfl).1 ?_
    refine x_aload_n (pc' := 23) 0 (dX6_con 12 rfl rfl) rfl rfl rfl ?_
    refine x_getR (pc' := 26) (dX6_con 13 rfl rfl) g55 q603 (Or.inl rfl) rfl (hf_of 4 s3.1 rfl (by decide) m4_55) (s3.2 0 _ rfl rfl).1 ?_
    refine x_iload_n (pc' := 27) 1 (dX6_con 14 rfl rfl) rfl rfl rfl ?_
    refine x_iconst (pc' := 28) (v := 1) (dX6_con 15 rfl rfl) (by decide) rfl ?_
    refine x_iadd (pc' := 29) (dX6_con 16 rfl rfl) rfl ?_
    obtain ⟨i7, hf⟩ := hf
    refine x_iald (pc' := 30) (dX6_con 17 rfl rfl) rfl (s3.2 0 _ rfl rfl).2.1 (by rw [(s3.2 0 _ rfl rfl).2.2.2 (by decide)]; exact i7) ?_
    refine x_inv (pc' := 33) (ν := mX7_get) (av := [_, _]) (st := []) rfl rfl (dX6_con 18 rfl rfl) (Nat.le_of_ble_eq_true rfl) wX7_get q221 (inv_V (k := 5) (dX6_con 18 rfl rfl) q3050 q1414 q1415 wX7_get (by decide) lX7_get (by decide) (s3.2 3 _ rfl rfl).2.1) (exN (by decide)) rfl ?_
    refine C.mono hf (fun _ _ => KR.g (fun b10 h8 hf le9 => ?_))
    replace s3 := s3.le sc3 (le9)
    obtain ⟨k11, hf⟩ := hf
    refine x_castS (pc' := 36) (k := 53) (dX6_con 19 rfl rfl) q3116 (by decide) k11 rfl ?_
    exact x_aret (dX6_con 20 rfl rfl) rfl (Or.inl ⟨_, rfl⟩) (Or.inr ⟨_, rfl⟩) hf
  · replace hf := hf.1 (Classical.not_not.mp c4)
    replace c4 := Classical.not_not.mp c4
    refine x_iconst (pc' := 11) (v := 1) (dX6_con 6 rfl rfl) (by decide) rfl ?_
    refine x_goto (tgt := 15) (dX6_con 7 rfl rfl) (by decide) ?_
    refine x_inv (pc' := 18) (ν := mX6_must) (av := [_, _]) (st := []) rfl rfl (dX6_con 9 rfl rfl) (Nat.le_of_ble_eq_true rfl) wX6_must q220 (inv_V (k := 4) (dX6_con 9 rfl rfl) q3075 q3077 qs56 wX6_must (by decide) lX6_must (by decide) s3.1) (exN (by decide)) rfl ?_
    refine C.mono hf (fun _ _ => KV.g (fun h12 hf le13 => ?_))
    replace s3 := s3.le sc3 (le13)
    refine x_aload_n (pc' := 19) 0 (dX6_con 10 rfl rfl) rfl rfl rfl ?_
    refine x_getR (pc' := 22) (dX6_con 11 rfl rfl) g59 q607 (Or.inl rfl) rfl (hf_of 4 s3.1 rfl (by decide) m4_59) (s3.2 3 _ rfl rfl).1 ?_
    refine x_aload_n (pc' := 23) 0 (dX6_con 12 rfl rfl) rfl rfl rfl ?_
    refine x_getR (pc' := 26) (dX6_con 13 rfl rfl) g55 q603 (Or.inl rfl) rfl (hf_of 4 s3.1 rfl (by decide) m4_55) (s3.2 0 _ rfl rfl).1 ?_
    refine x_iload_n (pc' := 27) 1 (dX6_con 14 rfl rfl) rfl rfl rfl ?_
    refine x_iconst (pc' := 28) (v := 1) (dX6_con 15 rfl rfl) (by decide) rfl ?_
    refine x_iadd (pc' := 29) (dX6_con 16 rfl rfl) rfl ?_
    obtain ⟨i14, hf⟩ := hf
    refine x_iald (pc' := 30) (dX6_con 17 rfl rfl) rfl (s3.2 0 _ rfl rfl).2.1 (by rw [(s3.2 0 _ rfl rfl).2.2.2 (by decide)]; exact i14) ?_
    refine x_inv (pc' := 33) (ν := mX7_get) (av := [_, _]) (st := []) rfl rfl (dX6_con 18 rfl rfl) (Nat.le_of_ble_eq_true rfl) wX7_get q221 (inv_V (k := 5) (dX6_con 18 rfl rfl) q3050 q1414 q1415 wX7_get (by decide) lX7_get (by decide) (s3.2 3 _ rfl rfl).2.1) (exN (by decide)) rfl ?_
    refine C.mono hf (fun _ _ => KR.g (fun b17 h15 hf le16 => ?_))
    replace s3 := s3.le sc3 (le16)
    obtain ⟨k18, hf⟩ := hf
    refine x_castS (pc' := 36) (k := 53) (dX6_con 19 rfl rfl) q3116 (by decide) k18 rfl ?_
    exact x_aret (dX6_con 20 rfl rfl) rfl (Or.inl ⟨_, rfl⟩) (Or.inr ⟨_, rfl⟩) hf
theorem bX6_has (G : Gh) (d : Nat) (h : AH) (Q : Outcome → AH → Prop) (p1 : Int32) (s3 : So 3 (gW G) h) (hf : vp_in (p1 + 2) 960100 ∧ (Q (.returned (some (.int (aI h (gW G 1055) (p1 + 2).toNatClampNeg)))) h)) : C G mX6_has d [.ref (gW G 3), .int (p1)] h Q := by
  refine C.of_X (by decide +kernel) (Nat.le_of_ble_eq_true rfl) wX6_has ?_
  show X G mX6_has d none [] 0 [(0, .ref (gW G 3)), (1, .int (p1))] [] h Q
  refine x_aload_n (pc' := 1) 0 (dX6_has 0 rfl rfl) rfl rfl rfl ?_
  refine x_getR (pc' := 4) (dX6_has 1 rfl rfl) g55 q603 (Or.inl rfl) rfl (hf_of 4 s3.1 rfl (by decide) m4_55) (s3.2 0 _ rfl rfl).1 ?_
  refine x_iload_n (pc' := 5) 1 (dX6_has 2 rfl rfl) rfl rfl rfl ?_
  refine x_iconst (pc' := 6) (v := 2) (dX6_has 3 rfl rfl) (by decide) rfl ?_
  refine x_iadd (pc' := 7) (dX6_has 4 rfl rfl) rfl ?_
  obtain ⟨i1, hf⟩ := hf
  refine x_iald (pc' := 8) (dX6_has 5 rfl rfl) rfl (s3.2 0 _ rfl rfl).2.1 (by rw [(s3.2 0 _ rfl rfl).2.2.2 (by decide)]; exact i1) ?_
  exact x_iret (dX6_has 6 rfl rfl) rfl hf
theorem bX6_isPair (G : Gh) (d : Nat) (h : AH) (Q : Outcome → AH → Prop) (p1 : Int32) (s3 : So 3 (gW G) h) (hf : (p1 = 4 → (C G mX6_must d [.ref (gW G 3), .int (1)] h (KV Q (fun h2 => Q (.returned (some (.int 0))) h2)))) ∧ (¬ p1 = 4 → (C G mX6_tag d [.ref (gW G 3), .int (p1)] h (KI Q (fun x7 h5 => (x7 = 3 → (C G mX6_must d [.ref (gW G 3), .int (1)] h5 (KV Q (fun h12 => Q (.returned (some (.int 1))) h12)))) ∧ (¬ x7 = 3 → (C G mX6_must d [.ref (gW G 3), .int (0)] h5 (KV Q (fun h9 => Q (.returned (some (.int 1))) h9))))))))) : C G mX6_isPair (d + 1) [.ref (gW G 3), .int (p1)] h Q := by
  refine C.of_X (by decide +kernel) (Nat.le_of_ble_eq_true rfl) wX6_isPair ?_
  show X G mX6_isPair (d + 1) none [] 0 [(0, .ref (gW G 3)), (1, .int (p1))] [] h Q
  refine x_aload_n (pc' := 1) 0 (dX6_isPair 0 rfl rfl) rfl rfl rfl ?_
  refine x_iload_n (pc' := 2) 1 (dX6_isPair 1 rfl rfl) rfl rfl rfl ?_
  refine x_iconst (pc' := 3) (v := 4) (dX6_isPair 2 rfl rfl) (by decide) rfl ?_
  refine x_icmp_eq (pc' := 6) (tgt := 15) (dX6_isPair 3 rfl rfl) (by decide) rfl (fun c1 => ?_) (fun c1 => ?_)
  · replace hf := hf.1 c1
    refine x_iconst (pc' := 16) (v := 1) (dX6_isPair 9 rfl rfl) (by decide) rfl ?_
    refine x_goto (tgt := 20) (dX6_isPair 10 rfl rfl) (by decide) ?_
    refine x_inv (pc' := 23) (ν := mX6_must) (av := [_, _]) (st := []) rfl rfl (dX6_isPair 12 rfl rfl) (Nat.le_of_ble_eq_true rfl) wX6_must q220 (inv_V (k := 4) (dX6_isPair 12 rfl rfl) q3075 q3077 qs56 wX6_must (by decide) lX6_must (by decide) s3.1) (exN (by decide)) rfl ?_
    refine C.mono hf (fun _ _ => KV.g (fun h2 hf le3 => ?_))
    replace s3 := s3.le sc3 (le3)
    refine x_iload_n (pc' := 24) 1 (dX6_isPair 13 rfl rfl) rfl rfl rfl ?_
    refine x_iconst (pc' := 25) (v := 4) (dX6_isPair 14 rfl rfl) (by decide) rfl ?_
    refine x_icmp_eq (pc' := 28) (tgt := 32) (dX6_isPair 15 rfl rfl) (by decide) rfl (fun c4 => ?_) (fun c4 => ?_)
    · refine x_iconst (pc' := 33) (v := 0) (dX6_isPair 18 rfl rfl) (by decide) rfl ?_
      exact x_zret (ty := .boolean) (dX6_isPair 19 rfl rfl) rfl (by decide) hf
    · exact absurd c1 c4
  · replace hf := hf.2 c1
    refine x_aload_n (pc' := 7) 0 (dX6_isPair 4 rfl rfl) rfl rfl rfl ?_
    refine x_iload_n (pc' := 8) 1 (dX6_isPair 5 rfl rfl) rfl rfl rfl ?_
    refine x_inv (pc' := 11) (ν := mX6_tag) (av := [_, _]) (st := [_]) rfl rfl (dX6_isPair 6 rfl rfl) (Nat.le_of_ble_eq_true rfl) wX6_tag q220 (inv_V (k := 4) (dX6_isPair 6 rfl rfl) q3070 q3071 q3072 wX6_tag (by decide) lX6_tag (by decide) s3.1) (exN (by decide)) rfl ?_
    refine C.mono hf (fun _ _ => KI.g (fun x7 h5 hf le6 => ?_))
    replace s3 := s3.le sc3 (le6)
    refine x_iconst (pc' := 12) (v := 3) (dX6_isPair 7 rfl rfl) (by decide) rfl ?_
    refine x_icmp_ne (pc' := 15) (tgt := 19) (dX6_isPair 8 rfl rfl) (by decide) rfl (fun c8 => ?_) (fun c8 => ?_)
    · replace hf := hf.2 c8
      refine x_iconst (pc' := 20) (v := 0) (dX6_isPair 11 rfl rfl) (by decide) rfl ?_
      refine x_inv (pc' := 23) (ν := mX6_must) (av := [_, _]) (st := []) rfl rfl (dX6_isPair 12 rfl rfl) (Nat.le_of_ble_eq_true rfl) wX6_must q220 (inv_V (k := 4) (dX6_isPair 12 rfl rfl) q3075 q3077 qs56 wX6_must (by decide) lX6_must (by decide) s3.1) (exN (by decide)) rfl ?_
      refine C.mono hf (fun _ _ => KV.g (fun h9 hf le10 => ?_))
      replace s3 := s3.le sc3 (le10)
      refine x_iload_n (pc' := 24) 1 (dX6_isPair 13 rfl rfl) rfl rfl rfl ?_
      refine x_iconst (pc' := 25) (v := 4) (dX6_isPair 14 rfl rfl) (by decide) rfl ?_
      refine x_icmp_eq (pc' := 28) (tgt := 32) (dX6_isPair 15 rfl rfl) (by decide) rfl (fun c11 => ?_) (fun c11 => ?_)
      · exact absurd c11 c1
      · refine x_iconst (pc' := 29) (v := 1) (dX6_isPair 16 rfl rfl) (by decide) rfl ?_
        refine x_goto (tgt := 33) (dX6_isPair 17 rfl rfl) (by decide) ?_
        exact x_zret (ty := .boolean) (dX6_isPair 19 rfl rfl) rfl (by decide) hf
    · replace hf := hf.1 (Classical.not_not.mp c8)
      replace c8 := Classical.not_not.mp c8
      refine x_iconst (pc' := 16) (v := 1) (dX6_isPair 9 rfl rfl) (by decide) rfl ?_
      refine x_goto (tgt := 20) (dX6_isPair 10 rfl rfl) (by decide) ?_
      refine x_inv (pc' := 23) (ν := mX6_must) (av := [_, _]) (st := []) rfl rfl (dX6_isPair 12 rfl rfl) (Nat.le_of_ble_eq_true rfl) wX6_must q220 (inv_V (k := 4) (dX6_isPair 12 rfl rfl) q3075 q3077 qs56 wX6_must (by decide) lX6_must (by decide) s3.1) (exN (by decide)) rfl ?_
      refine C.mono hf (fun _ _ => KV.g (fun h12 hf le13 => ?_))
      replace s3 := s3.le sc3 (le13)
      refine x_iload_n (pc' := 24) 1 (dX6_isPair 13 rfl rfl) rfl rfl rfl ?_
      refine x_iconst (pc' := 25) (v := 4) (dX6_isPair 14 rfl rfl) (by decide) rfl ?_
      refine x_icmp_eq (pc' := 28) (tgt := 32) (dX6_isPair 15 rfl rfl) (by decide) rfl (fun c14 => ?_) (fun c14 => ?_)
      · exact absurd c14 c1
      · refine x_iconst (pc' := 29) (v := 1) (dX6_isPair 16 rfl rfl) (by decide) rfl ?_
        refine x_goto (tgt := 33) (dX6_isPair 17 rfl rfl) (by decide) ?_
        exact x_zret (ty := .boolean) (dX6_isPair 19 rfl rfl) rfl (by decide) hf
theorem bX6_head (G : Gh) (d : Nat) (h : AH) (Q : Outcome → AH → Prop) (p1 : Int32) (s3 : So 3 (gW G) h) (hf : vp_in (p1 + 1) 960100 ∧ (Q (.returned (some (.int (aI h (gW G 1055) (p1 + 1).toNatClampNeg)))) h)) : C G mX6_head d [.ref (gW G 3), .int (p1)] h Q := by
  refine C.of_X (by decide +kernel) (Nat.le_of_ble_eq_true rfl) wX6_head ?_
  show X G mX6_head d none [] 0 [(0, .ref (gW G 3)), (1, .int (p1))] [] h Q
  refine x_aload_n (pc' := 1) 0 (dX6_head 0 rfl rfl) rfl rfl rfl ?_
  refine x_getR (pc' := 4) (dX6_head 1 rfl rfl) g55 q603 (Or.inl rfl) rfl (hf_of 4 s3.1 rfl (by decide) m4_55) (s3.2 0 _ rfl rfl).1 ?_
  refine x_iload_n (pc' := 5) 1 (dX6_head 2 rfl rfl) rfl rfl rfl ?_
  refine x_iconst (pc' := 6) (v := 1) (dX6_head 3 rfl rfl) (by decide) rfl ?_
  refine x_iadd (pc' := 7) (dX6_head 4 rfl rfl) rfl ?_
  obtain ⟨i1, hf⟩ := hf
  refine x_iald (pc' := 8) (dX6_head 5 rfl rfl) rfl (s3.2 0 _ rfl rfl).2.1 (by rw [(s3.2 0 _ rfl rfl).2.2.2 (by decide)]; exact i1) ?_
  exact x_iret (dX6_head 6 rfl rfl) rfl hf
theorem bX6_tail (G : Gh) (d : Nat) (h : AH) (Q : Outcome → AH → Prop) (p1 : Int32) (s3 : So 3 (gW G) h) (hf : vp_in (p1 + 2) 960100 ∧ (Q (.returned (some (.int (aI h (gW G 1055) (p1 + 2).toNatClampNeg)))) h)) : C G mX6_tail d [.ref (gW G 3), .int (p1)] h Q := by
  refine C.of_X (by decide +kernel) (Nat.le_of_ble_eq_true rfl) wX6_tail ?_
  show X G mX6_tail d none [] 0 [(0, .ref (gW G 3)), (1, .int (p1))] [] h Q
  refine x_aload_n (pc' := 1) 0 (dX6_tail 0 rfl rfl) rfl rfl rfl ?_
  refine x_getR (pc' := 4) (dX6_tail 1 rfl rfl) g55 q603 (Or.inl rfl) rfl (hf_of 4 s3.1 rfl (by decide) m4_55) (s3.2 0 _ rfl rfl).1 ?_
  refine x_iload_n (pc' := 5) 1 (dX6_tail 2 rfl rfl) rfl rfl rfl ?_
  refine x_iconst (pc' := 6) (v := 2) (dX6_tail 3 rfl rfl) (by decide) rfl ?_
  refine x_iadd (pc' := 7) (dX6_tail 4 rfl rfl) rfl ?_
  obtain ⟨i1, hf⟩ := hf
  refine x_iald (pc' := 8) (dX6_tail 5 rfl rfl) rfl (s3.2 0 _ rfl rfl).2.1 (by rw [(s3.2 0 _ rfl rfl).2.2.2 (by decide)]; exact i1) ?_
  exact x_iret (dX6_tail 6 rfl rfl) rfl hf
theorem bX6_choose (G : Gh) (d : Nat) (h : AH) (Q : Outcome → AH → Prop) (p1 : Nat) (p2 : Int32) (p3 : Int32) (s3 : So 3 (gW G) h) (hf : vp_in 0 30 ∧ ∀ h2, h2 = sI h (gW G 1066) (0 : Int32).toNatClampNeg p2 → (C G mX6_chosen d [.ref (gW G 3), .ref (p1), .int (1), .int (p3)] h2 (KV Q (fun h4 => Q (.returned none) h4)))) : C G mX6_choose (d + 1) [.ref (gW G 3), .ref (p1), .int (p2), .int (p3)] h Q := by
  refine C.of_X (by decide +kernel) (Nat.le_of_ble_eq_true rfl) wX6_choose ?_
  show X G mX6_choose (d + 1) none [] 0 [(0, .ref (gW G 3)), (1, .ref (p1)), (2, .int (p2)), (3, .int (p3))] [] h Q
  refine x_aload_n (pc' := 1) 0 (dX6_choose 0 rfl rfl) rfl rfl rfl ?_
  refine x_getR (pc' := 4) (dX6_choose 1 rfl rfl) g66 q615 (Or.inl rfl) rfl (hf_of 4 s3.1 rfl (by decide) m4_66) (s3.2 8 _ rfl rfl).1 ?_
  refine x_iconst (pc' := 5) (v := 0) (dX6_choose 2 rfl rfl) (by decide) rfl ?_
  refine x_iload_n (pc' := 6) 2 (dX6_choose 3 rfl rfl) rfl rfl rfl ?_
  obtain ⟨i1, hf⟩ := hf
  refine x_iast (pc' := 7) (dX6_choose 4 rfl rfl) rfl (s3.2 8 _ rfl rfl).2.1 (Or.inl ⟨66, by decide, rfl, by decide⟩) (by rw [(s3.2 8 _ rfl rfl).2.2.2 (by decide)]; exact i1) (fun h2 e3 => ?_)
  replace hf := hf h2 e3
  replace s3 : So 3 (gW G) h2 := by rw [e3]; exact s3.le sc3 (sI_le )
  refine x_aload_n (pc' := 8) 0 (dX6_choose 5 rfl rfl) rfl rfl rfl ?_
  refine x_aload_n (pc' := 9) 1 (dX6_choose 6 rfl rfl) rfl rfl rfl ?_
  refine x_iconst (pc' := 10) (v := 1) (dX6_choose 7 rfl rfl) (by decide) rfl ?_
  refine x_iload_n (pc' := 11) 3 (dX6_choose 8 rfl rfl) rfl rfl rfl ?_
  refine x_inv (pc' := 14) (ν := mX6_chosen) (av := [_, _, _, _]) (st := []) rfl rfl (dX6_choose 9 rfl rfl) (Nat.le_of_ble_eq_true rfl) wX6_chosen q220 (inv_V (k := 4) (dX6_choose 9 rfl rfl) q3099 q3101 qs58 wX6_chosen (by decide) lX6_chosen (by decide) s3.1) (exN (by decide)) rfl ?_
  refine C.mono hf (fun _ _ => KV.g (fun h4 hf le5 => ?_))
  replace s3 := s3.le sc3 (le5)
  exact x_vret (dX6_choose 10 rfl rfl) rfl hf
theorem bX6_set (G : Gh) (d : Nat) (h : AH) (Q : Outcome → AH → Prop) (p1 : Int32) (p2 : Int32) (s3 : So 3 (gW G) h) (hf : C G mX6_tag d [.ref (gW G 3), .int (p1)] h (KI Q (fun x3 h1 => (x3 = 7 → (C G mX6_must d [.ref (gW G 3), .int (1)] h1 (KV Q (fun h10 => vp_in (p1 + 1) 960100 ∧ ∀ h13, h13 = sI h10 (gW G 1055) (p1 + 1).toNatClampNeg p2 → (Q (.returned (some (.int 1))) h13))))) ∧ (¬ x3 = 7 → (C G mX6_must d [.ref (gW G 3), .int (0)] h1 (KV Q (fun h5 => vp_in (p1 + 1) 960100 ∧ ∀ h8, h8 = sI h5 (gW G 1055) (p1 + 1).toNatClampNeg p2 → (Q (.returned (some (.int 1))) h8)))))))) : C G mX6_set (d + 1) [.ref (gW G 3), .int (p1), .int (p2)] h Q := by
  refine C.of_X (by decide +kernel) (Nat.le_of_ble_eq_true rfl) wX6_set ?_
  show X G mX6_set (d + 1) none [] 0 [(0, .ref (gW G 3)), (1, .int (p1)), (2, .int (p2))] [] h Q
  refine x_aload_n (pc' := 1) 0 (dX6_set 0 rfl rfl) rfl rfl rfl ?_
  refine x_aload_n (pc' := 2) 0 (dX6_set 1 rfl rfl) rfl rfl rfl ?_
  refine x_iload_n (pc' := 3) 1 (dX6_set 2 rfl rfl) rfl rfl rfl ?_
  refine x_inv (pc' := 6) (ν := mX6_tag) (av := [_, _]) (st := [_]) rfl rfl (dX6_set 3 rfl rfl) (Nat.le_of_ble_eq_true rfl) wX6_tag q220 (inv_V (k := 4) (dX6_set 3 rfl rfl) q3070 q3071 q3072 wX6_tag (by decide) lX6_tag (by decide) s3.1) (exN (by decide)) rfl ?_
  refine C.mono hf (fun _ _ => KI.g (fun x3 h1 hf le2 => ?_))
  replace s3 := s3.le sc3 (le2)
  refine x_bipush (pc' := 8) (v := 7) (dX6_set 4 rfl rfl) (by decide) rfl ?_
  refine x_icmp_ne (pc' := 11) (tgt := 15) (dX6_set 5 rfl rfl) (by decide) rfl (fun c4 => ?_) (fun c4 => ?_)
  · replace hf := hf.2 c4
    refine x_iconst (pc' := 16) (v := 0) (dX6_set 8 rfl rfl) (by decide) rfl ?_
    refine x_inv (pc' := 19) (ν := mX6_must) (av := [_, _]) (st := []) rfl rfl (dX6_set 9 rfl rfl) (Nat.le_of_ble_eq_true rfl) wX6_must q220 (inv_V (k := 4) (dX6_set 9 rfl rfl) q3075 q3077 qs56 wX6_must (by decide) lX6_must (by decide) s3.1) (exN (by decide)) rfl ?_
    refine C.mono hf (fun _ _ => KV.g (fun h5 hf le6 => ?_))
    replace s3 := s3.le sc3 (le6)
    refine x_aload_n (pc' := 20) 0 (dX6_set 10 rfl rfl) rfl rfl rfl ?_
    refine x_getR (pc' := 23) (dX6_set 11 rfl rfl) g55 q603 (Or.inl rfl) rfl (hf_of 4 s3.1 rfl (by decide) m4_55) (s3.2 0 _ rfl rfl).1 ?_
    refine x_iload_n (pc' := 24) 1 (dX6_set 12 rfl rfl) rfl rfl rfl ?_
    refine x_iconst (pc' := 25) (v := 1) (dX6_set 13 rfl rfl) (by decide) rfl ?_
    refine x_iadd (pc' := 26) (dX6_set 14 rfl rfl) rfl ?_
    refine x_iload_n (pc' := 27) 2 (dX6_set 15 rfl rfl) rfl rfl rfl ?_
    obtain ⟨i7, hf⟩ := hf
    refine x_iast (pc' := 28) (dX6_set 16 rfl rfl) rfl (s3.2 0 _ rfl rfl).2.1 (Or.inl ⟨55, by decide, rfl, by decide⟩) (by rw [(s3.2 0 _ rfl rfl).2.2.2 (by decide)]; exact i7) (fun h8 e9 => ?_)
    replace hf := hf h8 e9
    replace s3 : So 3 (gW G) h8 := by rw [e9]; exact s3.le sc3 (sI_le )
    refine x_iconst (pc' := 29) (v := 1) (dX6_set 17 rfl rfl) (by decide) rfl ?_
    exact x_iret (dX6_set 18 rfl rfl) rfl hf
  · replace hf := hf.1 (Classical.not_not.mp c4)
    replace c4 := Classical.not_not.mp c4
    refine x_iconst (pc' := 12) (v := 1) (dX6_set 6 rfl rfl) (by decide) rfl ?_
    refine x_goto (tgt := 16) (dX6_set 7 rfl rfl) (by decide) ?_
    refine x_inv (pc' := 19) (ν := mX6_must) (av := [_, _]) (st := []) rfl rfl (dX6_set 9 rfl rfl) (Nat.le_of_ble_eq_true rfl) wX6_must q220 (inv_V (k := 4) (dX6_set 9 rfl rfl) q3075 q3077 qs56 wX6_must (by decide) lX6_must (by decide) s3.1) (exN (by decide)) rfl ?_
    refine C.mono hf (fun _ _ => KV.g (fun h10 hf le11 => ?_))
    replace s3 := s3.le sc3 (le11)
    refine x_aload_n (pc' := 20) 0 (dX6_set 10 rfl rfl) rfl rfl rfl ?_
    refine x_getR (pc' := 23) (dX6_set 11 rfl rfl) g55 q603 (Or.inl rfl) rfl (hf_of 4 s3.1 rfl (by decide) m4_55) (s3.2 0 _ rfl rfl).1 ?_
    refine x_iload_n (pc' := 24) 1 (dX6_set 12 rfl rfl) rfl rfl rfl ?_
    refine x_iconst (pc' := 25) (v := 1) (dX6_set 13 rfl rfl) (by decide) rfl ?_
    refine x_iadd (pc' := 26) (dX6_set 14 rfl rfl) rfl ?_
    refine x_iload_n (pc' := 27) 2 (dX6_set 15 rfl rfl) rfl rfl rfl ?_
    obtain ⟨i12, hf⟩ := hf
    refine x_iast (pc' := 28) (dX6_set 16 rfl rfl) rfl (s3.2 0 _ rfl rfl).2.1 (Or.inl ⟨55, by decide, rfl, by decide⟩) (by rw [(s3.2 0 _ rfl rfl).2.2.2 (by decide)]; exact i12) (fun h13 e14 => ?_)
    replace hf := hf h13 e14
    replace s3 : So 3 (gW G) h13 := by rw [e14]; exact s3.le sc3 (sI_le )
    refine x_iconst (pc' := 29) (v := 1) (dX6_set 17 rfl rfl) (by decide) rfl ?_
    exact x_iret (dX6_set 18 rfl rfl) rfl hf
theorem bX6_reckoned (G : Gh) (d : Nat) (h : AH) (Q : Outcome → AH → Prop) (p1 : Int32) (p2 : Int32) (p3 : Int32) (s3 : So 3 (gW G) h) (hf : (p1 = 42 → (C G mX6_made d [.ref (gW G 3), .int (1), .int (p2 * p3)] h (KI Q (fun x4 h2 => Q (.returned (some (.int x4))) h2)))) ∧ (p1 = 43 → (C G mX6_made d [.ref (gW G 3), .int (1), .int (p2 + p3)] h (KI Q (fun x7 h5 => Q (.returned (some (.int x7))) h5)))) ∧ (p1 = 45 → (C G mX6_made d [.ref (gW G 3), .int (1), .int (p2 - p3)] h (KI Q (fun x10 h8 => Q (.returned (some (.int x10))) h8)))) ∧ (p1 = 60 → ((p3 ≤ p2 → (C G mX6_truth d [.ref (gW G 3), .int (0)] h (KI Q (fun x14 h12 => Q (.returned (some (.int x14))) h12)))) ∧ (¬ (p3 ≤ p2) → (C G mX6_truth d [.ref (gW G 3), .int (1)] h (KI Q (fun x17 h15 => Q (.returned (some (.int x17))) h15)))))) ∧ (p1 = 61 → ((p2 = p3 → (C G mX6_truth d [.ref (gW G 3), .int (1)] h (KI Q (fun x24 h22 => Q (.returned (some (.int x24))) h22)))) ∧ (¬ p2 = p3 → (C G mX6_truth d [.ref (gW G 3), .int (0)] h (KI Q (fun x21 h19 => Q (.returned (some (.int x21))) h19)))))) ∧ (p1 = 62 → ((p2 ≤ p3 → (C G mX6_truth d [.ref (gW G 3), .int (0)] h (KI Q (fun x28 h26 => Q (.returned (some (.int x28))) h26)))) ∧ (¬ (p2 ≤ p3) → (C G mX6_truth d [.ref (gW G 3), .int (1)] h (KI Q (fun x31 h29 => Q (.returned (some (.int x31))) h29)))))) ∧ (p1 = 259 → ((p3 = 0 → (C G mX6_fail d [.ref (gW G 3), .int (2)] h (KV Q (fun h46 => Q (.returned (some (.int 1))) h46)))) ∧ (¬ p3 = 0 → ((p1 = 259 → (C G mJ9_floorDiv d [.int (p2), .int (p3)] h (KI Q (fun x42 h40 => C G mX6_made d [.ref (gW G 3), .int (1), .int (x42)] h40 (KI Q (fun x45 h43 => Q (.returned (some (.int x45))) h43)))))) ∧ (¬ p1 = 259 → (C G mJ9_floorMod d [.int (p2), .int (p3)] h (KI Q (fun x36 h34 => C G mX6_made d [.ref (gW G 3), .int (1), .int (x36)] h34 (KI Q (fun x39 h37 => Q (.returned (some (.int x39))) h37)))))))))) ∧ (p1 = 267 → ((p3 = 0 → (C G mX6_fail d [.ref (gW G 3), .int (2)] h (KV Q (fun h62 => Q (.returned (some (.int 1))) h62)))) ∧ (¬ p3 = 0 → ((p1 = 259 → (C G mJ9_floorDiv d [.int (p2), .int (p3)] h (KI Q (fun x58 h56 => C G mX6_made d [.ref (gW G 3), .int (1), .int (x58)] h56 (KI Q (fun x61 h59 => Q (.returned (some (.int x61))) h59)))))) ∧ (¬ p1 = 259 → (C G mJ9_floorMod d [.int (p2), .int (p3)] h (KI Q (fun x52 h50 => C G mX6_made d [.ref (gW G 3), .int (1), .int (x52)] h50 (KI Q (fun x55 h53 => Q (.returned (some (.int x55))) h53)))))))))) ∧ (p1 = 288 → ((p2 = p3 → (C G mX6_truth d [.ref (gW G 3), .int (0)] h (KI Q (fun x67 h65 => Q (.returned (some (.int x67))) h65)))) ∧ (¬ p2 = p3 → (C G mX6_truth d [.ref (gW G 3), .int (1)] h (KI Q (fun x70 h68 => Q (.returned (some (.int x70))) h68)))))) ∧ (p1 = 289 → ((p3 < p2 → (C G mX6_truth d [.ref (gW G 3), .int (0)] h (KI Q (fun x74 h72 => Q (.returned (some (.int x74))) h72)))) ∧ (¬ (p3 < p2) → (C G mX6_truth d [.ref (gW G 3), .int (1)] h (KI Q (fun x77 h75 => Q (.returned (some (.int x77))) h75)))))) ∧ (¬ p1 = 42 ∧ ¬ p1 = 43 ∧ ¬ p1 = 45 ∧ ¬ p1 = 60 ∧ ¬ p1 = 61 ∧ ¬ p1 = 62 ∧ ¬ p1 = 259 ∧ ¬ p1 = 267 ∧ ¬ p1 = 288 ∧ ¬ p1 = 289 → ((p2 < p3 → (C G mX6_truth d [.ref (gW G 3), .int (0)] h (KI Q (fun x81 h79 => Q (.returned (some (.int x81))) h79)))) ∧ (¬ (p2 < p3) → (C G mX6_truth d [.ref (gW G 3), .int (1)] h (KI Q (fun x84 h82 => Q (.returned (some (.int x84))) h82))))))) : C G mX6_reckoned (d + 1) [.ref (gW G 3), .int (p1), .int (p2), .int (p3)] h Q := by
  refine C.of_X (by decide +kernel) (Nat.le_of_ble_eq_true rfl) wX6_reckoned ?_
  show X G mX6_reckoned (d + 1) none [] 0 [(0, .ref (gW G 3)), (1, .int (p1)), (2, .int (p2)), (3, .int (p3))] [] h Q
  refine x_iload_n (pc' := 1) 1 (dX6_reckoned 0 rfl rfl) rfl rfl rfl ?_
  by_cases c10 : p1 = 42
  · replace hf := hf.1 c10
    refine x_ls (v := 42) (tgt := 110) (swX6_reckoned_1) (by decide) (by rw [c10]; decide) (by decide) ?_
    refine x_aload_n (pc' := 111) 0 (dX6_reckoned 16 rfl rfl) rfl rfl rfl ?_
    refine x_iconst (pc' := 112) (v := 1) (dX6_reckoned 17 rfl rfl) (by decide) rfl ?_
    refine x_iload_n (pc' := 113) 2 (dX6_reckoned 18 rfl rfl) rfl rfl rfl ?_
    refine x_iload_n (pc' := 114) 3 (dX6_reckoned 19 rfl rfl) rfl rfl rfl ?_
    refine x_imul (pc' := 115) (dX6_reckoned 20 rfl rfl) rfl ?_
    refine x_inv (pc' := 118) (ν := mX6_made) (av := [_, _, _]) (st := []) rfl rfl (dX6_reckoned 21 rfl rfl) (Nat.le_of_ble_eq_true rfl) wX6_made q220 (inv_V (k := 4) (dX6_reckoned 21 rfl rfl) q3088 q2933 q2934 wX6_made (by decide) lX6_made (by decide) s3.1) (exN (by decide)) rfl ?_
    refine C.mono hf (fun _ _ => KI.g (fun x4 h2 hf le3 => ?_))
    replace s3 := s3.le sc3 (le3)
    exact x_iret (dX6_reckoned 22 rfl rfl) rfl hf
  by_cases c11 : p1 = 43
  · replace hf := hf.2.1 c11
    refine x_ls (v := 43) (tgt := 92) (swX6_reckoned_1) (by decide) (by rw [c11]; decide) (by decide) ?_
    refine x_aload_n (pc' := 93) 0 (dX6_reckoned 2 rfl rfl) rfl rfl rfl ?_
    refine x_iconst (pc' := 94) (v := 1) (dX6_reckoned 3 rfl rfl) (by decide) rfl ?_
    refine x_iload_n (pc' := 95) 2 (dX6_reckoned 4 rfl rfl) rfl rfl rfl ?_
    refine x_iload_n (pc' := 96) 3 (dX6_reckoned 5 rfl rfl) rfl rfl rfl ?_
    refine x_iadd (pc' := 97) (dX6_reckoned 6 rfl rfl) rfl ?_
    refine x_inv (pc' := 100) (ν := mX6_made) (av := [_, _, _]) (st := []) rfl rfl (dX6_reckoned 7 rfl rfl) (Nat.le_of_ble_eq_true rfl) wX6_made q220 (inv_V (k := 4) (dX6_reckoned 7 rfl rfl) q3088 q2933 q2934 wX6_made (by decide) lX6_made (by decide) s3.1) (exN (by decide)) rfl ?_
    refine C.mono hf (fun _ _ => KI.g (fun x7 h5 hf le6 => ?_))
    replace s3 := s3.le sc3 (le6)
    exact x_iret (dX6_reckoned 8 rfl rfl) rfl hf
  by_cases c12 : p1 = 45
  · replace hf := hf.2.2.1 c12
    refine x_ls (v := 45) (tgt := 101) (swX6_reckoned_1) (by decide) (by rw [c12]; decide) (by decide) ?_
    refine x_aload_n (pc' := 102) 0 (dX6_reckoned 9 rfl rfl) rfl rfl rfl ?_
    refine x_iconst (pc' := 103) (v := 1) (dX6_reckoned 10 rfl rfl) (by decide) rfl ?_
    refine x_iload_n (pc' := 104) 2 (dX6_reckoned 11 rfl rfl) rfl rfl rfl ?_
    refine x_iload_n (pc' := 105) 3 (dX6_reckoned 12 rfl rfl) rfl rfl rfl ?_
    refine x_isub (pc' := 106) (dX6_reckoned 13 rfl rfl) rfl ?_
    refine x_inv (pc' := 109) (ν := mX6_made) (av := [_, _, _]) (st := []) rfl rfl (dX6_reckoned 14 rfl rfl) (Nat.le_of_ble_eq_true rfl) wX6_made q220 (inv_V (k := 4) (dX6_reckoned 14 rfl rfl) q3088 q2933 q2934 wX6_made (by decide) lX6_made (by decide) s3.1) (exN (by decide)) rfl ?_
    refine C.mono hf (fun _ _ => KI.g (fun x10 h8 hf le9 => ?_))
    replace s3 := s3.le sc3 (le9)
    exact x_iret (dX6_reckoned 15 rfl rfl) rfl hf
  by_cases c13 : p1 = 60
  · replace hf := hf.2.2.2.1 c13
    refine x_ls (v := 60) (tgt := 186) (swX6_reckoned_1) (by decide) (by rw [c13]; decide) (by decide) ?_
    refine x_aload_n (pc' := 187) 0 (dX6_reckoned 62 rfl rfl) rfl rfl rfl ?_
    refine x_iload_n (pc' := 188) 2 (dX6_reckoned 63 rfl rfl) rfl rfl rfl ?_
    refine x_iload_n (pc' := 189) 3 (dX6_reckoned 64 rfl rfl) rfl rfl rfl ?_
    refine x_icmp_ge (pc' := 192) (tgt := 196) (dX6_reckoned 65 rfl rfl) (by decide) rfl (fun c11 => ?_) (fun c11 => ?_)
    · replace hf := hf.1 c11
      refine x_iconst (pc' := 197) (v := 0) (dX6_reckoned 68 rfl rfl) (by decide) rfl ?_
      refine x_inv (pc' := 200) (ν := mX6_truth) (av := [_, _]) (st := []) rfl rfl (dX6_reckoned 69 rfl rfl) (Nat.le_of_ble_eq_true rfl) wX6_truth q220 (inv_V (k := 4) (dX6_reckoned 69 rfl rfl) q3087 q2937 q2938 wX6_truth (by decide) lX6_truth (by decide) s3.1) (exN (by decide)) rfl ?_
      refine C.mono hf (fun _ _ => KI.g (fun x14 h12 hf le13 => ?_))
      replace s3 := s3.le sc3 (le13)
      exact x_iret (dX6_reckoned 70 rfl rfl) rfl hf
    · replace hf := hf.2 c11
      refine x_iconst (pc' := 193) (v := 1) (dX6_reckoned 66 rfl rfl) (by decide) rfl ?_
      refine x_goto (tgt := 197) (dX6_reckoned 67 rfl rfl) (by decide) ?_
      refine x_inv (pc' := 200) (ν := mX6_truth) (av := [_, _]) (st := []) rfl rfl (dX6_reckoned 69 rfl rfl) (Nat.le_of_ble_eq_true rfl) wX6_truth q220 (inv_V (k := 4) (dX6_reckoned 69 rfl rfl) q3087 q2937 q2938 wX6_truth (by decide) lX6_truth (by decide) s3.1) (exN (by decide)) rfl ?_
      refine C.mono hf (fun _ _ => KI.g (fun x17 h15 hf le16 => ?_))
      replace s3 := s3.le sc3 (le16)
      exact x_iret (dX6_reckoned 70 rfl rfl) rfl hf
  by_cases c14 : p1 = 61
  · replace hf := hf.2.2.2.2.1 c14
    refine x_ls (v := 61) (tgt := 156) (swX6_reckoned_1) (by decide) (by rw [c14]; decide) (by decide) ?_
    refine x_aload_n (pc' := 157) 0 (dX6_reckoned 44 rfl rfl) rfl rfl rfl ?_
    refine x_iload_n (pc' := 158) 2 (dX6_reckoned 45 rfl rfl) rfl rfl rfl ?_
    refine x_iload_n (pc' := 159) 3 (dX6_reckoned 46 rfl rfl) rfl rfl rfl ?_
    refine x_icmp_ne (pc' := 162) (tgt := 166) (dX6_reckoned 47 rfl rfl) (by decide) rfl (fun c18 => ?_) (fun c18 => ?_)
    · replace hf := hf.2 c18
      refine x_iconst (pc' := 167) (v := 0) (dX6_reckoned 50 rfl rfl) (by decide) rfl ?_
      refine x_inv (pc' := 170) (ν := mX6_truth) (av := [_, _]) (st := []) rfl rfl (dX6_reckoned 51 rfl rfl) (Nat.le_of_ble_eq_true rfl) wX6_truth q220 (inv_V (k := 4) (dX6_reckoned 51 rfl rfl) q3087 q2937 q2938 wX6_truth (by decide) lX6_truth (by decide) s3.1) (exN (by decide)) rfl ?_
      refine C.mono hf (fun _ _ => KI.g (fun x21 h19 hf le20 => ?_))
      replace s3 := s3.le sc3 (le20)
      exact x_iret (dX6_reckoned 52 rfl rfl) rfl hf
    · replace hf := hf.1 (Classical.not_not.mp c18)
      replace c18 := Classical.not_not.mp c18
      refine x_iconst (pc' := 163) (v := 1) (dX6_reckoned 48 rfl rfl) (by decide) rfl ?_
      refine x_goto (tgt := 167) (dX6_reckoned 49 rfl rfl) (by decide) ?_
      refine x_inv (pc' := 170) (ν := mX6_truth) (av := [_, _]) (st := []) rfl rfl (dX6_reckoned 51 rfl rfl) (Nat.le_of_ble_eq_true rfl) wX6_truth q220 (inv_V (k := 4) (dX6_reckoned 51 rfl rfl) q3087 q2937 q2938 wX6_truth (by decide) lX6_truth (by decide) s3.1) (exN (by decide)) rfl ?_
      refine C.mono hf (fun _ _ => KI.g (fun x24 h22 hf le23 => ?_))
      replace s3 := s3.le sc3 (le23)
      exact x_iret (dX6_reckoned 52 rfl rfl) rfl hf
  by_cases c15 : p1 = 62
  · replace hf := hf.2.2.2.2.2.1 c15
    refine x_ls (v := 62) (tgt := 216) (swX6_reckoned_1) (by decide) (by rw [c15]; decide) (by decide) ?_
    refine x_aload_n (pc' := 217) 0 (dX6_reckoned 80 rfl rfl) rfl rfl rfl ?_
    refine x_iload_n (pc' := 218) 2 (dX6_reckoned 81 rfl rfl) rfl rfl rfl ?_
    refine x_iload_n (pc' := 219) 3 (dX6_reckoned 82 rfl rfl) rfl rfl rfl ?_
    refine x_icmp_le (pc' := 222) (tgt := 226) (dX6_reckoned 83 rfl rfl) (by decide) rfl (fun c25 => ?_) (fun c25 => ?_)
    · replace hf := hf.1 c25
      refine x_iconst (pc' := 227) (v := 0) (dX6_reckoned 86 rfl rfl) (by decide) rfl ?_
      refine x_inv (pc' := 230) (ν := mX6_truth) (av := [_, _]) (st := []) rfl rfl (dX6_reckoned 87 rfl rfl) (Nat.le_of_ble_eq_true rfl) wX6_truth q220 (inv_V (k := 4) (dX6_reckoned 87 rfl rfl) q3087 q2937 q2938 wX6_truth (by decide) lX6_truth (by decide) s3.1) (exN (by decide)) rfl ?_
      refine C.mono hf (fun _ _ => KI.g (fun x28 h26 hf le27 => ?_))
      replace s3 := s3.le sc3 (le27)
      exact x_iret (dX6_reckoned 88 rfl rfl) rfl hf
    · replace hf := hf.2 c25
      refine x_iconst (pc' := 223) (v := 1) (dX6_reckoned 84 rfl rfl) (by decide) rfl ?_
      refine x_goto (tgt := 227) (dX6_reckoned 85 rfl rfl) (by decide) ?_
      refine x_inv (pc' := 230) (ν := mX6_truth) (av := [_, _]) (st := []) rfl rfl (dX6_reckoned 87 rfl rfl) (Nat.le_of_ble_eq_true rfl) wX6_truth q220 (inv_V (k := 4) (dX6_reckoned 87 rfl rfl) q3087 q2937 q2938 wX6_truth (by decide) lX6_truth (by decide) s3.1) (exN (by decide)) rfl ?_
      refine C.mono hf (fun _ _ => KI.g (fun x31 h29 hf le30 => ?_))
      replace s3 := s3.le sc3 (le30)
      exact x_iret (dX6_reckoned 88 rfl rfl) rfl hf
  by_cases c16 : p1 = 259
  · replace hf := hf.2.2.2.2.2.2.1 c16
    refine x_ls (v := 259) (tgt := 119) (swX6_reckoned_1) (by decide) (by rw [c16]; decide) (by decide) ?_
    refine x_iload_n (pc' := 120) 3 (dX6_reckoned 23 rfl rfl) rfl rfl rfl ?_
    refine x_if_ne (pc' := 123) (tgt := 130) (dX6_reckoned 24 rfl rfl) (by decide) rfl (fun c32 => ?_) (fun c32 => ?_)
    · replace hf := hf.2 c32
      refine x_aload_n (pc' := 131) 0 (dX6_reckoned 30 rfl rfl) rfl rfl rfl ?_
      refine x_iconst (pc' := 132) (v := 1) (dX6_reckoned 31 rfl rfl) (by decide) rfl ?_
      refine x_iload_n (pc' := 133) 1 (dX6_reckoned 32 rfl rfl) rfl rfl rfl ?_
      refine x_sipush (pc' := 136) (v := 259) (dX6_reckoned 33 rfl rfl) (by decide) rfl ?_
      refine x_icmp_ne (pc' := 139) (tgt := 147) (dX6_reckoned 34 rfl rfl) (by decide) rfl (fun c33 => ?_) (fun c33 => ?_)
      · replace hf := hf.2 c33
        refine x_iload_n (pc' := 148) 2 (dX6_reckoned 39 rfl rfl) rfl rfl rfl ?_
        refine x_iload_n (pc' := 149) 3 (dX6_reckoned 40 rfl rfl) rfl rfl rfl ?_
        refine x_inv (pc' := 152) (ν := mJ9_floorMod) (av := [_, _]) (st := [_, _]) rfl rfl (dX6_reckoned 41 rfl rfl) (Nat.le_of_ble_eq_true rfl) wJ9_floorMod q235 (inv_S (dX6_reckoned 41 rfl rfl) q3221 q3222 q235 wJ9_floorMod (by decide) lJ9_floorMod) (exN (by decide)) rfl ?_
        refine C.mono hf (fun _ _ => KI.g (fun x36 h34 hf le35 => ?_))
        replace s3 := s3.le sc3 (le35)
        refine x_inv (pc' := 155) (ν := mX6_made) (av := [_, _, _]) (st := []) rfl rfl (dX6_reckoned 42 rfl rfl) (Nat.le_of_ble_eq_true rfl) wX6_made q220 (inv_V (k := 4) (dX6_reckoned 42 rfl rfl) q3088 q2933 q2934 wX6_made (by decide) lX6_made (by decide) s3.1) (exN (by decide)) rfl ?_
        refine C.mono hf (fun _ _ => KI.g (fun x39 h37 hf le38 => ?_))
        replace s3 := s3.le sc3 (le38)
        exact x_iret (dX6_reckoned 43 rfl rfl) rfl hf
      · replace hf := hf.1 (Classical.not_not.mp c33)
        replace c33 := Classical.not_not.mp c33
        refine x_iload_n (pc' := 140) 2 (dX6_reckoned 35 rfl rfl) rfl rfl rfl ?_
        refine x_iload_n (pc' := 141) 3 (dX6_reckoned 36 rfl rfl) rfl rfl rfl ?_
        refine x_inv (pc' := 144) (ν := mJ9_floorDiv) (av := [_, _]) (st := [_, _]) rfl rfl (dX6_reckoned 37 rfl rfl) (Nat.le_of_ble_eq_true rfl) wJ9_floorDiv q235 (inv_S (dX6_reckoned 37 rfl rfl) q3218 q3219 q235 wJ9_floorDiv (by decide) lJ9_floorDiv) (exN (by decide)) rfl ?_
        refine C.mono hf (fun _ _ => KI.g (fun x42 h40 hf le41 => ?_))
        replace s3 := s3.le sc3 (le41)
        refine x_goto (tgt := 152) (dX6_reckoned 38 rfl rfl) (by decide) ?_
        refine x_inv (pc' := 155) (ν := mX6_made) (av := [_, _, _]) (st := []) rfl rfl (dX6_reckoned 42 rfl rfl) (Nat.le_of_ble_eq_true rfl) wX6_made q220 (inv_V (k := 4) (dX6_reckoned 42 rfl rfl) q3088 q2933 q2934 wX6_made (by decide) lX6_made (by decide) s3.1) (exN (by decide)) rfl ?_
        refine C.mono hf (fun _ _ => KI.g (fun x45 h43 hf le44 => ?_))
        replace s3 := s3.le sc3 (le44)
        exact x_iret (dX6_reckoned 43 rfl rfl) rfl hf
    · replace hf := hf.1 (Classical.not_not.mp c32)
      replace c32 := Classical.not_not.mp c32
      refine x_aload_n (pc' := 124) 0 (dX6_reckoned 25 rfl rfl) rfl rfl rfl ?_
      refine x_iconst (pc' := 125) (v := 2) (dX6_reckoned 26 rfl rfl) (by decide) rfl ?_
      refine x_inv (pc' := 128) (ν := mX6_fail) (av := [_, _]) (st := []) rfl rfl (dX6_reckoned 27 rfl rfl) (Nat.le_of_ble_eq_true rfl) wX6_fail q220 (inv_V (k := 4) (dX6_reckoned 27 rfl rfl) q2894 q2895 q2896 wX6_fail (by decide) lX6_fail (by decide) s3.1) (exN (by decide)) rfl ?_
      refine C.mono hf (fun _ _ => KV.g (fun h46 hf le47 => ?_))
      replace s3 := s3.le sc3 (le47)
      refine x_iconst (pc' := 129) (v := 1) (dX6_reckoned 28 rfl rfl) (by decide) rfl ?_
      exact x_iret (dX6_reckoned 29 rfl rfl) rfl hf
  by_cases c17 : p1 = 267
  · replace hf := hf.2.2.2.2.2.2.2.1 c17
    refine x_ls (v := 267) (tgt := 119) (swX6_reckoned_1) (by decide) (by rw [c17]; decide) (by decide) ?_
    refine x_iload_n (pc' := 120) 3 (dX6_reckoned 23 rfl rfl) rfl rfl rfl ?_
    refine x_if_ne (pc' := 123) (tgt := 130) (dX6_reckoned 24 rfl rfl) (by decide) rfl (fun c48 => ?_) (fun c48 => ?_)
    · replace hf := hf.2 c48
      refine x_aload_n (pc' := 131) 0 (dX6_reckoned 30 rfl rfl) rfl rfl rfl ?_
      refine x_iconst (pc' := 132) (v := 1) (dX6_reckoned 31 rfl rfl) (by decide) rfl ?_
      refine x_iload_n (pc' := 133) 1 (dX6_reckoned 32 rfl rfl) rfl rfl rfl ?_
      refine x_sipush (pc' := 136) (v := 259) (dX6_reckoned 33 rfl rfl) (by decide) rfl ?_
      refine x_icmp_ne (pc' := 139) (tgt := 147) (dX6_reckoned 34 rfl rfl) (by decide) rfl (fun c49 => ?_) (fun c49 => ?_)
      · replace hf := hf.2 c49
        refine x_iload_n (pc' := 148) 2 (dX6_reckoned 39 rfl rfl) rfl rfl rfl ?_
        refine x_iload_n (pc' := 149) 3 (dX6_reckoned 40 rfl rfl) rfl rfl rfl ?_
        refine x_inv (pc' := 152) (ν := mJ9_floorMod) (av := [_, _]) (st := [_, _]) rfl rfl (dX6_reckoned 41 rfl rfl) (Nat.le_of_ble_eq_true rfl) wJ9_floorMod q235 (inv_S (dX6_reckoned 41 rfl rfl) q3221 q3222 q235 wJ9_floorMod (by decide) lJ9_floorMod) (exN (by decide)) rfl ?_
        refine C.mono hf (fun _ _ => KI.g (fun x52 h50 hf le51 => ?_))
        replace s3 := s3.le sc3 (le51)
        refine x_inv (pc' := 155) (ν := mX6_made) (av := [_, _, _]) (st := []) rfl rfl (dX6_reckoned 42 rfl rfl) (Nat.le_of_ble_eq_true rfl) wX6_made q220 (inv_V (k := 4) (dX6_reckoned 42 rfl rfl) q3088 q2933 q2934 wX6_made (by decide) lX6_made (by decide) s3.1) (exN (by decide)) rfl ?_
        refine C.mono hf (fun _ _ => KI.g (fun x55 h53 hf le54 => ?_))
        replace s3 := s3.le sc3 (le54)
        exact x_iret (dX6_reckoned 43 rfl rfl) rfl hf
      · replace hf := hf.1 (Classical.not_not.mp c49)
        replace c49 := Classical.not_not.mp c49
        refine x_iload_n (pc' := 140) 2 (dX6_reckoned 35 rfl rfl) rfl rfl rfl ?_
        refine x_iload_n (pc' := 141) 3 (dX6_reckoned 36 rfl rfl) rfl rfl rfl ?_
        refine x_inv (pc' := 144) (ν := mJ9_floorDiv) (av := [_, _]) (st := [_, _]) rfl rfl (dX6_reckoned 37 rfl rfl) (Nat.le_of_ble_eq_true rfl) wJ9_floorDiv q235 (inv_S (dX6_reckoned 37 rfl rfl) q3218 q3219 q235 wJ9_floorDiv (by decide) lJ9_floorDiv) (exN (by decide)) rfl ?_
        refine C.mono hf (fun _ _ => KI.g (fun x58 h56 hf le57 => ?_))
        replace s3 := s3.le sc3 (le57)
        refine x_goto (tgt := 152) (dX6_reckoned 38 rfl rfl) (by decide) ?_
        refine x_inv (pc' := 155) (ν := mX6_made) (av := [_, _, _]) (st := []) rfl rfl (dX6_reckoned 42 rfl rfl) (Nat.le_of_ble_eq_true rfl) wX6_made q220 (inv_V (k := 4) (dX6_reckoned 42 rfl rfl) q3088 q2933 q2934 wX6_made (by decide) lX6_made (by decide) s3.1) (exN (by decide)) rfl ?_
        refine C.mono hf (fun _ _ => KI.g (fun x61 h59 hf le60 => ?_))
        replace s3 := s3.le sc3 (le60)
        exact x_iret (dX6_reckoned 43 rfl rfl) rfl hf
    · replace hf := hf.1 (Classical.not_not.mp c48)
      replace c48 := Classical.not_not.mp c48
      refine x_aload_n (pc' := 124) 0 (dX6_reckoned 25 rfl rfl) rfl rfl rfl ?_
      refine x_iconst (pc' := 125) (v := 2) (dX6_reckoned 26 rfl rfl) (by decide) rfl ?_
      refine x_inv (pc' := 128) (ν := mX6_fail) (av := [_, _]) (st := []) rfl rfl (dX6_reckoned 27 rfl rfl) (Nat.le_of_ble_eq_true rfl) wX6_fail q220 (inv_V (k := 4) (dX6_reckoned 27 rfl rfl) q2894 q2895 q2896 wX6_fail (by decide) lX6_fail (by decide) s3.1) (exN (by decide)) rfl ?_
      refine C.mono hf (fun _ _ => KV.g (fun h62 hf le63 => ?_))
      replace s3 := s3.le sc3 (le63)
      refine x_iconst (pc' := 129) (v := 1) (dX6_reckoned 28 rfl rfl) (by decide) rfl ?_
      exact x_iret (dX6_reckoned 29 rfl rfl) rfl hf
  by_cases c18 : p1 = 288
  · replace hf := hf.2.2.2.2.2.2.2.2.1 c18
    refine x_ls (v := 288) (tgt := 171) (swX6_reckoned_1) (by decide) (by rw [c18]; decide) (by decide) ?_
    refine x_aload_n (pc' := 172) 0 (dX6_reckoned 53 rfl rfl) rfl rfl rfl ?_
    refine x_iload_n (pc' := 173) 2 (dX6_reckoned 54 rfl rfl) rfl rfl rfl ?_
    refine x_iload_n (pc' := 174) 3 (dX6_reckoned 55 rfl rfl) rfl rfl rfl ?_
    refine x_icmp_eq (pc' := 177) (tgt := 181) (dX6_reckoned 56 rfl rfl) (by decide) rfl (fun c64 => ?_) (fun c64 => ?_)
    · replace hf := hf.1 c64
      refine x_iconst (pc' := 182) (v := 0) (dX6_reckoned 59 rfl rfl) (by decide) rfl ?_
      refine x_inv (pc' := 185) (ν := mX6_truth) (av := [_, _]) (st := []) rfl rfl (dX6_reckoned 60 rfl rfl) (Nat.le_of_ble_eq_true rfl) wX6_truth q220 (inv_V (k := 4) (dX6_reckoned 60 rfl rfl) q3087 q2937 q2938 wX6_truth (by decide) lX6_truth (by decide) s3.1) (exN (by decide)) rfl ?_
      refine C.mono hf (fun _ _ => KI.g (fun x67 h65 hf le66 => ?_))
      replace s3 := s3.le sc3 (le66)
      exact x_iret (dX6_reckoned 61 rfl rfl) rfl hf
    · replace hf := hf.2 c64
      refine x_iconst (pc' := 178) (v := 1) (dX6_reckoned 57 rfl rfl) (by decide) rfl ?_
      refine x_goto (tgt := 182) (dX6_reckoned 58 rfl rfl) (by decide) ?_
      refine x_inv (pc' := 185) (ν := mX6_truth) (av := [_, _]) (st := []) rfl rfl (dX6_reckoned 60 rfl rfl) (Nat.le_of_ble_eq_true rfl) wX6_truth q220 (inv_V (k := 4) (dX6_reckoned 60 rfl rfl) q3087 q2937 q2938 wX6_truth (by decide) lX6_truth (by decide) s3.1) (exN (by decide)) rfl ?_
      refine C.mono hf (fun _ _ => KI.g (fun x70 h68 hf le69 => ?_))
      replace s3 := s3.le sc3 (le69)
      exact x_iret (dX6_reckoned 61 rfl rfl) rfl hf
  by_cases c19 : p1 = 289
  · replace hf := hf.2.2.2.2.2.2.2.2.2.1 c19
    refine x_ls (v := 289) (tgt := 201) (swX6_reckoned_1) (by decide) (by rw [c19]; decide) (by decide) ?_
    refine x_aload_n (pc' := 202) 0 (dX6_reckoned 71 rfl rfl) rfl rfl rfl ?_
    refine x_iload_n (pc' := 203) 2 (dX6_reckoned 72 rfl rfl) rfl rfl rfl ?_
    refine x_iload_n (pc' := 204) 3 (dX6_reckoned 73 rfl rfl) rfl rfl rfl ?_
    refine x_icmp_gt (pc' := 207) (tgt := 211) (dX6_reckoned 74 rfl rfl) (by decide) rfl (fun c71 => ?_) (fun c71 => ?_)
    · replace hf := hf.1 c71
      refine x_iconst (pc' := 212) (v := 0) (dX6_reckoned 77 rfl rfl) (by decide) rfl ?_
      refine x_inv (pc' := 215) (ν := mX6_truth) (av := [_, _]) (st := []) rfl rfl (dX6_reckoned 78 rfl rfl) (Nat.le_of_ble_eq_true rfl) wX6_truth q220 (inv_V (k := 4) (dX6_reckoned 78 rfl rfl) q3087 q2937 q2938 wX6_truth (by decide) lX6_truth (by decide) s3.1) (exN (by decide)) rfl ?_
      refine C.mono hf (fun _ _ => KI.g (fun x74 h72 hf le73 => ?_))
      replace s3 := s3.le sc3 (le73)
      exact x_iret (dX6_reckoned 79 rfl rfl) rfl hf
    · replace hf := hf.2 c71
      refine x_iconst (pc' := 208) (v := 1) (dX6_reckoned 75 rfl rfl) (by decide) rfl ?_
      refine x_goto (tgt := 212) (dX6_reckoned 76 rfl rfl) (by decide) ?_
      refine x_inv (pc' := 215) (ν := mX6_truth) (av := [_, _]) (st := []) rfl rfl (dX6_reckoned 78 rfl rfl) (Nat.le_of_ble_eq_true rfl) wX6_truth q220 (inv_V (k := 4) (dX6_reckoned 78 rfl rfl) q3087 q2937 q2938 wX6_truth (by decide) lX6_truth (by decide) s3.1) (exN (by decide)) rfl ?_
      refine C.mono hf (fun _ _ => KI.g (fun x77 h75 hf le76 => ?_))
      replace s3 := s3.le sc3 (le76)
      exact x_iret (dX6_reckoned 79 rfl rfl) rfl hf
  replace hf := hf.2.2.2.2.2.2.2.2.2.2 ⟨c10, c11, c12, c13, c14, c15, c16, c17, c18, c19⟩
  refine x_ld (vs := [42, 43, 45, 60, 61, 62, 259, 267, 288, 289]) (tgt := 231) (swX6_reckoned_1) (by decide) ?_ (by decide) (by decide) ?_
  · intro v hv
    simp only [List.mem_cons, List.not_mem_nil, or_false] at hv
    rcases hv with rfl | rfl | rfl | rfl | rfl | rfl | rfl | rfl | rfl | rfl
    · exact i32_ne (by decide) c10
    · exact i32_ne (by decide) c11
    · exact i32_ne (by decide) c12
    · exact i32_ne (by decide) c13
    · exact i32_ne (by decide) c14
    · exact i32_ne (by decide) c15
    · exact i32_ne (by decide) c16
    · exact i32_ne (by decide) c17
    · exact i32_ne (by decide) c18
    · exact i32_ne (by decide) c19
  · refine x_aload_n (pc' := 232) 0 (dX6_reckoned 89 rfl rfl) rfl rfl rfl ?_
    refine x_iload_n (pc' := 233) 2 (dX6_reckoned 90 rfl rfl) rfl rfl rfl ?_
    refine x_iload_n (pc' := 234) 3 (dX6_reckoned 91 rfl rfl) rfl rfl rfl ?_
    refine x_icmp_lt (pc' := 237) (tgt := 241) (dX6_reckoned 92 rfl rfl) (by decide) rfl (fun c78 => ?_) (fun c78 => ?_)
    · replace hf := hf.1 c78
      refine x_iconst (pc' := 242) (v := 0) (dX6_reckoned 95 rfl rfl) (by decide) rfl ?_
      refine x_inv (pc' := 245) (ν := mX6_truth) (av := [_, _]) (st := []) rfl rfl (dX6_reckoned 96 rfl rfl) (Nat.le_of_ble_eq_true rfl) wX6_truth q220 (inv_V (k := 4) (dX6_reckoned 96 rfl rfl) q3087 q2937 q2938 wX6_truth (by decide) lX6_truth (by decide) s3.1) (exN (by decide)) rfl ?_
      refine C.mono hf (fun _ _ => KI.g (fun x81 h79 hf le80 => ?_))
      replace s3 := s3.le sc3 (le80)
      exact x_iret (dX6_reckoned 97 rfl rfl) rfl hf
    · replace hf := hf.2 c78
      refine x_iconst (pc' := 238) (v := 1) (dX6_reckoned 93 rfl rfl) (by decide) rfl ?_
      refine x_goto (tgt := 242) (dX6_reckoned 94 rfl rfl) (by decide) ?_
      refine x_inv (pc' := 245) (ν := mX6_truth) (av := [_, _]) (st := []) rfl rfl (dX6_reckoned 96 rfl rfl) (Nat.le_of_ble_eq_true rfl) wX6_truth q220 (inv_V (k := 4) (dX6_reckoned 96 rfl rfl) q3087 q2937 q2938 wX6_truth (by decide) lX6_truth (by decide) s3.1) (exN (by decide)) rfl ?_
      refine C.mono hf (fun _ _ => KI.g (fun x84 h82 hf le83 => ?_))
      replace s3 := s3.le sc3 (le83)
      exact x_iret (dX6_reckoned 97 rfl rfl) rfl hf
theorem bX6_tuple (G : Gh) (d : Nat) (h : AH) (Q : Outcome → AH → Prop) (p1 : Int32) (s3 : So 3 (gW G) h) (hf : vp_in (fI h (gW G 3) 56) 960100 ∧ ∀ h2, h2 = sI h (gW G 1055) (fI h (gW G 3) 56).toNatClampNeg 2 → (vp_in ((fI h2 (gW G 3) 56) + 1) 960100 ∧ ∀ h5, h5 = sI h2 (gW G 1055) ((fI h2 (gW G 3) 56) + 1).toNatClampNeg p1 → (∀ x7 : Int32, x7 = p1 - 1 → (X G mX6_tuple (d + 1) none [] 26 [(0, .ref (gW G 3)), (1, .int (p1)), (2, .int (x7))] [] h5 Q)))) : C G mX6_tuple (d + 1) [.ref (gW G 3), .int (p1)] h Q := by
  refine C.of_X (by decide +kernel) (Nat.le_of_ble_eq_true rfl) wX6_tuple ?_
  show X G mX6_tuple (d + 1) none [] 0 [(0, .ref (gW G 3)), (1, .int (p1))] [] h Q
  refine x_aload_n (pc' := 1) 0 (dX6_tuple 0 rfl rfl) rfl rfl rfl ?_
  refine x_getR (pc' := 4) (dX6_tuple 1 rfl rfl) g55 q603 (Or.inl rfl) rfl (hf_of 4 s3.1 rfl (by decide) m4_55) (s3.2 0 _ rfl rfl).1 ?_
  refine x_aload_n (pc' := 5) 0 (dX6_tuple 2 rfl rfl) rfl rfl rfl ?_
  refine x_getI (pc' := 8) (dX6_tuple 3 rfl rfl) g56 q604 (Or.inl rfl) rfl (hf_of 4 s3.1 rfl (by decide) m4_56) ?_
  refine x_iconst (pc' := 9) (v := 2) (dX6_tuple 4 rfl rfl) (by decide) rfl ?_
  obtain ⟨i1, hf⟩ := hf
  refine x_iast (pc' := 10) (dX6_tuple 5 rfl rfl) rfl (s3.2 0 _ rfl rfl).2.1 (Or.inl ⟨55, by decide, rfl, by decide⟩) (by rw [(s3.2 0 _ rfl rfl).2.2.2 (by decide)]; exact i1) (fun h2 e3 => ?_)
  replace hf := hf h2 e3
  replace s3 : So 3 (gW G) h2 := by rw [e3]; exact s3.le sc3 (sI_le )
  refine x_aload_n (pc' := 11) 0 (dX6_tuple 6 rfl rfl) rfl rfl rfl ?_
  refine x_getR (pc' := 14) (dX6_tuple 7 rfl rfl) g55 q603 (Or.inl rfl) rfl (hf_of 4 s3.1 rfl (by decide) m4_55) (s3.2 0 _ rfl rfl).1 ?_
  refine x_aload_n (pc' := 15) 0 (dX6_tuple 8 rfl rfl) rfl rfl rfl ?_
  refine x_getI (pc' := 18) (dX6_tuple 9 rfl rfl) g56 q604 (Or.inl rfl) rfl (hf_of 4 s3.1 rfl (by decide) m4_56) ?_
  refine x_iconst (pc' := 19) (v := 1) (dX6_tuple 10 rfl rfl) (by decide) rfl ?_
  refine x_iadd (pc' := 20) (dX6_tuple 11 rfl rfl) rfl ?_
  refine x_iload_n (pc' := 21) 1 (dX6_tuple 12 rfl rfl) rfl rfl rfl ?_
  obtain ⟨i4, hf⟩ := hf
  refine x_iast (pc' := 22) (dX6_tuple 13 rfl rfl) rfl (s3.2 0 _ rfl rfl).2.1 (Or.inl ⟨55, by decide, rfl, by decide⟩) (by rw [(s3.2 0 _ rfl rfl).2.2.2 (by decide)]; exact i4) (fun h5 e6 => ?_)
  replace hf := hf h5 e6
  replace s3 : So 3 (gW G) h5 := by rw [e6]; exact s3.le sc3 (sI_le )
  refine x_iload_n (pc' := 23) 1 (dX6_tuple 14 rfl rfl) rfl rfl rfl ?_
  refine x_iconst (pc' := 24) (v := 1) (dX6_tuple 15 rfl rfl) (by decide) rfl ?_
  refine x_isub (pc' := 25) (dX6_tuple 16 rfl rfl) rfl ?_
  replace hf := hf _ rfl
  refine x_istore_n (pc' := 26) (dX6_tuple 17 rfl rfl) rfl (by decide) rfl rfl ?_
  exact X.sub [1, 2, 0] rfl (by simp) hf
theorem bX6_tuple_26 (G : Gh) (d : Nat) (h : AH) (Q : Outcome → AH → Prop) (l1 : Int32) (l2 : Int32) (s3 : So 3 (gW G) h) (hf : (l2 < 0 → (∀ h2, h2 = pI h (gW G 3) 56 ((fI h (gW G 3) 56) + (l1 + 2)) → (Q (.returned (some (.int (((fI h2 (gW G 3) 56) - l1) - 2)))) h2))) ∧ (¬ (l2 < 0) → (C G mX6_pop d [.ref (gW G 3)] h (KI Q (fun x6 h4 => vp_in (((fI h (gW G 3) 56) + 2) + l2) 960100 ∧ ∀ h8, h8 = sI h4 (gW G 1055) (((fI h (gW G 3) 56) + 2) + l2).toNatClampNeg x6 → (∀ x10 : Int32, x10 = l2 + (-1) → (X G mX6_tuple (d + 1) none [] 26 [(0, .ref (gW G 3)), (1, .int (l1)), (2, .int (x10))] [] h8 Q))))))) : X G mX6_tuple (d + 1) none [] 26 [(0, .ref (gW G 3)), (1, .int (l1)), (2, .int (l2))] [] h Q := by
  refine x_iload_n (pc' := 27) 2 (dX6_tuple 18 rfl rfl) rfl rfl rfl ?_
  refine x_if_lt (pc' := 30) (tgt := 53) (dX6_tuple 19 rfl rfl) (by decide) rfl (fun c1 => ?_) (fun c1 => ?_)
  · replace hf := hf.1 c1
    refine x_aload_n (pc' := 54) 0 (dX6_tuple 33 rfl rfl) rfl rfl rfl ?_
    refine x_dup (pc' := 55) (dX6_tuple 34 rfl rfl) rfl rfl ?_
    refine x_getI (pc' := 58) (dX6_tuple 35 rfl rfl) g56 q604 (Or.inl rfl) rfl (hf_of 4 s3.1 rfl (by decide) m4_56) ?_
    refine x_iload_n (pc' := 59) 1 (dX6_tuple 36 rfl rfl) rfl rfl rfl ?_
    refine x_iconst (pc' := 60) (v := 2) (dX6_tuple 37 rfl rfl) (by decide) rfl ?_
    refine x_iadd (pc' := 61) (dX6_tuple 38 rfl rfl) rfl ?_
    refine x_iadd (pc' := 62) (dX6_tuple 39 rfl rfl) rfl ?_
    refine x_putI (pc' := 65) (dX6_tuple 40 rfl rfl) g56 q604 (Or.inl rfl) (Or.inl rfl) (Or.inl (by decide)) rfl (hf_of 4 s3.1 rfl (by decide) m4_56) (fun h2 e3 => ?_)
    replace hf := hf h2 e3
    replace s3 : So 3 (gW G) h2 := by rw [e3]; exact s3.le sc3 (pI_le (Or.inl rfl))
    refine x_aload_n (pc' := 66) 0 (dX6_tuple 41 rfl rfl) rfl rfl rfl ?_
    refine x_getI (pc' := 69) (dX6_tuple 42 rfl rfl) g56 q604 (Or.inl rfl) rfl (hf_of 4 s3.1 rfl (by decide) m4_56) ?_
    refine x_iload_n (pc' := 70) 1 (dX6_tuple 43 rfl rfl) rfl rfl rfl ?_
    refine x_isub (pc' := 71) (dX6_tuple 44 rfl rfl) rfl ?_
    refine x_iconst (pc' := 72) (v := 2) (dX6_tuple 45 rfl rfl) (by decide) rfl ?_
    refine x_isub (pc' := 73) (dX6_tuple 46 rfl rfl) rfl ?_
    exact x_iret (dX6_tuple 47 rfl rfl) rfl hf
  · replace hf := hf.2 c1
    refine x_aload_n (pc' := 31) 0 (dX6_tuple 20 rfl rfl) rfl rfl rfl ?_
    refine x_getR (pc' := 34) (dX6_tuple 21 rfl rfl) g55 q603 (Or.inl rfl) rfl (hf_of 4 s3.1 rfl (by decide) m4_55) (s3.2 0 _ rfl rfl).1 ?_
    refine x_aload_n (pc' := 35) 0 (dX6_tuple 22 rfl rfl) rfl rfl rfl ?_
    refine x_getI (pc' := 38) (dX6_tuple 23 rfl rfl) g56 q604 (Or.inl rfl) rfl (hf_of 4 s3.1 rfl (by decide) m4_56) ?_
    refine x_iconst (pc' := 39) (v := 2) (dX6_tuple 24 rfl rfl) (by decide) rfl ?_
    refine x_iadd (pc' := 40) (dX6_tuple 25 rfl rfl) rfl ?_
    refine x_iload_n (pc' := 41) 2 (dX6_tuple 26 rfl rfl) rfl rfl rfl ?_
    refine x_iadd (pc' := 42) (dX6_tuple 27 rfl rfl) rfl ?_
    refine x_aload_n (pc' := 43) 0 (dX6_tuple 28 rfl rfl) rfl rfl rfl ?_
    refine x_inv (pc' := 46) (ν := mX6_pop) (av := [_]) (st := [_, _]) rfl rfl (dX6_tuple 29 rfl rfl) (Nat.le_of_ble_eq_true rfl) wX6_pop q220 (inv_V (k := 4) (dX6_tuple 29 rfl rfl) q3264 q3063 q3064 wX6_pop (by decide) lX6_pop (by decide) s3.1) (exN (by decide)) rfl ?_
    refine C.mono hf (fun _ _ => KI.g (fun x6 h4 hf le5 => ?_))
    replace s3 := s3.le sc3 (le5)
    obtain ⟨i7, hf⟩ := hf
    refine x_iast (pc' := 47) (dX6_tuple 30 rfl rfl) rfl (s3.2 0 _ rfl rfl).2.1 (Or.inl ⟨55, by decide, rfl, by decide⟩) (by rw [(s3.2 0 _ rfl rfl).2.2.2 (by decide)]; exact i7) (fun h8 e9 => ?_)
    replace hf := hf h8 e9
    replace s3 : So 3 (gW G) h8 := by rw [e9]; exact s3.le sc3 (sI_le )
    replace hf := hf _ rfl
    refine x_iinc (pc' := 50) 2 (dX6_tuple 31 rfl rfl) rfl (by rfl) (by decide) rfl rfl ?_
    refine x_goto (tgt := 26) (dX6_tuple 32 rfl rfl) (by decide) ?_
    exact X.sub [1, 2, 0] rfl (by simp) hf
theorem bX6_append (G : Gh) (d : Nat) (h : AH) (Q : Outcome → AH → Prop) (p1 : Int32) (p2 : Int32) (hf : X G mX6_append (d + 1) none [] 5 [(0, .ref (gW G 3)), (1, .int (p1)), (2, .int (p2)), (3, .int (0)), (4, .int (p1))] [] h Q) : C G mX6_append (d + 1) [.ref (gW G 3), .int (p1), .int (p2)] h Q := by
  refine C.of_X (by decide +kernel) (Nat.le_of_ble_eq_true rfl) wX6_append ?_
  show X G mX6_append (d + 1) none [] 0 [(0, .ref (gW G 3)), (1, .int (p1)), (2, .int (p2))] [] h Q
  refine x_iconst (pc' := 1) (v := 0) (dX6_append 0 rfl rfl) (by decide) rfl ?_
  refine x_istore_n (pc' := 2) (dX6_append 1 rfl rfl) rfl (by decide) rfl rfl ?_
  refine x_iload_n (pc' := 3) 2 (dX6_append 2 rfl rfl) rfl rfl rfl ?_
  refine x_istore (pc' := 5) (dX6_append 3 rfl rfl) (by decide) rfl rfl ?_
  exact X.sub [2, 3, 4, 1, 0] rfl (by simp) hf
theorem bX6_append_5 (G : Gh) (d : Nat) (h : AH) (Q : Outcome → AH → Prop) (l1 : Int32) (l2 : Int32) (l3 : Int32) (l4 : Int32) (s3 : So 3 (gW G) h) (hf : C G mX6_isPair d [.ref (gW G 3), .int (l4)] h (KI Q (fun x3 h1 => (x3 = 0 → (C G mX6_pay d [.ref (gW G 3), .int (l3)] h1 (KI Q (fun x7 h5 => (x7 = 0 → (Q (.returned none) h5)) ∧ (¬ x7 = 0 → (∀ x9 : Int32, x9 = (-1) → (X G mX6_append (d + 1) none [] 46 [(0, .ref (gW G 3)), (2, .int (l2)), (4, .int (l2)), (5, .int (x9)), (6, .int (l1))] [] h5 Q))))))) ∧ (¬ x3 = 0 → (∀ x10 : Int32, x10 = l3 + 1 → (C G mX6_tail d [.ref (gW G 3), .int (l4)] h1 (KI Q (fun x13 h11 => X G mX6_append (d + 1) none [] 5 [(0, .ref (gW G 3)), (1, .int (l1)), (2, .int (l2)), (3, .int (x10)), (4, .int (x13))] [] h11 Q)))))))) : X G mX6_append (d + 1) none [] 5 [(0, .ref (gW G 3)), (1, .int (l1)), (2, .int (l2)), (3, .int (l3)), (4, .int (l4))] [] h Q := by
  refine x_aload_n (pc' := 6) 0 (dX6_append 4 rfl rfl) rfl rfl rfl ?_
  refine x_iload (pc' := 8) 4 (dX6_append 5 rfl rfl) rfl rfl ?_
  refine x_inv (pc' := 11) (ν := mX6_isPair) (av := [_, _]) (st := []) rfl rfl (dX6_append 6 rfl rfl) (Nat.le_of_ble_eq_true rfl) wX6_isPair q220 (inv_V (k := 4) (dX6_append 6 rfl rfl) q3281 q3128 q3129 wX6_isPair (by decide) lX6_isPair (by decide) s3.1) (exN (by decide)) rfl ?_
  refine C.mono hf (fun _ _ => KI.g (fun x3 h1 hf le2 => ?_))
  replace s3 := s3.le sc3 (le2)
  refine x_if_eq (pc' := 14) (tgt := 28) (dX6_append 7 rfl rfl) (by decide) rfl (fun c4 => ?_) (fun c4 => ?_)
  · replace hf := hf.1 c4
    refine x_aload_n (pc' := 29) 0 (dX6_append 14 rfl rfl) rfl rfl rfl ?_
    refine x_iload_n (pc' := 30) 3 (dX6_append 15 rfl rfl) rfl rfl rfl ?_
    refine x_inv (pc' := 33) (ν := mX6_pay) (av := [_, _]) (st := []) rfl rfl (dX6_append 16 rfl rfl) (Nat.le_of_ble_eq_true rfl) wX6_pay q220 (inv_V (k := 4) (dX6_append 16 rfl rfl) q3000 q2891 q2892 wX6_pay (by decide) lX6_pay (by decide) s3.1) (exN (by decide)) rfl ?_
    refine C.mono hf (fun _ _ => KI.g (fun x7 h5 hf le6 => ?_))
    replace s3 := s3.le sc3 (le6)
    refine x_if_ne (pc' := 36) (tgt := 37) (dX6_append 17 rfl rfl) (by decide) rfl (fun c8 => ?_) (fun c8 => ?_)
    · replace hf := hf.2 c8
      refine x_iload_n (pc' := 38) 2 (dX6_append 19 rfl rfl) rfl rfl rfl ?_
      refine x_istore (pc' := 40) (dX6_append 20 rfl rfl) (by decide) rfl rfl ?_
      refine x_iconst (pc' := 41) (v := -1) (dX6_append 21 rfl rfl) (by decide) rfl ?_
      replace hf := hf _ rfl
      refine x_istore (pc' := 43) (dX6_append 22 rfl rfl) (by decide) rfl rfl ?_
      refine x_iload_n (pc' := 44) 3 (dX6_append 23 rfl rfl) rfl rfl rfl ?_
      refine x_istore (pc' := 46) (dX6_append 24 rfl rfl) (by decide) rfl rfl ?_
      exact X.sub [3, 5, 2, 1, 0] rfl (by simp) hf
    · replace hf := hf.1 (Classical.not_not.mp c8)
      replace c8 := Classical.not_not.mp c8
      exact x_vret (dX6_append 18 rfl rfl) rfl hf
  · replace hf := hf.2 c4
    replace hf := hf _ rfl
    refine x_iinc (pc' := 17) 3 (dX6_append 8 rfl rfl) rfl (by rfl) (by decide) rfl rfl ?_
    refine x_aload_n (pc' := 18) 1 (dX6_append 9 rfl rfl) rfl rfl rfl ?_
    refine x_iload (pc' := 20) 4 (dX6_append 10 rfl rfl) rfl rfl ?_
    refine x_inv (pc' := 23) (ν := mX6_tail) (av := [_, _]) (st := []) rfl rfl (dX6_append 11 rfl rfl) (Nat.le_of_ble_eq_true rfl) wX6_tail q220 (inv_V (k := 4) (dX6_append 11 rfl rfl) q3282 q3154 q3155 wX6_tail (by decide) lX6_tail (by decide) s3.1) (exN (by decide)) rfl ?_
    refine C.mono hf (fun _ _ => KI.g (fun x13 h11 hf le12 => ?_))
    replace s3 := s3.le sc3 (le12)
    refine x_istore (pc' := 25) (dX6_append 12 rfl rfl) (by decide) rfl rfl ?_
    refine x_goto (tgt := 5) (dX6_append 13 rfl rfl) (by decide) ?_
    exact X.sub [2, 3, 4, 1, 0] rfl (by simp) hf
theorem bX6_append_46 (G : Gh) (d : Nat) (h : AH) (Q : Outcome → AH → Prop) (l2 : Int32) (l4 : Int32) (l5 : Int32) (l6 : Int32) (s3 : So 3 (gW G) h) (hf : C G mX6_isPair d [.ref (gW G 3), .int (l6)] h (KI Q (fun x3 h1 => (x3 = 0 → (C G mX6_give d [.ref (gW G 3), .int (l4)] h1 (KV Q (fun h5 => Q (.returned none) h5)))) ∧ (¬ x3 = 0 → (C G mX6_head d [.ref (gW G 3), .int (l6)] h1 (KI Q (fun x9 h7 => C G mX6_made_2 d [.ref (gW G 3), .int (3), .int (x9), .int (l2)] h7 (KI Q (fun x12 h10 => (0 ≤ l5 → (vp_in (l5 + 2) 960100 ∧ ∀ h15, h15 = sI h10 (gW G 1055) (l5 + 2).toNatClampNeg x12 → (C G mX6_tail d [.ref (gW G 3), .int (l6)] h15 (KI Q (fun x19 h17 => X G mX6_append (d + 1) none [] 46 [(0, .ref (gW G 3)), (2, .int (l2)), (4, .int (l4)), (5, .int (x12)), (6, .int (x19))] [] h17 Q))))) ∧ (¬ (0 ≤ l5) → (C G mX6_tail d [.ref (gW G 3), .int (l6)] h10 (KI Q (fun x22 h20 => X G mX6_append (d + 1) none [] 46 [(0, .ref (gW G 3)), (2, .int (l2)), (4, .int (x12)), (5, .int (x12)), (6, .int (x22))] [] h20 Q))))))))))))) : X G mX6_append (d + 1) none [] 46 [(0, .ref (gW G 3)), (2, .int (l2)), (4, .int (l4)), (5, .int (l5)), (6, .int (l6))] [] h Q := by
  refine x_aload_n (pc' := 47) 0 (dX6_append 25 rfl rfl) rfl rfl rfl ?_
  refine x_iload (pc' := 49) 4 (dX6_append 26 rfl rfl) rfl rfl ?_
  refine x_inv (pc' := 52) (ν := mX6_isPair) (av := [_, _]) (st := []) rfl rfl (dX6_append 27 rfl rfl) (Nat.le_of_ble_eq_true rfl) wX6_isPair q220 (inv_V (k := 4) (dX6_append 27 rfl rfl) q3281 q3128 q3129 wX6_isPair (by decide) lX6_isPair (by decide) s3.1) (exN (by decide)) rfl ?_
  refine C.mono hf (fun _ _ => KI.g (fun x3 h1 hf le2 => ?_))
  replace s3 := s3.le sc3 (le2)
  refine x_if_eq (pc' := 55) (tgt := 107) (dX6_append 28 rfl rfl) (by decide) rfl (fun c4 => ?_) (fun c4 => ?_)
  · replace hf := hf.1 c4
    refine x_aload_n (pc' := 108) 0 (dX6_append 56 rfl rfl) rfl rfl rfl ?_
    refine x_iload (pc' := 110) 2 (dX6_append 57 rfl rfl) rfl rfl ?_
    refine x_inv (pc' := 113) (ν := mX6_give) (av := [_, _]) (st := []) rfl rfl (dX6_append 58 rfl rfl) (Nat.le_of_ble_eq_true rfl) wX6_give q220 (inv_V (k := 4) (dX6_append 58 rfl rfl) q3074 q2913 q2914 wX6_give (by decide) lX6_give (by decide) s3.1) (exN (by decide)) rfl ?_
    refine C.mono hf (fun _ _ => KV.g (fun h5 hf le6 => ?_))
    replace s3 := s3.le sc3 (le6)
    exact x_vret (dX6_append 59 rfl rfl) rfl hf
  · replace hf := hf.2 c4
    refine x_aload_n (pc' := 56) 0 (dX6_append 29 rfl rfl) rfl rfl rfl ?_
    refine x_iconst (pc' := 57) (v := 3) (dX6_append 30 rfl rfl) (by decide) rfl ?_
    refine x_aload_n (pc' := 58) 0 (dX6_append 31 rfl rfl) rfl rfl rfl ?_
    refine x_iload (pc' := 60) 4 (dX6_append 32 rfl rfl) rfl rfl ?_
    refine x_inv (pc' := 63) (ν := mX6_head) (av := [_, _]) (st := [_, _]) rfl rfl (dX6_append 33 rfl rfl) (Nat.le_of_ble_eq_true rfl) wX6_head q220 (inv_V (k := 4) (dX6_append 33 rfl rfl) q3283 q3132 q3133 wX6_head (by decide) lX6_head (by decide) s3.1) (exN (by decide)) rfl ?_
    refine C.mono hf (fun _ _ => KI.g (fun x9 h7 hf le8 => ?_))
    replace s3 := s3.le sc3 (le8)
    refine x_iload_n (pc' := 64) 1 (dX6_append 34 rfl rfl) rfl rfl rfl ?_
    refine x_inv (pc' := 67) (ν := mX6_made_2) (av := [_, _, _, _]) (st := []) rfl rfl (dX6_append 35 rfl rfl) (Nat.le_of_ble_eq_true rfl) wX6_made_2 q220 (inv_V (k := 4) (dX6_append 35 rfl rfl) q3001 q3002 q3003 wX6_made_2 (by decide) lX6_made_2 (by decide) s3.1) (exN (by decide)) rfl ?_
    refine C.mono hf (fun _ _ => KI.g (fun x12 h10 hf le11 => ?_))
    replace s3 := s3.le sc3 (le11)
    refine x_istore (pc' := 69) (dX6_append 36 rfl rfl) (by decide) rfl rfl ?_
    refine x_iload (pc' := 71) 4 (dX6_append 37 rfl rfl) rfl rfl ?_
    refine x_if_ge (pc' := 74) (tgt := 81) (dX6_append 38 rfl rfl) (by decide) rfl (fun c13 => ?_) (fun c13 => ?_)
    · replace hf := hf.1 c13
      refine x_aload_n (pc' := 82) 1 (dX6_append 42 rfl rfl) rfl rfl rfl ?_
      refine x_getR (pc' := 85) (dX6_append 43 rfl rfl) g55 q603 (Or.inl rfl) rfl (hf_of 4 s3.1 rfl (by decide) m4_55) (s3.2 0 _ rfl rfl).1 ?_
      refine x_iload (pc' := 87) 4 (dX6_append 44 rfl rfl) rfl rfl ?_
      refine x_iconst (pc' := 88) (v := 2) (dX6_append 45 rfl rfl) (by decide) rfl ?_
      refine x_iadd (pc' := 89) (dX6_append 46 rfl rfl) rfl ?_
      refine x_iload (pc' := 91) 0 (dX6_append 47 rfl rfl) rfl rfl ?_
      obtain ⟨i14, hf⟩ := hf
      refine x_iast (pc' := 92) (dX6_append 48 rfl rfl) rfl (s3.2 0 _ rfl rfl).2.1 (Or.inl ⟨55, by decide, rfl, by decide⟩) (by rw [(s3.2 0 _ rfl rfl).2.2.2 (by decide)]; exact i14) (fun h15 e16 => ?_)
      replace hf := hf h15 e16
      replace s3 : So 3 (gW G) h15 := by rw [e16]; exact s3.le sc3 (sI_le )
      refine x_iload (pc' := 94) 0 (dX6_append 49 rfl rfl) rfl rfl ?_
      refine x_istore (pc' := 96) (dX6_append 50 rfl rfl) (by decide) rfl rfl ?_
      refine x_aload_n (pc' := 97) 2 (dX6_append 51 rfl rfl) rfl rfl rfl ?_
      refine x_iload (pc' := 99) 5 (dX6_append 52 rfl rfl) rfl rfl ?_
      refine x_inv (pc' := 102) (ν := mX6_tail) (av := [_, _]) (st := []) rfl rfl (dX6_append 53 rfl rfl) (Nat.le_of_ble_eq_true rfl) wX6_tail q220 (inv_V (k := 4) (dX6_append 53 rfl rfl) q3282 q3154 q3155 wX6_tail (by decide) lX6_tail (by decide) s3.1) (exN (by decide)) rfl ?_
      refine C.mono hf (fun _ _ => KI.g (fun x19 h17 hf le18 => ?_))
      replace s3 := s3.le sc3 (le18)
      refine x_istore (pc' := 104) (dX6_append 54 rfl rfl) (by decide) rfl rfl ?_
      refine x_goto (tgt := 46) (dX6_append 55 rfl rfl) (by decide) ?_
      exact X.sub [3, 4, 5, 1, 0] rfl (by simp) hf
    · replace hf := hf.2 c13
      refine x_iload (pc' := 76) 0 (dX6_append 39 rfl rfl) rfl rfl ?_
      refine x_istore (pc' := 78) (dX6_append 40 rfl rfl) (by decide) rfl rfl ?_
      refine x_goto (tgt := 92) (dX6_append 41 rfl rfl) (by decide) ?_
      refine x_iload (pc' := 94) 1 (dX6_append 49 rfl rfl) rfl rfl ?_
      refine x_istore (pc' := 96) (dX6_append 50 rfl rfl) (by decide) rfl rfl ?_
      refine x_aload_n (pc' := 97) 3 (dX6_append 51 rfl rfl) rfl rfl rfl ?_
      refine x_iload (pc' := 99) 5 (dX6_append 52 rfl rfl) rfl rfl ?_
      refine x_inv (pc' := 102) (ν := mX6_tail) (av := [_, _]) (st := []) rfl rfl (dX6_append 53 rfl rfl) (Nat.le_of_ble_eq_true rfl) wX6_tail q220 (inv_V (k := 4) (dX6_append 53 rfl rfl) q3282 q3154 q3155 wX6_tail (by decide) lX6_tail (by decide) s3.1) (exN (by decide)) rfl ?_
      refine C.mono hf (fun _ _ => KI.g (fun x22 h20 hf le21 => ?_))
      replace s3 := s3.le sc3 (le21)
      refine x_istore (pc' := 104) (dX6_append 54 rfl rfl) (by decide) rfl rfl ?_
      refine x_goto (tgt := 46) (dX6_append 55 rfl rfl) (by decide) ?_
      exact X.sub [4, 5, 2, 1, 0] rfl (by simp) hf
theorem bX6_end (G : Gh) (d : Nat) (h : AH) (Q : Outcome → AH → Prop)  (s3 : So 3 (gW G) h) (hf : Q (.returned (some (.int (fI h (gW G 3) 75)))) h) : C G mX6_end d [.ref (gW G 3)] h Q := by
  refine C.of_X (by decide +kernel) (Nat.le_of_ble_eq_true rfl) wX6_end ?_
  show X G mX6_end d none [] 0 [(0, .ref (gW G 3))] [] h Q
  refine x_aload_n (pc' := 1) 0 (dX6_end 0 rfl rfl) rfl rfl rfl ?_
  refine x_getI (pc' := 4) (dX6_end 1 rfl rfl) g75 q626 (Or.inl rfl) rfl (hf_of 4 s3.1 rfl (by decide) m4_75) ?_
  exact x_iret (dX6_end 2 rfl rfl) rfl hf
theorem bX6_parts (G : Gh) (d : Nat) (h : AH) (Q : Outcome → AH → Prop) (p1 : Int32) (s3 : So 3 (gW G) h) (hf : vp_in (p1 + 1) 960100 ∧ (Q (.returned (some (.int (aI h (gW G 1055) (p1 + 1).toNatClampNeg)))) h)) : C G mX6_parts d [.ref (gW G 3), .int (p1)] h Q := by
  refine C.of_X (by decide +kernel) (Nat.le_of_ble_eq_true rfl) wX6_parts ?_
  show X G mX6_parts d none [] 0 [(0, .ref (gW G 3)), (1, .int (p1))] [] h Q
  refine x_aload_n (pc' := 1) 0 (dX6_parts 0 rfl rfl) rfl rfl rfl ?_
  refine x_getR (pc' := 4) (dX6_parts 1 rfl rfl) g55 q603 (Or.inl rfl) rfl (hf_of 4 s3.1 rfl (by decide) m4_55) (s3.2 0 _ rfl rfl).1 ?_
  refine x_iload_n (pc' := 5) 1 (dX6_parts 2 rfl rfl) rfl rfl rfl ?_
  refine x_iconst (pc' := 6) (v := 1) (dX6_parts 3 rfl rfl) (by decide) rfl ?_
  refine x_iadd (pc' := 7) (dX6_parts 4 rfl rfl) rfl ?_
  obtain ⟨i1, hf⟩ := hf
  refine x_iald (pc' := 8) (dX6_parts 5 rfl rfl) rfl (s3.2 0 _ rfl rfl).2.1 (by rw [(s3.2 0 _ rfl rfl).2.2.2 (by decide)]; exact i1) ?_
  exact x_iret (dX6_parts 6 rfl rfl) rfl hf
theorem bX7_init (G : Gh) (d : Nat) (hd1 : 1 ≤ d) (h : AH) (Q : Outcome → AH → Prop) (a0 : Nat) (hf : (¬ (4 : Int32) < 0) ∧ (hc h + 1 ≤ MC) ∧ (hs h + (4 : Int32).toNatClampNeg ≤ MS) ∧ ∀ q1, hK h q1 = 0 → ∀ h3, h3 = nA h q1 4 (4 : Int32).toNatClampNeg → (hK h3 a0 = 6 ∧ (∀ h8, h8 = pR h3 a0 77 (some q1) → (Q (.returned none) h8)))) : C G mX7_init d [.ref (a0)] h Q := by
  refine C.of_X (by decide +kernel) (Nat.le_of_ble_eq_true rfl) wX7_init ?_
  show X G mX7_init d (some a0) [] 0 [(0, .ref (a0))] [] h Q
  refine x_aload_n (pc' := 1) 0 (dX7_init 0 rfl rfl) rfl rfl rfl ?_
  refine x_objInit (pc' := 4) (dX7_init 1 rfl rfl) q562 q288 q289 (by decide) (by omega) rfl ?_
  refine x_aload_n (pc' := 5) 0 (dX7_init 2 rfl rfl) rfl rfl rfl ?_
  refine x_iconst (pc' := 6) (v := 4) (dX7_init 3 rfl rfl) (by decide) rfl ?_
  obtain ⟨z5, n1, n2, hf⟩ := hf
  refine x_newq (pc' := 9) (t := 4) (E := "LetMill$Spot") (dX7_init 4 rfl rfl) q563 (by decide) (by decide) rfl rfl z5 (by decide) n1 n2 (fun q1 h3 k2 e4 => ?_)
  replace hf := hf q1 k2 h3 e4
  have k6 : hK h3 q1 = 1004 := by rw [e4]; exact kNAs
  obtain ⟨k7, hf⟩ := hf
  refine x_putR (pc' := 12) (dX7_init 5 rfl rfl) g77 q565 (Or.inl rfl) (Or.inl rfl) (Or.inr rfl) rfl (hf_of 5 k7 rfl (by decide) m5_77) (fun h8 e9 => ?_)
  replace hf := hf h8 e9
  replace k6 : hK h8 q1 = 1004 := by rw [e9]; exact k6
  replace k7 : hK h8 a0 = 6 := by rw [e9]; exact k7
  exact x_vret (dX7_init 6 rfl rfl) rfl hf
theorem bX7_add (G : Gh) (d : Nat) (h : AH) (Q : Outcome → AH → Prop) (a0 : Nat) (p1 : Nat) (hf : hK h a0 = 6 ∧ (∃ b2, fR h a0 77 = some b2 ∧ (hK h b2 = 1004 ∧ (((fI h a0 78) = (Int32.ofNat (hL h b2)) → ((¬ (2 * (fI h a0 78) : Int32) < 0) ∧ (hc h + 1 ≤ MC) ∧ (hs h + (2 * (fI h a0 78) : Int32).toNatClampNeg ≤ MS) ∧ ∀ q23, hK h q23 = 0 → ∀ h25, h25 = nA h q23 4 (2 * (fI h a0 78) : Int32).toNatClampNeg → (X G mX7_add (d + 1) none [] 24 [(0, .ref (a0)), (1, .ref (p1)), (2, .ref (q23)), (3, .int (0))] [] h25 Q))) ∧ (¬ ((fI h a0 78) = (Int32.ofNat (hL h b2))) → (∃ b6, fR h a0 77 = some b6 ∧ ((hc h + 1 ≤ MC) ∧ (hs h + 1 ≤ MS) ∧ ∀ q8, hK h q8 = 0 → ∀ h10, h10 = nO h q8 6 → (C G mX8_init d [.ref (q8), .ref (p1)] h10 (KV Q (fun h13 => hK h13 b6 = 1004 ∧ Ns (gW G) b6 ∧ vp_in (fI h a0 78) (hL h13 b6) ∧ AOK G h13 q8 4 "LetMill$Spot" ∧ ∀ h17, h17 = sR h13 b6 (fI h a0 78).toNatClampNeg (some q8) → (∀ h20, h20 = pI h17 a0 78 ((fI h17 a0 78) + 1) → (Q (.returned none) h20)))))))))))) : C G mX7_add (d + 1) [.ref (a0), .ref (p1)] h Q := by
  refine C.of_X (by decide +kernel) (Nat.le_of_ble_eq_true rfl) wX7_add ?_
  show X G mX7_add (d + 1) none [] 0 [(0, .ref (a0)), (1, .ref (p1))] [] h Q
  refine x_aload_n (pc' := 1) 0 (dX7_add 0 rfl rfl) rfl rfl rfl ?_
  obtain ⟨k1, hf⟩ := hf
  refine x_getI (pc' := 4) (dX7_add 1 rfl rfl) g78 q566 (Or.inl rfl) rfl (hf_of 5 k1 rfl (by decide) m5_78) ?_
  refine x_aload_n (pc' := 5) 0 (dX7_add 2 rfl rfl) rfl rfl rfl ?_
  obtain ⟨b2, e3, hf⟩ := hf
  refine x_getR (pc' := 8) (dX7_add 3 rfl rfl) g77 q565 (Or.inl rfl) rfl (hf_of 5 k1 rfl (by decide) m5_77) e3 ?_
  obtain ⟨k4, hf⟩ := hf
  refine x_alen (pc' := 9) (t := 4) (ty := .object "LetMill$Spot") (dX7_add 4 rfl rfl) rfl rfl k4 ?_
  refine x_icmp_ne (pc' := 12) (tgt := 52) (dX7_add 5 rfl rfl) (by decide) rfl (fun c5 => ?_) (fun c5 => ?_)
  · replace hf := hf.2 c5
    refine x_aload_n (pc' := 53) 0 (dX7_add 30 rfl rfl) rfl rfl rfl ?_
    obtain ⟨b6, e7, hf⟩ := hf
    refine x_getR (pc' := 56) (dX7_add 31 rfl rfl) g77 q565 (Or.inl rfl) rfl (hf_of 5 k1 rfl (by decide) m5_77) e7 ?_
    refine x_aload_n (pc' := 57) 0 (dX7_add 32 rfl rfl) rfl rfl rfl ?_
    refine x_getI (pc' := 60) (dX7_add 33 rfl rfl) g78 q566 (Or.inl rfl) rfl (hf_of 5 k1 rfl (by decide) m5_78) ?_
    obtain ⟨n1, n2, hf⟩ := hf
    refine x_new (pc' := 63) (k := 6) (dX7_add 34 rfl rfl) q563 (by decide) rfl (by decide) n1 n2 (fun q8 h10 k9 e11 => ?_)
    replace hf := hf q8 k9 h10 e11
    replace k1 : hK h10 a0 = 6 := by rw [e11]; exact kNO k1 (by decide) k9
    replace k4 : hK h10 b2 = 1004 := by rw [e11]; exact kNO k4 (by decide) k9
    have k12 : hK h10 q8 = 7 := by rw [e11]; exact kNOs
    refine x_dup (pc' := 64) (dX7_add 35 rfl rfl) rfl rfl ?_
    refine x_aload_n (pc' := 65) 1 (dX7_add 36 rfl rfl) rfl rfl rfl ?_
    refine x_inv (pc' := 68) (ν := mX8_init) (av := [_, _]) (st := [_, _, _]) rfl rfl (dX7_add 37 rfl rfl) (Nat.le_of_ble_eq_true rfl) wX8_init q222 (inv_I (dX7_add 37 rfl rfl) q594 q595 q596 rfl (by decide) lX8_init) (fun b hb => by exact Or.inl (by have e : some _ = some b := hb; cases e; simp)) rfl ?_
    refine C.mono hf (fun _ _ => KV.g (fun h13 hf le14 => ?_))
    have k1 := leK le14 k1 (by decide)
    have k4 := leK le14 k4 (by decide)
    have k12 := leK le14 k12 (by decide)
    obtain ⟨k15, hf⟩ := hf
    obtain ⟨n19, hf⟩ := hf
    obtain ⟨i16, hf⟩ := hf
    obtain ⟨o22, hf⟩ := hf
    refine x_aast (pc' := 69) (t := 4) (E := "LetMill$Spot") (dX7_add 38 rfl rfl) rfl (by decide) rfl (by decide) k15 (Or.inr ⟨n19, by decide⟩) i16 o22 (fun h17 e18 => ?_)
    replace hf := hf h17 e18
    replace k1 : hK h17 a0 = 6 := by rw [e18]; exact k1
    replace k4 : hK h17 b2 = 1004 := by rw [e18]; exact k4
    replace k12 : hK h17 q8 = 7 := by rw [e18]; exact k12
    replace k15 : hK h17 b6 = 1004 := by rw [e18]; exact k15
    refine x_aload_n (pc' := 70) 0 (dX7_add 39 rfl rfl) rfl rfl rfl ?_
    refine x_dup (pc' := 71) (dX7_add 40 rfl rfl) rfl rfl ?_
    refine x_getI (pc' := 74) (dX7_add 41 rfl rfl) g78 q566 (Or.inl rfl) rfl (hf_of 5 k1 rfl (by decide) m5_78) ?_
    refine x_iconst (pc' := 75) (v := 1) (dX7_add 42 rfl rfl) (by decide) rfl ?_
    refine x_iadd (pc' := 76) (dX7_add 43 rfl rfl) rfl ?_
    refine x_putI (pc' := 79) (dX7_add 44 rfl rfl) g78 q566 (Or.inl rfl) (Or.inl rfl) (Or.inl (by decide)) rfl (hf_of 5 k1 rfl (by decide) m5_78) (fun h20 e21 => ?_)
    replace hf := hf h20 e21
    replace k1 : hK h20 a0 = 6 := by rw [e21]; exact k1
    replace k4 : hK h20 b2 = 1004 := by rw [e21]; exact k4
    replace k12 : hK h20 q8 = 7 := by rw [e21]; exact k12
    replace k15 : hK h20 b6 = 1004 := by rw [e21]; exact k15
    exact x_vret (dX7_add 45 rfl rfl) rfl hf
  · replace hf := hf.1 (Classical.not_not.mp c5)
    replace c5 := Classical.not_not.mp c5
    refine x_iconst (pc' := 13) (v := 2) (dX7_add 6 rfl rfl) (by decide) rfl ?_
    refine x_aload_n (pc' := 14) 0 (dX7_add 7 rfl rfl) rfl rfl rfl ?_
    refine x_getI (pc' := 17) (dX7_add 8 rfl rfl) g78 q566 (Or.inl rfl) rfl (hf_of 5 k1 rfl (by decide) m5_78) ?_
    refine x_imul (pc' := 18) (dX7_add 9 rfl rfl) rfl ?_
    obtain ⟨z27, n1, n2, hf⟩ := hf
    refine x_newq (pc' := 21) (t := 4) (E := "LetMill$Spot") (dX7_add 10 rfl rfl) q563 (by decide) (by decide) rfl rfl z27 (by decide) n1 n2 (fun q23 h25 k24 e26 => ?_)
    replace hf := hf q23 k24 h25 e26
    replace k1 : hK h25 a0 = 6 := by rw [e26]; exact kNA k1 (by decide) k24
    replace k4 : hK h25 b2 = 1004 := by rw [e26]; exact kNA k4 (by decide) k24
    have k28 : hK h25 q23 = 1004 := by rw [e26]; exact kNAs
    refine x_astore_n (pc' := 22) (dX7_add 11 rfl rfl) rfl (by decide) rfl rfl ?_
    refine x_iconst (pc' := 23) (v := 0) (dX7_add 12 rfl rfl) (by decide) rfl ?_
    refine x_istore_n (pc' := 24) (dX7_add 13 rfl rfl) rfl (by decide) rfl rfl ?_
    exact X.sub [2, 3, 1, 0] rfl (by simp) hf
theorem bX7_add_24 (G : Gh) (d : Nat) (h : AH) (Q : Outcome → AH → Prop) (l0 : Nat) (l1 : Nat) (l2 : Nat) (l3 : Int32) (hf : hK h l0 = 6 ∧ (((fI h l0 78) ≤ l3 → (∀ h3, h3 = pR h l0 77 (some l2) → (∃ b4, fR h3 l0 77 = some b4 ∧ ((hc h3 + 1 ≤ MC) ∧ (hs h3 + 1 ≤ MS) ∧ ∀ q6, hK h3 q6 = 0 → ∀ h8, h8 = nO h3 q6 6 → (C G mX8_init d [.ref (q6), .ref (l1)] h8 (KV Q (fun h11 => hK h11 b4 = 1004 ∧ Ns (gW G) b4 ∧ vp_in (fI h3 l0 78) (hL h11 b4) ∧ AOK G h11 q6 4 "LetMill$Spot" ∧ ∀ h15, h15 = sR h11 b4 (fI h3 l0 78).toNatClampNeg (some q6) → (∀ h18, h18 = pI h15 l0 78 ((fI h15 l0 78) + 1) → (Q (.returned none) h18))))))))) ∧ (¬ ((fI h l0 78) ≤ l3) → (∃ b22, fR h l0 77 = some b22 ∧ (hK h b22 = 1004 ∧ vp_in l3 (hL h b22) ∧ ∃ b26, aR h b22 l3.toNatClampNeg = some b26 ∧ (hK h l2 = 1004 ∧ Ns (gW G) l2 ∧ vp_in l3 (hL h l2) ∧ AOK G h b26 4 "LetMill$Spot" ∧ ∀ h30, h30 = sR h l2 l3.toNatClampNeg (some b26) → (∀ x33 : Int32, x33 = l3 + 1 → (X G mX7_add (d + 1) none [] 24 [(0, .ref (l0)), (1, .ref (l1)), (2, .ref (l2)), (3, .int (x33))] [] h30 Q)))))))) : X G mX7_add (d + 1) none [] 24 [(0, .ref (l0)), (1, .ref (l1)), (2, .ref (l2)), (3, .int (l3))] [] h Q := by
  refine x_iload_n (pc' := 25) 3 (dX7_add 14 rfl rfl) rfl rfl rfl ?_
  refine x_aload_n (pc' := 26) 0 (dX7_add 15 rfl rfl) rfl rfl rfl ?_
  obtain ⟨k1, hf⟩ := hf
  refine x_getI (pc' := 29) (dX7_add 16 rfl rfl) g78 q566 (Or.inl rfl) rfl (hf_of 5 k1 rfl (by decide) m5_78) ?_
  refine x_icmp_ge (pc' := 32) (tgt := 47) (dX7_add 17 rfl rfl) (by decide) rfl (fun c2 => ?_) (fun c2 => ?_)
  · replace hf := hf.1 c2
    refine x_aload_n (pc' := 48) 0 (dX7_add 27 rfl rfl) rfl rfl rfl ?_
    refine x_aload_n (pc' := 49) 2 (dX7_add 28 rfl rfl) rfl rfl rfl ?_
    refine x_putR (pc' := 52) (dX7_add 29 rfl rfl) g77 q565 (Or.inl rfl) (Or.inl rfl) (Or.inl (by decide)) rfl (hf_of 5 k1 rfl (by decide) m5_77) (fun h3 e21 => ?_)
    replace hf := hf h3 e21
    replace k1 : hK h3 l0 = 6 := by rw [e21]; exact k1
    refine x_aload_n (pc' := 53) 0 (dX7_add 30 rfl rfl) rfl rfl rfl ?_
    obtain ⟨b4, e5, hf⟩ := hf
    refine x_getR (pc' := 56) (dX7_add 31 rfl rfl) g77 q565 (Or.inl rfl) rfl (hf_of 5 k1 rfl (by decide) m5_77) e5 ?_
    refine x_aload_n (pc' := 57) 0 (dX7_add 32 rfl rfl) rfl rfl rfl ?_
    refine x_getI (pc' := 60) (dX7_add 33 rfl rfl) g78 q566 (Or.inl rfl) rfl (hf_of 5 k1 rfl (by decide) m5_78) ?_
    obtain ⟨n1, n2, hf⟩ := hf
    refine x_new (pc' := 63) (k := 6) (dX7_add 34 rfl rfl) q563 (by decide) rfl (by decide) n1 n2 (fun q6 h8 k7 e9 => ?_)
    replace hf := hf q6 k7 h8 e9
    replace k1 : hK h8 l0 = 6 := by rw [e9]; exact kNO k1 (by decide) k7
    have k10 : hK h8 q6 = 7 := by rw [e9]; exact kNOs
    refine x_dup (pc' := 64) (dX7_add 35 rfl rfl) rfl rfl ?_
    refine x_aload_n (pc' := 65) 1 (dX7_add 36 rfl rfl) rfl rfl rfl ?_
    refine x_inv (pc' := 68) (ν := mX8_init) (av := [_, _]) (st := [_, _, _]) rfl rfl (dX7_add 37 rfl rfl) (Nat.le_of_ble_eq_true rfl) wX8_init q222 (inv_I (dX7_add 37 rfl rfl) q594 q595 q596 rfl (by decide) lX8_init) (fun b hb => by exact Or.inl (by have e : some _ = some b := hb; cases e; simp)) rfl ?_
    refine C.mono hf (fun _ _ => KV.g (fun h11 hf le12 => ?_))
    have k1 := leK le12 k1 (by decide)
    have k10 := leK le12 k10 (by decide)
    obtain ⟨k13, hf⟩ := hf
    obtain ⟨n17, hf⟩ := hf
    obtain ⟨i14, hf⟩ := hf
    obtain ⟨o20, hf⟩ := hf
    refine x_aast (pc' := 69) (t := 4) (E := "LetMill$Spot") (dX7_add 38 rfl rfl) rfl (by decide) rfl (by decide) k13 (Or.inr ⟨n17, by decide⟩) i14 o20 (fun h15 e16 => ?_)
    replace hf := hf h15 e16
    replace k1 : hK h15 l0 = 6 := by rw [e16]; exact k1
    replace k10 : hK h15 q6 = 7 := by rw [e16]; exact k10
    replace k13 : hK h15 b4 = 1004 := by rw [e16]; exact k13
    refine x_aload_n (pc' := 70) 0 (dX7_add 39 rfl rfl) rfl rfl rfl ?_
    refine x_dup (pc' := 71) (dX7_add 40 rfl rfl) rfl rfl ?_
    refine x_getI (pc' := 74) (dX7_add 41 rfl rfl) g78 q566 (Or.inl rfl) rfl (hf_of 5 k1 rfl (by decide) m5_78) ?_
    refine x_iconst (pc' := 75) (v := 1) (dX7_add 42 rfl rfl) (by decide) rfl ?_
    refine x_iadd (pc' := 76) (dX7_add 43 rfl rfl) rfl ?_
    refine x_putI (pc' := 79) (dX7_add 44 rfl rfl) g78 q566 (Or.inl rfl) (Or.inl rfl) (Or.inl (by decide)) rfl (hf_of 5 k1 rfl (by decide) m5_78) (fun h18 e19 => ?_)
    replace hf := hf h18 e19
    replace k1 : hK h18 l0 = 6 := by rw [e19]; exact k1
    replace k10 : hK h18 q6 = 7 := by rw [e19]; exact k10
    replace k13 : hK h18 b4 = 1004 := by rw [e19]; exact k13
    exact x_vret (dX7_add 45 rfl rfl) rfl hf
  · replace hf := hf.2 c2
    refine x_aload_n (pc' := 33) 2 (dX7_add 18 rfl rfl) rfl rfl rfl ?_
    refine x_iload_n (pc' := 34) 3 (dX7_add 19 rfl rfl) rfl rfl rfl ?_
    refine x_aload_n (pc' := 35) 0 (dX7_add 20 rfl rfl) rfl rfl rfl ?_
    obtain ⟨b22, e23, hf⟩ := hf
    refine x_getR (pc' := 38) (dX7_add 21 rfl rfl) g77 q565 (Or.inl rfl) rfl (hf_of 5 k1 rfl (by decide) m5_77) e23 ?_
    refine x_iload_n (pc' := 39) 3 (dX7_add 22 rfl rfl) rfl rfl rfl ?_
    obtain ⟨k24, hf⟩ := hf
    obtain ⟨i25, hf⟩ := hf
    obtain ⟨b26, e27, hf⟩ := hf
    refine x_aald (pc' := 40) (t := 4) (C := "LetMill$Spot") (dX7_add 23 rfl rfl) rfl (by decide) rfl k24 i25 e27 ?_
    obtain ⟨k28, hf⟩ := hf
    obtain ⟨n32, hf⟩ := hf
    obtain ⟨i29, hf⟩ := hf
    obtain ⟨o34, hf⟩ := hf
    refine x_aast (pc' := 41) (t := 4) (E := "LetMill$Spot") (dX7_add 24 rfl rfl) rfl (by decide) rfl (by decide) k28 (Or.inr ⟨n32, by decide⟩) i29 o34 (fun h30 e31 => ?_)
    replace hf := hf h30 e31
    replace k1 : hK h30 l0 = 6 := by rw [e31]; exact k1
    replace k24 : hK h30 b22 = 1004 := by rw [e31]; exact k24
    replace k28 : hK h30 l2 = 1004 := by rw [e31]; exact k28
    replace hf := hf _ rfl
    refine x_iinc (pc' := 44) 3 (dX7_add 25 rfl rfl) rfl (by rfl) (by decide) rfl rfl ?_
    refine x_goto (tgt := 24) (dX7_add 26 rfl rfl) (by decide) ?_
    exact X.sub [1, 2, 3, 0] rfl (by simp) hf
theorem bX7_pat (G : Gh) (d : Nat) (h : AH) (Q : Outcome → AH → Prop) (a0 : Nat) (p1 : Int32) (hf : hK h a0 = 6 ∧ (C G mX7_get d [.ref (a0), .int (p1)] h (KR Q (fun b4 h1 => CT h1 b4 "LetMill$Pat" ∧ (Q (.returned (some (.ref (b4)))) h1))))) : C G mX7_pat (d + 1) [.ref (a0), .int (p1)] h Q := by
  refine C.of_X (by decide +kernel) (Nat.le_of_ble_eq_true rfl) wX7_pat ?_
  show X G mX7_pat (d + 1) none [] 0 [(0, .ref (a0)), (1, .int (p1))] [] h Q
  refine x_aload_n (pc' := 1) 0 (dX7_pat 0 rfl rfl) rfl rfl rfl ?_
  refine x_iload_n (pc' := 2) 1 (dX7_pat 1 rfl rfl) rfl rfl rfl ?_
  obtain ⟨k3, hf⟩ := hf
  refine x_inv (pc' := 5) (ν := mX7_get) (av := [_, _]) (st := []) rfl rfl (dX7_pat 2 rfl rfl) (Nat.le_of_ble_eq_true rfl) wX7_get q221 (inv_V (k := 5) (dX7_pat 2 rfl rfl) q1413 q1414 q1415 wX7_get (by decide) lX7_get (by decide) k3) (exN (by decide)) rfl ?_
  refine C.mono hf (fun _ _ => KR.g (fun b4 h1 hf le2 => ?_))
  have k3 := leK le2 k3 (by decide)
  obtain ⟨⟨_, c51, c52, c53⟩, hf⟩ := hf
  refine x_cast (pc' := 8) (dX7_pat 3 rfl rfl) q1417 c51 c52 c53 rfl ?_
  exact x_aret (dX7_pat 4 rfl rfl) rfl (Or.inl ⟨_, rfl⟩) (Or.inr ⟨_, rfl⟩) hf
theorem bX7_get (G : Gh) (d : Nat) (h : AH) (Q : Outcome → AH → Prop) (a0 : Nat) (p1 : Int32) (hf : hK h a0 = 6 ∧ (∃ b2, fR h a0 77 = some b2 ∧ (hK h b2 = 1004 ∧ vp_in p1 (hL h b2) ∧ ∃ b6, aR h b2 p1.toNatClampNeg = some b6 ∧ (hK h b6 = 7 ∧ (∃ b9, fR h b6 79 = some b9 ∧ (Q (.returned (some (.ref (b9)))) h)))))) : C G mX7_get d [.ref (a0), .int (p1)] h Q := by
  refine C.of_X (by decide +kernel) (Nat.le_of_ble_eq_true rfl) wX7_get ?_
  show X G mX7_get d none [] 0 [(0, .ref (a0)), (1, .int (p1))] [] h Q
  refine x_aload_n (pc' := 1) 0 (dX7_get 0 rfl rfl) rfl rfl rfl ?_
  obtain ⟨k1, hf⟩ := hf
  obtain ⟨b2, e3, hf⟩ := hf
  refine x_getR (pc' := 4) (dX7_get 1 rfl rfl) g77 q565 (Or.inl rfl) rfl (hf_of 5 k1 rfl (by decide) m5_77) e3 ?_
  refine x_iload_n (pc' := 5) 1 (dX7_get 2 rfl rfl) rfl rfl rfl ?_
  obtain ⟨k4, hf⟩ := hf
  obtain ⟨i5, hf⟩ := hf
  obtain ⟨b6, e7, hf⟩ := hf
  refine x_aald (pc' := 6) (t := 4) (C := "LetMill$Spot") (dX7_get 3 rfl rfl) rfl (by decide) rfl k4 i5 e7 ?_
  obtain ⟨k8, hf⟩ := hf
  obtain ⟨b9, e10, hf⟩ := hf
  refine x_getR (pc' := 9) (dX7_get 4 rfl rfl) g79 q599 (Or.inl rfl) rfl (hf_of 6 k8 rfl (by decide) m6_79) e10 ?_
  exact x_aret (dX7_get 5 rfl rfl) rfl (Or.inl ⟨_, rfl⟩) (Or.inr ⟨_, rfl⟩) hf
theorem bX7_exp (G : Gh) (d : Nat) (h : AH) (Q : Outcome → AH → Prop) (a0 : Nat) (p1 : Int32) (hf : hK h a0 = 6 ∧ (C G mX7_get d [.ref (a0), .int (p1)] h (KR Q (fun b4 h1 => CT h1 b4 "LetMill$Exp" ∧ (Q (.returned (some (.ref (b4)))) h1))))) : C G mX7_exp (d + 1) [.ref (a0), .int (p1)] h Q := by
  refine C.of_X (by decide +kernel) (Nat.le_of_ble_eq_true rfl) wX7_exp ?_
  show X G mX7_exp (d + 1) none [] 0 [(0, .ref (a0)), (1, .int (p1))] [] h Q
  refine x_aload_n (pc' := 1) 0 (dX7_exp 0 rfl rfl) rfl rfl rfl ?_
  refine x_iload_n (pc' := 2) 1 (dX7_exp 1 rfl rfl) rfl rfl rfl ?_
  obtain ⟨k3, hf⟩ := hf
  refine x_inv (pc' := 5) (ν := mX7_get) (av := [_, _]) (st := []) rfl rfl (dX7_exp 2 rfl rfl) (Nat.le_of_ble_eq_true rfl) wX7_get q221 (inv_V (k := 5) (dX7_exp 2 rfl rfl) q1413 q1414 q1415 wX7_get (by decide) lX7_get (by decide) k3) (exN (by decide)) rfl ?_
  refine C.mono hf (fun _ _ => KR.g (fun b4 h1 hf le2 => ?_))
  have k3 := leK le2 k3 (by decide)
  obtain ⟨⟨_, c51, c52, c53⟩, hf⟩ := hf
  refine x_cast (pc' := 8) (dX7_exp 3 rfl rfl) q1665 c51 c52 c53 rfl ?_
  exact x_aret (dX7_exp 4 rfl rfl) rfl (Or.inl ⟨_, rfl⟩) (Or.inr ⟨_, rfl⟩) hf
theorem bX7_ty (G : Gh) (d : Nat) (h : AH) (Q : Outcome → AH → Prop) (a0 : Nat) (p1 : Int32) (hf : hK h a0 = 6 ∧ (C G mX7_get d [.ref (a0), .int (p1)] h (KR Q (fun b4 h1 => CT h1 b4 "LetMill$Ty" ∧ (Q (.returned (some (.ref (b4)))) h1))))) : C G mX7_ty (d + 1) [.ref (a0), .int (p1)] h Q := by
  refine C.of_X (by decide +kernel) (Nat.le_of_ble_eq_true rfl) wX7_ty ?_
  show X G mX7_ty (d + 1) none [] 0 [(0, .ref (a0)), (1, .int (p1))] [] h Q
  refine x_aload_n (pc' := 1) 0 (dX7_ty 0 rfl rfl) rfl rfl rfl ?_
  refine x_iload_n (pc' := 2) 1 (dX7_ty 1 rfl rfl) rfl rfl rfl ?_
  obtain ⟨k3, hf⟩ := hf
  refine x_inv (pc' := 5) (ν := mX7_get) (av := [_, _]) (st := []) rfl rfl (dX7_ty 2 rfl rfl) (Nat.le_of_ble_eq_true rfl) wX7_get q221 (inv_V (k := 5) (dX7_ty 2 rfl rfl) q1413 q1414 q1415 wX7_get (by decide) lX7_get (by decide) k3) (exN (by decide)) rfl ?_
  refine C.mono hf (fun _ _ => KR.g (fun b4 h1 hf le2 => ?_))
  have k3 := leK le2 k3 (by decide)
  obtain ⟨⟨_, c51, c52, c53⟩, hf⟩ := hf
  refine x_cast (pc' := 8) (dX7_ty 3 rfl rfl) q1931 c51 c52 c53 rfl ?_
  exact x_aret (dX7_ty 4 rfl rfl) rfl (Or.inl ⟨_, rfl⟩) (Or.inr ⟨_, rfl⟩) hf
theorem bX7_dec (G : Gh) (d : Nat) (h : AH) (Q : Outcome → AH → Prop) (a0 : Nat) (p1 : Int32) (hf : hK h a0 = 6 ∧ (C G mX7_get d [.ref (a0), .int (p1)] h (KR Q (fun b4 h1 => CT h1 b4 "LetMill$Dec" ∧ (Q (.returned (some (.ref (b4)))) h1))))) : C G mX7_dec (d + 1) [.ref (a0), .int (p1)] h Q := by
  refine C.of_X (by decide +kernel) (Nat.le_of_ble_eq_true rfl) wX7_dec ?_
  show X G mX7_dec (d + 1) none [] 0 [(0, .ref (a0)), (1, .int (p1))] [] h Q
  refine x_aload_n (pc' := 1) 0 (dX7_dec 0 rfl rfl) rfl rfl rfl ?_
  refine x_iload_n (pc' := 2) 1 (dX7_dec 1 rfl rfl) rfl rfl rfl ?_
  obtain ⟨k3, hf⟩ := hf
  refine x_inv (pc' := 5) (ν := mX7_get) (av := [_, _]) (st := []) rfl rfl (dX7_dec 2 rfl rfl) (Nat.le_of_ble_eq_true rfl) wX7_get q221 (inv_V (k := 5) (dX7_dec 2 rfl rfl) q1413 q1414 q1415 wX7_get (by decide) lX7_get (by decide) k3) (exN (by decide)) rfl ?_
  refine C.mono hf (fun _ _ => KR.g (fun b4 h1 hf le2 => ?_))
  have k3 := leK le2 k3 (by decide)
  obtain ⟨⟨_, c51, c52, c53⟩, hf⟩ := hf
  refine x_cast (pc' := 8) (dX7_dec 3 rfl rfl) q2040 c51 c52 c53 rfl ?_
  exact x_aret (dX7_dec 4 rfl rfl) rfl (Or.inl ⟨_, rfl⟩) (Or.inr ⟨_, rfl⟩) hf
theorem bX7_data (G : Gh) (d : Nat) (h : AH) (Q : Outcome → AH → Prop) (a0 : Nat) (p1 : Int32) (hf : hK h a0 = 6 ∧ (C G mX7_get d [.ref (a0), .int (p1)] h (KR Q (fun b4 h1 => hK h1 b4 = 47 ∧ (Q (.returned (some (.ref (b4)))) h1))))) : C G mX7_data (d + 1) [.ref (a0), .int (p1)] h Q := by
  refine C.of_X (by decide +kernel) (Nat.le_of_ble_eq_true rfl) wX7_data ?_
  show X G mX7_data (d + 1) none [] 0 [(0, .ref (a0)), (1, .int (p1))] [] h Q
  refine x_aload_n (pc' := 1) 0 (dX7_data 0 rfl rfl) rfl rfl rfl ?_
  refine x_iload_n (pc' := 2) 1 (dX7_data 1 rfl rfl) rfl rfl rfl ?_
  obtain ⟨k3, hf⟩ := hf
  refine x_inv (pc' := 5) (ν := mX7_get) (av := [_, _]) (st := []) rfl rfl (dX7_data 2 rfl rfl) (Nat.le_of_ble_eq_true rfl) wX7_get q221 (inv_V (k := 5) (dX7_data 2 rfl rfl) q1413 q1414 q1415 wX7_get (by decide) lX7_get (by decide) k3) (exN (by decide)) rfl ?_
  refine C.mono hf (fun _ _ => KR.g (fun b4 h1 hf le2 => ?_))
  have k3 := leK le2 k3 (by decide)
  obtain ⟨k5, hf⟩ := hf
  refine x_castS (pc' := 8) (k := 46) (dX7_data 3 rfl rfl) q2051 (by decide) k5 rfl ?_
  exact x_aret (dX7_data 4 rfl rfl) rfl (Or.inl ⟨_, rfl⟩) (Or.inr ⟨_, rfl⟩) hf
theorem bX7_con (G : Gh) (d : Nat) (h : AH) (Q : Outcome → AH → Prop) (a0 : Nat) (p1 : Int32) (hf : hK h a0 = 6 ∧ (C G mX7_get d [.ref (a0), .int (p1)] h (KR Q (fun b4 h1 => hK h1 b4 = 52 ∧ (Q (.returned (some (.ref (b4)))) h1))))) : C G mX7_con (d + 1) [.ref (a0), .int (p1)] h Q := by
  refine C.of_X (by decide +kernel) (Nat.le_of_ble_eq_true rfl) wX7_con ?_
  show X G mX7_con (d + 1) none [] 0 [(0, .ref (a0)), (1, .int (p1))] [] h Q
  refine x_aload_n (pc' := 1) 0 (dX7_con 0 rfl rfl) rfl rfl rfl ?_
  refine x_iload_n (pc' := 2) 1 (dX7_con 1 rfl rfl) rfl rfl rfl ?_
  obtain ⟨k3, hf⟩ := hf
  refine x_inv (pc' := 5) (ν := mX7_get) (av := [_, _]) (st := []) rfl rfl (dX7_con 2 rfl rfl) (Nat.le_of_ble_eq_true rfl) wX7_get q221 (inv_V (k := 5) (dX7_con 2 rfl rfl) q1413 q1414 q1415 wX7_get (by decide) lX7_get (by decide) k3) (exN (by decide)) rfl ?_
  refine C.mono hf (fun _ _ => KR.g (fun b4 h1 hf le2 => ?_))
  have k3 := leK le2 k3 (by decide)
  obtain ⟨k5, hf⟩ := hf
  refine x_castS (pc' := 8) (k := 51) (dX7_con 3 rfl rfl) q2087 (by decide) k5 rfl ?_
  exact x_aret (dX7_con 4 rfl rfl) rfl (Or.inl ⟨_, rfl⟩) (Or.inr ⟨_, rfl⟩) hf
theorem bX7_fun (G : Gh) (d : Nat) (h : AH) (Q : Outcome → AH → Prop) (a0 : Nat) (p1 : Int32) (hf : hK h a0 = 6 ∧ (C G mX7_get d [.ref (a0), .int (p1)] h (KR Q (fun b4 h1 => hK h1 b4 = 45 ∧ (Q (.returned (some (.ref (b4)))) h1))))) : C G mX7_fun (d + 1) [.ref (a0), .int (p1)] h Q := by
  refine C.of_X (by decide +kernel) (Nat.le_of_ble_eq_true rfl) wX7_fun ?_
  show X G mX7_fun (d + 1) none [] 0 [(0, .ref (a0)), (1, .int (p1))] [] h Q
  refine x_aload_n (pc' := 1) 0 (dX7_fun 0 rfl rfl) rfl rfl rfl ?_
  refine x_iload_n (pc' := 2) 1 (dX7_fun 1 rfl rfl) rfl rfl rfl ?_
  obtain ⟨k3, hf⟩ := hf
  refine x_inv (pc' := 5) (ν := mX7_get) (av := [_, _]) (st := []) rfl rfl (dX7_fun 2 rfl rfl) (Nat.le_of_ble_eq_true rfl) wX7_get q221 (inv_V (k := 5) (dX7_fun 2 rfl rfl) q1413 q1414 q1415 wX7_get (by decide) lX7_get (by decide) k3) (exN (by decide)) rfl ?_
  refine C.mono hf (fun _ _ => KR.g (fun b4 h1 hf le2 => ?_))
  have k3 := leK le2 k3 (by decide)
  obtain ⟨k5, hf⟩ := hf
  refine x_castS (pc' := 8) (k := 44) (dX7_fun 3 rfl rfl) q2191 (by decide) k5 rfl ?_
  exact x_aret (dX7_fun 4 rfl rfl) rfl (Or.inl ⟨_, rfl⟩) (Or.inr ⟨_, rfl⟩) hf
theorem bX7_clause (G : Gh) (d : Nat) (h : AH) (Q : Outcome → AH → Prop) (a0 : Nat) (p1 : Int32) (hf : hK h a0 = 6 ∧ (C G mX7_get d [.ref (a0), .int (p1)] h (KR Q (fun b4 h1 => hK h1 b4 = 29 ∧ (Q (.returned (some (.ref (b4)))) h1))))) : C G mX7_clause (d + 1) [.ref (a0), .int (p1)] h Q := by
  refine C.of_X (by decide +kernel) (Nat.le_of_ble_eq_true rfl) wX7_clause ?_
  show X G mX7_clause (d + 1) none [] 0 [(0, .ref (a0)), (1, .int (p1))] [] h Q
  refine x_aload_n (pc' := 1) 0 (dX7_clause 0 rfl rfl) rfl rfl rfl ?_
  refine x_iload_n (pc' := 2) 1 (dX7_clause 1 rfl rfl) rfl rfl rfl ?_
  obtain ⟨k3, hf⟩ := hf
  refine x_inv (pc' := 5) (ν := mX7_get) (av := [_, _]) (st := []) rfl rfl (dX7_clause 2 rfl rfl) (Nat.le_of_ble_eq_true rfl) wX7_get q221 (inv_V (k := 5) (dX7_clause 2 rfl rfl) q1413 q1414 q1415 wX7_get (by decide) lX7_get (by decide) k3) (exN (by decide)) rfl ?_
  refine C.mono hf (fun _ _ => KR.g (fun b4 h1 hf le2 => ?_))
  have k3 := leK le2 k3 (by decide)
  obtain ⟨k5, hf⟩ := hf
  refine x_castS (pc' := 8) (k := 28) (dX7_clause 3 rfl rfl) q2200 (by decide) k5 rfl ?_
  exact x_aret (dX7_clause 4 rfl rfl) rfl (Or.inl ⟨_, rfl⟩) (Or.inr ⟨_, rfl⟩) hf
theorem bX7_set (G : Gh) (d : Nat) (h : AH) (Q : Outcome → AH → Prop) (a0 : Nat) (p1 : Int32) (p2 : Nat) (hf : hK h a0 = 6 ∧ (∃ b2, fR h a0 77 = some b2 ∧ (hK h b2 = 1004 ∧ vp_in p1 (hL h b2) ∧ ∃ b6, aR h b2 p1.toNatClampNeg = some b6 ∧ (hK h b6 = 7 ∧ (∀ h9, h9 = pR h b6 79 (some p2) → (Q (.returned none) h9)))))) : C G mX7_set d [.ref (a0), .int (p1), .ref (p2)] h Q := by
  refine C.of_X (by decide +kernel) (Nat.le_of_ble_eq_true rfl) wX7_set ?_
  show X G mX7_set d none [] 0 [(0, .ref (a0)), (1, .int (p1)), (2, .ref (p2))] [] h Q
  refine x_aload_n (pc' := 1) 0 (dX7_set 0 rfl rfl) rfl rfl rfl ?_
  obtain ⟨k1, hf⟩ := hf
  obtain ⟨b2, e3, hf⟩ := hf
  refine x_getR (pc' := 4) (dX7_set 1 rfl rfl) g77 q565 (Or.inl rfl) rfl (hf_of 5 k1 rfl (by decide) m5_77) e3 ?_
  refine x_iload_n (pc' := 5) 1 (dX7_set 2 rfl rfl) rfl rfl rfl ?_
  obtain ⟨k4, hf⟩ := hf
  obtain ⟨i5, hf⟩ := hf
  obtain ⟨b6, e7, hf⟩ := hf
  refine x_aald (pc' := 6) (t := 4) (C := "LetMill$Spot") (dX7_set 3 rfl rfl) rfl (by decide) rfl k4 i5 e7 ?_
  refine x_aload_n (pc' := 7) 2 (dX7_set 4 rfl rfl) rfl rfl rfl ?_
  obtain ⟨k8, hf⟩ := hf
  refine x_putR (pc' := 10) (dX7_set 5 rfl rfl) g79 q599 (Or.inl rfl) (Or.inl rfl) (Or.inl (by decide)) rfl (hf_of 6 k8 rfl (by decide) m6_79) (fun h9 e10 => ?_)
  replace hf := hf h9 e10
  replace k1 : hK h9 a0 = 6 := by rw [e10]; exact k1
  replace k4 : hK h9 b2 = 1004 := by rw [e10]; exact k4
  replace k8 : hK h9 b6 = 7 := by rw [e10]; exact k8
  exact x_vret (dX7_set 6 rfl rfl) rfl hf
theorem bX8_init (G : Gh) (d : Nat) (hd1 : 1 ≤ d) (h : AH) (Q : Outcome → AH → Prop) (a0 : Nat) (p1 : Nat) (hf : hK h a0 = 7 ∧ (∀ h2, h2 = pR h a0 79 (some p1) → (Q (.returned none) h2))) : C G mX8_init d [.ref (a0), .ref (p1)] h Q := by
  refine C.of_X (by decide +kernel) (Nat.le_of_ble_eq_true rfl) wX8_init ?_
  show X G mX8_init d (some a0) [] 0 [(0, .ref (a0)), (1, .ref (p1))] [] h Q
  refine x_aload_n (pc' := 1) 0 (dX8_init 0 rfl rfl) rfl rfl rfl ?_
  refine x_objInit (pc' := 4) (dX8_init 1 rfl rfl) q597 q288 q289 (by decide) (by omega) rfl ?_
  refine x_aload_n (pc' := 5) 0 (dX8_init 2 rfl rfl) rfl rfl rfl ?_
  refine x_aload_n (pc' := 6) 1 (dX8_init 3 rfl rfl) rfl rfl rfl ?_
  obtain ⟨k1, hf⟩ := hf
  refine x_putR (pc' := 9) (dX8_init 4 rfl rfl) g79 q598 (Or.inl rfl) (Or.inl rfl) (Or.inr rfl) rfl (hf_of 6 k1 rfl (by decide) m6_79) (fun h2 e3 => ?_)
  replace hf := hf h2 e3
  replace k1 : hK h2 a0 = 7 := by rw [e3]; exact k1
  exact x_vret (dX8_init 5 rfl rfl) rfl hf
theorem bX9_init (G : Gh) (d : Nat) (h : AH) (Q : Outcome → AH → Prop) (a0 : Nat) (p1 : Nat) (p2 : Nat) (p3 : Nat) (hf : (¬ (64 : Int32) < 0) ∧ (hc h + 1 ≤ MC) ∧ (hs h + (64 : Int32).toNatClampNeg ≤ MS) ∧ ∀ q1, hK h q1 = 0 → ∀ h3, h3 = nA h q1 7 (64 : Int32).toNatClampNeg → (hK h3 a0 = 8 ∧ (∀ h8, h8 = pR h3 a0 82 (some q1) → ((hc h8 + 1 ≤ MC) ∧ (hs h8 + 2 ≤ MS) ∧ ∀ q9, hK h8 q9 = 0 → ∀ h11, h11 = nO h8 q9 5 → (C G mX7_init d [.ref (q9)] h11 (KV Q (fun h14 => ∀ h16, h16 = pR h14 a0 85 (some q9) → ((hc h16 + 1 ≤ MC) ∧ (hs h16 + 2 ≤ MS) ∧ ∀ q17, hK h16 q17 = 0 → ∀ h19, h19 = nO h16 q17 5 → (C G mX7_init d [.ref (q17)] h19 (KV Q (fun h22 => ∀ h24, h24 = pR h22 a0 86 (some q17) → ((hc h24 + 1 ≤ MC) ∧ (hs h24 + 2 ≤ MS) ∧ ∀ q25, hK h24 q25 = 0 → ∀ h27, h27 = nO h24 q25 5 → (C G mX7_init d [.ref (q25)] h27 (KV Q (fun h30 => ∀ h32, h32 = pR h30 a0 87 (some q25) → ((hc h32 + 1 ≤ MC) ∧ (hs h32 + 2 ≤ MS) ∧ ∀ q33, hK h32 q33 = 0 → ∀ h35, h35 = nO h32 q33 5 → (C G mX7_init d [.ref (q33)] h35 (KV Q (fun h38 => ∀ h40, h40 = pR h38 a0 88 (some q33) → (∀ h41, h41 = pR h40 a0 80 (some p1) → (∀ h42, h42 = pR h41 a0 81 (some p2) → (∀ h43, h43 = pR h42 a0 89 (some p3) → (Q (.returned none) h43))))))))))))))))))))))) : C G mX9_init (d + 1) [.ref (a0), .ref (p1), .ref (p2), .ref (p3)] h Q := by
  refine C.of_X (by decide +kernel) (Nat.le_of_ble_eq_true rfl) wX9_init ?_
  show X G mX9_init (d + 1) (some a0) [] 0 [(0, .ref (a0)), (1, .ref (p1)), (2, .ref (p2)), (3, .ref (p3))] [] h Q
  refine x_aload_n (pc' := 1) 0 (dX9_init 0 rfl rfl) rfl rfl rfl ?_
  refine x_objInit (pc' := 4) (dX9_init 1 rfl rfl) q679 q288 q289 (by decide) (by omega) rfl ?_
  refine x_aload_n (pc' := 5) 0 (dX9_init 2 rfl rfl) rfl rfl rfl ?_
  refine x_bipush (pc' := 7) (v := 64) (dX9_init 3 rfl rfl) (by decide) rfl ?_
  obtain ⟨z5, n1, n2, hf⟩ := hf
  refine x_newq (pc' := 10) (t := 7) (E := "LetMill$Binding") (dX9_init 4 rfl rfl) q680 (by decide) (by decide) rfl rfl z5 (by decide) n1 n2 (fun q1 h3 k2 e4 => ?_)
  replace hf := hf q1 k2 h3 e4
  have k6 : hK h3 q1 = 1007 := by rw [e4]; exact kNAs
  obtain ⟨k7, hf⟩ := hf
  refine x_putR (pc' := 13) (dX9_init 5 rfl rfl) g82 q686 (Or.inl rfl) (Or.inl rfl) (Or.inr rfl) rfl (hf_of 7 k7 rfl (by decide) m7_82) (fun h8 e51 => ?_)
  replace hf := hf h8 e51
  replace k6 : hK h8 q1 = 1007 := by rw [e51]; exact k6
  replace k7 : hK h8 a0 = 8 := by rw [e51]; exact k7
  refine x_aload_n (pc' := 14) 0 (dX9_init 6 rfl rfl) rfl rfl rfl ?_
  obtain ⟨n1, n2, hf⟩ := hf
  refine x_new (pc' := 17) (k := 5) (dX9_init 7 rfl rfl) q682 (by decide) rfl (by decide) n1 n2 (fun q9 h11 k10 e12 => ?_)
  replace hf := hf q9 k10 h11 e12
  replace k6 : hK h11 q1 = 1007 := by rw [e12]; exact kNO k6 (by decide) k10
  replace k7 : hK h11 a0 = 8 := by rw [e12]; exact kNO k7 (by decide) k10
  have k13 : hK h11 q9 = 6 := by rw [e12]; exact kNOs
  refine x_dup (pc' := 18) (dX9_init 8 rfl rfl) rfl rfl ?_
  refine x_inv (pc' := 21) (ν := mX7_init) (av := [_]) (st := [_, _]) rfl rfl (dX9_init 9 rfl rfl) (Nat.le_of_ble_eq_true rfl) wX7_init q221 (inv_N (host := "LetMill") (dX9_init 9 rfl rfl) (by decide) q560 q561 rfl (by decide) lX7_init) (fun b hb => by exact Or.inl (by have e : some _ = some b := hb; cases e; simp)) rfl ?_
  refine C.mono hf (fun _ _ => KV.g (fun h14 hf le15 => ?_))
  have k6 := leK le15 k6 (by decide)
  have k7 := leK le15 k7 (by decide)
  have k13 := leK le15 k13 (by decide)
  refine x_putR (pc' := 24) (dX9_init 10 rfl rfl) g85 q695 (Or.inl rfl) (Or.inr ⟨rfl, rfl, rfl, rfl⟩) (Or.inr rfl) rfl (hf_of 7 k7 rfl (by decide) m7_85) (fun h16 e50 => ?_)
  replace hf := hf h16 e50
  replace k6 : hK h16 q1 = 1007 := by rw [e50]; exact k6
  replace k7 : hK h16 a0 = 8 := by rw [e50]; exact k7
  replace k13 : hK h16 q9 = 6 := by rw [e50]; exact k13
  refine x_aload_n (pc' := 25) 0 (dX9_init 11 rfl rfl) rfl rfl rfl ?_
  obtain ⟨n1, n2, hf⟩ := hf
  refine x_new (pc' := 28) (k := 5) (dX9_init 12 rfl rfl) q682 (by decide) rfl (by decide) n1 n2 (fun q17 h19 k18 e20 => ?_)
  replace hf := hf q17 k18 h19 e20
  replace k6 : hK h19 q1 = 1007 := by rw [e20]; exact kNO k6 (by decide) k18
  replace k7 : hK h19 a0 = 8 := by rw [e20]; exact kNO k7 (by decide) k18
  replace k13 : hK h19 q9 = 6 := by rw [e20]; exact kNO k13 (by decide) k18
  have k21 : hK h19 q17 = 6 := by rw [e20]; exact kNOs
  refine x_dup (pc' := 29) (dX9_init 13 rfl rfl) rfl rfl ?_
  refine x_inv (pc' := 32) (ν := mX7_init) (av := [_]) (st := [_, _]) rfl rfl (dX9_init 14 rfl rfl) (Nat.le_of_ble_eq_true rfl) wX7_init q221 (inv_N (host := "LetMill") (dX9_init 14 rfl rfl) (by decide) q560 q561 rfl (by decide) lX7_init) (fun b hb => by exact Or.inl (by have e : some _ = some b := hb; cases e; simp)) rfl ?_
  refine C.mono hf (fun _ _ => KV.g (fun h22 hf le23 => ?_))
  have k6 := leK le23 k6 (by decide)
  have k7 := leK le23 k7 (by decide)
  have k13 := leK le23 k13 (by decide)
  have k21 := leK le23 k21 (by decide)
  refine x_putR (pc' := 35) (dX9_init 15 rfl rfl) g86 q696 (Or.inl rfl) (Or.inr ⟨rfl, rfl, rfl, rfl⟩) (Or.inr rfl) rfl (hf_of 7 k7 rfl (by decide) m7_86) (fun h24 e49 => ?_)
  replace hf := hf h24 e49
  replace k6 : hK h24 q1 = 1007 := by rw [e49]; exact k6
  replace k7 : hK h24 a0 = 8 := by rw [e49]; exact k7
  replace k13 : hK h24 q9 = 6 := by rw [e49]; exact k13
  replace k21 : hK h24 q17 = 6 := by rw [e49]; exact k21
  refine x_aload_n (pc' := 36) 0 (dX9_init 16 rfl rfl) rfl rfl rfl ?_
  obtain ⟨n1, n2, hf⟩ := hf
  refine x_new (pc' := 39) (k := 5) (dX9_init 17 rfl rfl) q682 (by decide) rfl (by decide) n1 n2 (fun q25 h27 k26 e28 => ?_)
  replace hf := hf q25 k26 h27 e28
  replace k6 : hK h27 q1 = 1007 := by rw [e28]; exact kNO k6 (by decide) k26
  replace k7 : hK h27 a0 = 8 := by rw [e28]; exact kNO k7 (by decide) k26
  replace k13 : hK h27 q9 = 6 := by rw [e28]; exact kNO k13 (by decide) k26
  replace k21 : hK h27 q17 = 6 := by rw [e28]; exact kNO k21 (by decide) k26
  have k29 : hK h27 q25 = 6 := by rw [e28]; exact kNOs
  refine x_dup (pc' := 40) (dX9_init 18 rfl rfl) rfl rfl ?_
  refine x_inv (pc' := 43) (ν := mX7_init) (av := [_]) (st := [_, _]) rfl rfl (dX9_init 19 rfl rfl) (Nat.le_of_ble_eq_true rfl) wX7_init q221 (inv_N (host := "LetMill") (dX9_init 19 rfl rfl) (by decide) q560 q561 rfl (by decide) lX7_init) (fun b hb => by exact Or.inl (by have e : some _ = some b := hb; cases e; simp)) rfl ?_
  refine C.mono hf (fun _ _ => KV.g (fun h30 hf le31 => ?_))
  have k6 := leK le31 k6 (by decide)
  have k7 := leK le31 k7 (by decide)
  have k13 := leK le31 k13 (by decide)
  have k21 := leK le31 k21 (by decide)
  have k29 := leK le31 k29 (by decide)
  refine x_putR (pc' := 46) (dX9_init 20 rfl rfl) g87 q697 (Or.inl rfl) (Or.inr ⟨rfl, rfl, rfl, rfl⟩) (Or.inr rfl) rfl (hf_of 7 k7 rfl (by decide) m7_87) (fun h32 e48 => ?_)
  replace hf := hf h32 e48
  replace k6 : hK h32 q1 = 1007 := by rw [e48]; exact k6
  replace k7 : hK h32 a0 = 8 := by rw [e48]; exact k7
  replace k13 : hK h32 q9 = 6 := by rw [e48]; exact k13
  replace k21 : hK h32 q17 = 6 := by rw [e48]; exact k21
  replace k29 : hK h32 q25 = 6 := by rw [e48]; exact k29
  refine x_aload_n (pc' := 47) 0 (dX9_init 21 rfl rfl) rfl rfl rfl ?_
  obtain ⟨n1, n2, hf⟩ := hf
  refine x_new (pc' := 50) (k := 5) (dX9_init 22 rfl rfl) q682 (by decide) rfl (by decide) n1 n2 (fun q33 h35 k34 e36 => ?_)
  replace hf := hf q33 k34 h35 e36
  replace k6 : hK h35 q1 = 1007 := by rw [e36]; exact kNO k6 (by decide) k34
  replace k7 : hK h35 a0 = 8 := by rw [e36]; exact kNO k7 (by decide) k34
  replace k13 : hK h35 q9 = 6 := by rw [e36]; exact kNO k13 (by decide) k34
  replace k21 : hK h35 q17 = 6 := by rw [e36]; exact kNO k21 (by decide) k34
  replace k29 : hK h35 q25 = 6 := by rw [e36]; exact kNO k29 (by decide) k34
  have k37 : hK h35 q33 = 6 := by rw [e36]; exact kNOs
  refine x_dup (pc' := 51) (dX9_init 23 rfl rfl) rfl rfl ?_
  refine x_inv (pc' := 54) (ν := mX7_init) (av := [_]) (st := [_, _]) rfl rfl (dX9_init 24 rfl rfl) (Nat.le_of_ble_eq_true rfl) wX7_init q221 (inv_N (host := "LetMill") (dX9_init 24 rfl rfl) (by decide) q560 q561 rfl (by decide) lX7_init) (fun b hb => by exact Or.inl (by have e : some _ = some b := hb; cases e; simp)) rfl ?_
  refine C.mono hf (fun _ _ => KV.g (fun h38 hf le39 => ?_))
  have k6 := leK le39 k6 (by decide)
  have k7 := leK le39 k7 (by decide)
  have k13 := leK le39 k13 (by decide)
  have k21 := leK le39 k21 (by decide)
  have k29 := leK le39 k29 (by decide)
  have k37 := leK le39 k37 (by decide)
  refine x_putR (pc' := 57) (dX9_init 25 rfl rfl) g88 q699 (Or.inl rfl) (Or.inr ⟨rfl, rfl, rfl, rfl⟩) (Or.inr rfl) rfl (hf_of 7 k7 rfl (by decide) m7_88) (fun h40 e47 => ?_)
  replace hf := hf h40 e47
  replace k6 : hK h40 q1 = 1007 := by rw [e47]; exact k6
  replace k7 : hK h40 a0 = 8 := by rw [e47]; exact k7
  replace k13 : hK h40 q9 = 6 := by rw [e47]; exact k13
  replace k21 : hK h40 q17 = 6 := by rw [e47]; exact k21
  replace k29 : hK h40 q25 = 6 := by rw [e47]; exact k29
  replace k37 : hK h40 q33 = 6 := by rw [e47]; exact k37
  refine x_aload_n (pc' := 58) 0 (dX9_init 26 rfl rfl) rfl rfl rfl ?_
  refine x_aload_n (pc' := 59) 1 (dX9_init 27 rfl rfl) rfl rfl rfl ?_
  refine x_putR (pc' := 62) (dX9_init 28 rfl rfl) g80 q684 (Or.inl rfl) (Or.inr ⟨rfl, rfl, rfl, rfl⟩) (Or.inr rfl) rfl (hf_of 7 k7 rfl (by decide) m7_80) (fun h41 e46 => ?_)
  replace hf := hf h41 e46
  replace k6 : hK h41 q1 = 1007 := by rw [e46]; exact k6
  replace k7 : hK h41 a0 = 8 := by rw [e46]; exact k7
  replace k13 : hK h41 q9 = 6 := by rw [e46]; exact k13
  replace k21 : hK h41 q17 = 6 := by rw [e46]; exact k21
  replace k29 : hK h41 q25 = 6 := by rw [e46]; exact k29
  replace k37 : hK h41 q33 = 6 := by rw [e46]; exact k37
  refine x_aload_n (pc' := 63) 0 (dX9_init 29 rfl rfl) rfl rfl rfl ?_
  refine x_aload_n (pc' := 64) 2 (dX9_init 30 rfl rfl) rfl rfl rfl ?_
  refine x_putR (pc' := 67) (dX9_init 31 rfl rfl) g81 q685 (Or.inl rfl) (Or.inr ⟨rfl, rfl, rfl, rfl⟩) (Or.inr rfl) rfl (hf_of 7 k7 rfl (by decide) m7_81) (fun h42 e45 => ?_)
  replace hf := hf h42 e45
  replace k6 : hK h42 q1 = 1007 := by rw [e45]; exact k6
  replace k7 : hK h42 a0 = 8 := by rw [e45]; exact k7
  replace k13 : hK h42 q9 = 6 := by rw [e45]; exact k13
  replace k21 : hK h42 q17 = 6 := by rw [e45]; exact k21
  replace k29 : hK h42 q25 = 6 := by rw [e45]; exact k29
  replace k37 : hK h42 q33 = 6 := by rw [e45]; exact k37
  refine x_aload_n (pc' := 68) 0 (dX9_init 32 rfl rfl) rfl rfl rfl ?_
  refine x_aload_n (pc' := 69) 3 (dX9_init 33 rfl rfl) rfl rfl rfl ?_
  refine x_putR (pc' := 72) (dX9_init 34 rfl rfl) g89 q700 (Or.inl rfl) (Or.inr ⟨rfl, rfl, rfl, rfl⟩) (Or.inr rfl) rfl (hf_of 7 k7 rfl (by decide) m7_89) (fun h43 e44 => ?_)
  replace hf := hf h43 e44
  replace k6 : hK h43 q1 = 1007 := by rw [e44]; exact k6
  replace k7 : hK h43 a0 = 8 := by rw [e44]; exact k7
  replace k13 : hK h43 q9 = 6 := by rw [e44]; exact k13
  replace k21 : hK h43 q17 = 6 := by rw [e44]; exact k21
  replace k29 : hK h43 q25 = 6 := by rw [e44]; exact k29
  replace k37 : hK h43 q33 = 6 := by rw [e44]; exact k37
  exact x_vret (dX9_init 35 rfl rfl) rfl hf
theorem bX9_builtIn (G : Gh) (d : Nat) (h : AH) (Q : Outcome → AH → Prop) (p1 : Nat) (p2 : Int32) (p3 : Nat) (s4 : So 4 (gW G) h) (hf : (hc h + 1 ≤ MC) ∧ (hs h + 7 ≤ MS) ∧ ∀ q1, hK h q1 = 0 → ∀ h3, h3 = nO h q1 12 → (C G mX4_spelled d [.ref (p1)] h3 (KJ Q (fun y8 h6 => C G mX14_init d [.ref (q1), .long (y8), .long (0)] h6 (KV Q (fun h9 => ∀ h11, h11 = pI h9 q1 129 ((-1)) → (∀ h12, h12 = pI h11 q1 131 p2 → (∀ h13, h13 = pR h12 q1 130 (some p3) → (C G mX7_add d [.ref (gW G 1088), .ref (q1)] h13 (KV Q (fun h14 => Q (.returned none) h14))))))))))) : C G mX9_builtIn (d + 1) [.ref (gW G 4), .ref (p1), .int (p2), .ref (p3)] h Q := by
  refine C.of_X (by decide +kernel) (Nat.le_of_ble_eq_true rfl) wX9_builtIn ?_
  show X G mX9_builtIn (d + 1) none [] 0 [(0, .ref (gW G 4)), (1, .ref (p1)), (2, .int (p2)), (3, .ref (p3))] [] h Q
  obtain ⟨n1, n2, hf⟩ := hf
  refine x_new (pc' := 3) (k := 12) (dX9_builtIn 0 rfl rfl) q680 (by decide) rfl (by decide) n1 n2 (fun q1 h3 k2 e4 => ?_)
  replace hf := hf q1 k2 h3 e4
  replace s4 : So 4 (gW G) h3 := by rw [e4]; exact s4.le sc4 (nO_le k2)
  have k5 : hK h3 q1 = 13 := by rw [e4]; exact kNOs
  refine x_dup (pc' := 4) (dX9_builtIn 1 rfl rfl) rfl rfl ?_
  refine x_aload_n (pc' := 5) 1 (dX9_builtIn 2 rfl rfl) rfl rfl rfl ?_
  refine x_inv (pc' := 8) (ν := mX4_spelled) (av := [_]) (st := [_, _]) rfl rfl (dX9_builtIn 3 rfl rfl) (Nat.le_of_ble_eq_true rfl) wX4_spelled q214 (inv_S (dX9_builtIn 3 rfl rfl) q912 q378 q214 wX4_spelled (by decide) lX4_spelled) (exN (by decide)) rfl ?_
  refine C.mono hf (fun _ _ => KJ.g (fun y8 h6 hf le7 => ?_))
  have k5 := leK le7 k5 (by decide)
  replace s4 := s4.le sc4 (le7)
  refine x_lconst (pc' := 9) (v := 0) (dX9_builtIn 4 rfl rfl) (by decide) rfl ?_
  refine x_inv (pc' := 12) (ν := mX14_init) (av := [_, _, _]) (st := [_]) rfl rfl (dX9_builtIn 5 rfl rfl) (Nat.le_of_ble_eq_true rfl) wX14_init q228 (inv_I (dX9_builtIn 5 rfl rfl) q913 q914 q915 rfl (by decide) lX14_init) (fun b hb => by exact Or.inl (by have e : some _ = some b := hb; cases e; simp)) rfl ?_
  refine C.mono hf (fun _ _ => KV.g (fun h9 hf le10 => ?_))
  replace s4 := s4.leX sc4 le10 k5 (by decide)
  have k5 := leK le10 k5 (by decide)
  refine x_astore (pc' := 14) (dX9_builtIn 6 rfl rfl) (by decide) rfl rfl ?_
  refine x_aload (pc' := 16) 0 (dX9_builtIn 7 rfl rfl) rfl rfl ?_
  refine x_iconst (pc' := 17) (v := -1) (dX9_builtIn 8 rfl rfl) (by decide) rfl ?_
  refine x_putI (pc' := 20) (dX9_builtIn 9 rfl rfl) g129 q928 (Or.inl rfl) (Or.inl rfl) (Or.inl (by decide)) rfl (hf_of 12 k5 rfl (by decide) m12_129) (fun h11 e18 => ?_)
  replace hf := hf h11 e18
  replace k5 : hK h11 q1 = 13 := by rw [e18]; exact k5
  replace s4 : So 4 (gW G) h11 := by rw [e18]; exact s4.le sc4 (pI_le (Or.inl rfl))
  refine x_aload (pc' := 22) 0 (dX9_builtIn 10 rfl rfl) rfl rfl ?_
  refine x_iload_n (pc' := 23) 3 (dX9_builtIn 11 rfl rfl) rfl rfl rfl ?_
  refine x_putI (pc' := 26) (dX9_builtIn 12 rfl rfl) g131 q935 (Or.inl rfl) (Or.inl rfl) (Or.inl (by decide)) rfl (hf_of 12 k5 rfl (by decide) m12_131) (fun h12 e17 => ?_)
  replace hf := hf h12 e17
  replace k5 : hK h12 q1 = 13 := by rw [e17]; exact k5
  replace s4 : So 4 (gW G) h12 := by rw [e17]; exact s4.le sc4 (pI_le (Or.inl rfl))
  refine x_aload (pc' := 28) 0 (dX9_builtIn 13 rfl rfl) rfl rfl ?_
  refine x_aload_n (pc' := 29) 4 (dX9_builtIn 14 rfl rfl) rfl rfl rfl ?_
  refine x_putR (pc' := 32) (dX9_builtIn 15 rfl rfl) g130 q932 (Or.inl rfl) (Or.inl rfl) (Or.inl (by decide)) rfl (hf_of 12 k5 rfl (by decide) m12_130) (fun h13 e16 => ?_)
  replace hf := hf h13 e16
  replace k5 : hK h13 q1 = 13 := by rw [e16]; exact k5
  replace s4 : So 4 (gW G) h13 := by rw [e16]; exact s4.le sc4 (pR_le (Or.inl rfl))
  refine x_aload_n (pc' := 33) 1 (dX9_builtIn 16 rfl rfl) rfl rfl rfl ?_
  refine x_getR (pc' := 36) (dX9_builtIn 17 rfl rfl) g88 q699 (Or.inl rfl) rfl (hf_of 7 s4.1 rfl (by decide) m7_88) (s4.2 5 _ rfl rfl).1 ?_
  refine x_aload (pc' := 38) 0 (dX9_builtIn 18 rfl rfl) rfl rfl ?_
  refine x_inv (pc' := 41) (ν := mX7_add) (av := [_, _]) (st := []) rfl rfl (dX9_builtIn 19 rfl rfl) (Nat.le_of_ble_eq_true rfl) wX7_add q221 (inv_V (k := 5) (dX9_builtIn 19 rfl rfl) q953 q590 q591 wX7_add (by decide) lX7_add (by decide) (s4.2 5 _ rfl rfl).2.1) (exN (by decide)) rfl ?_
  refine C.mono hf (fun _ _ => KV.g (fun h14 hf le15 => ?_))
  have k5 := leK le15 k5 (by decide)
  replace s4 := s4.le sc4 (le15)
  exact x_vret (dX9_builtIn 20 rfl rfl) rfl hf
theorem bX9_clear (G : Gh) (d : Nat) (h : AH) (Q : Outcome → AH → Prop)  (s4 : So 4 (gW G) h) (hf : ∀ h1, h1 = pI h (gW G 1087) 78 0 → (∀ h2, h2 = pI h1 (gW G 1085) 78 0 → (∀ h3, h3 = pI h2 (gW G 1086) 78 0 → (Q (.returned none) h3)))) : C G mX9_clear d [.ref (gW G 4)] h Q := by
  refine C.of_X (by decide +kernel) (Nat.le_of_ble_eq_true rfl) wX9_clear ?_
  show X G mX9_clear d none [] 0 [(0, .ref (gW G 4))] [] h Q
  refine x_aload_n (pc' := 1) 0 (dX9_clear 0 rfl rfl) rfl rfl rfl ?_
  refine x_getR (pc' := 4) (dX9_clear 1 rfl rfl) g87 q697 (Or.inl rfl) rfl (hf_of 7 s4.1 rfl (by decide) m7_87) (s4.2 4 _ rfl rfl).1 ?_
  refine x_iconst (pc' := 5) (v := 0) (dX9_clear 2 rfl rfl) (by decide) rfl ?_
  refine x_putI (pc' := 8) (dX9_clear 3 rfl rfl) g78 q575 (Or.inl rfl) (Or.inl rfl) (Or.inl (by decide)) rfl (hf_of 5 (s4.2 4 _ rfl rfl).2.1 rfl (by decide) m5_78) (fun h1 e6 => ?_)
  replace hf := hf h1 e6
  replace s4 : So 4 (gW G) h1 := by rw [e6]; exact s4.le sc4 (pI_le (Or.inl rfl))
  refine x_aload_n (pc' := 9) 0 (dX9_clear 4 rfl rfl) rfl rfl rfl ?_
  refine x_getR (pc' := 12) (dX9_clear 5 rfl rfl) g85 q695 (Or.inl rfl) rfl (hf_of 7 s4.1 rfl (by decide) m7_85) (s4.2 2 _ rfl rfl).1 ?_
  refine x_iconst (pc' := 13) (v := 0) (dX9_clear 6 rfl rfl) (by decide) rfl ?_
  refine x_putI (pc' := 16) (dX9_clear 7 rfl rfl) g78 q575 (Or.inl rfl) (Or.inl rfl) (Or.inl (by decide)) rfl (hf_of 5 (s4.2 2 _ rfl rfl).2.1 rfl (by decide) m5_78) (fun h2 e5 => ?_)
  replace hf := hf h2 e5
  replace s4 : So 4 (gW G) h2 := by rw [e5]; exact s4.le sc4 (pI_le (Or.inl rfl))
  refine x_aload_n (pc' := 17) 0 (dX9_clear 8 rfl rfl) rfl rfl rfl ?_
  refine x_getR (pc' := 20) (dX9_clear 9 rfl rfl) g86 q696 (Or.inl rfl) rfl (hf_of 7 s4.1 rfl (by decide) m7_86) (s4.2 3 _ rfl rfl).1 ?_
  refine x_iconst (pc' := 21) (v := 0) (dX9_clear 10 rfl rfl) (by decide) rfl ?_
  refine x_putI (pc' := 24) (dX9_clear 11 rfl rfl) g78 q575 (Or.inl rfl) (Or.inl rfl) (Or.inl (by decide)) rfl (hf_of 5 (s4.2 3 _ rfl rfl).2.1 rfl (by decide) m5_78) (fun h3 e4 => ?_)
  replace hf := hf h3 e4
  replace s4 : So 4 (gW G) h3 := by rw [e4]; exact s4.le sc4 (pI_le (Or.inl rfl))
  exact x_vret (dX9_clear 12 rfl rfl) rfl hf
theorem bX9_begin (G : Gh) (d : Nat) (h : AH) (Q : Outcome → AH → Prop)  (s3 : So 3 (gW G) h) (s4 : So 4 (gW G) h) (hf : ∀ h1, h1 = pI h (gW G 4) 83 0 → (∀ h2, h2 = pI h1 (gW G 4) 84 0 → (∀ h3, h3 = pI h2 (gW G 4) 91 0 → (∀ h4, h4 = pI h3 (gW G 4) 94 (fI h3 (gW G 1085) 78) → (∀ h5, h5 = pI h4 (gW G 4) 93 (fI h4 (gW G 1086) 78) → (∀ h6, h6 = pI h5 (gW G 4) 90 (fI h5 (gW G 1059) 78) → (Q (.returned none) h6))))))) : C G mX9_begin d [.ref (gW G 4)] h Q := by
  refine C.of_X (by decide +kernel) (Nat.le_of_ble_eq_true rfl) wX9_begin ?_
  show X G mX9_begin d none [] 0 [(0, .ref (gW G 4))] [] h Q
  refine x_aload_n (pc' := 1) 0 (dX9_begin 0 rfl rfl) rfl rfl rfl ?_
  refine x_iconst (pc' := 2) (v := 0) (dX9_begin 1 rfl rfl) (by decide) rfl ?_
  refine x_putI (pc' := 5) (dX9_begin 2 rfl rfl) g83 q690 (Or.inl rfl) (Or.inl rfl) (Or.inl (by decide)) rfl (hf_of 7 s4.1 rfl (by decide) m7_83) (fun h1 e12 => ?_)
  replace hf := hf h1 e12
  replace s3 : So 3 (gW G) h1 := by rw [e12]; exact s3.le sc3 (pI_le (Or.inl rfl))
  replace s4 : So 4 (gW G) h1 := by rw [e12]; exact s4.le sc4 (pI_le (Or.inl rfl))
  refine x_aload_n (pc' := 6) 0 (dX9_begin 3 rfl rfl) rfl rfl rfl ?_
  refine x_iconst (pc' := 7) (v := 0) (dX9_begin 4 rfl rfl) (by decide) rfl ?_
  refine x_putI (pc' := 10) (dX9_begin 5 rfl rfl) g84 q693 (Or.inl rfl) (Or.inl rfl) (Or.inl (by decide)) rfl (hf_of 7 s4.1 rfl (by decide) m7_84) (fun h2 e11 => ?_)
  replace hf := hf h2 e11
  replace s3 : So 3 (gW G) h2 := by rw [e11]; exact s3.le sc3 (pI_le (Or.inl rfl))
  replace s4 : So 4 (gW G) h2 := by rw [e11]; exact s4.le sc4 (pI_le (Or.inl rfl))
  refine x_aload_n (pc' := 11) 0 (dX9_begin 6 rfl rfl) rfl rfl rfl ?_
  refine x_iconst (pc' := 12) (v := 0) (dX9_begin 7 rfl rfl) (by decide) rfl ?_
  refine x_putI (pc' := 15) (dX9_begin 8 rfl rfl) g91 q702 (Or.inl rfl) (Or.inl rfl) (Or.inl (by decide)) rfl (hf_of 7 s4.1 rfl (by decide) m7_91) (fun h3 e10 => ?_)
  replace hf := hf h3 e10
  replace s3 : So 3 (gW G) h3 := by rw [e10]; exact s3.le sc3 (pI_le (Or.inl rfl))
  replace s4 : So 4 (gW G) h3 := by rw [e10]; exact s4.le sc4 (pI_le (Or.inl rfl))
  refine x_aload_n (pc' := 16) 0 (dX9_begin 9 rfl rfl) rfl rfl rfl ?_
  refine x_aload_n (pc' := 17) 0 (dX9_begin 10 rfl rfl) rfl rfl rfl ?_
  refine x_getR (pc' := 20) (dX9_begin 11 rfl rfl) g85 q695 (Or.inl rfl) rfl (hf_of 7 s4.1 rfl (by decide) m7_85) (s4.2 2 _ rfl rfl).1 ?_
  refine x_getI (pc' := 23) (dX9_begin 12 rfl rfl) g78 q575 (Or.inl rfl) rfl (hf_of 5 (s4.2 2 _ rfl rfl).2.1 rfl (by decide) m5_78) ?_
  refine x_putI (pc' := 26) (dX9_begin 13 rfl rfl) g94 q708 (Or.inl rfl) (Or.inl rfl) (Or.inl (by decide)) rfl (hf_of 7 s4.1 rfl (by decide) m7_94) (fun h4 e9 => ?_)
  replace hf := hf h4 e9
  replace s3 : So 3 (gW G) h4 := by rw [e9]; exact s3.le sc3 (pI_le (Or.inl rfl))
  replace s4 : So 4 (gW G) h4 := by rw [e9]; exact s4.le sc4 (pI_le (Or.inl rfl))
  refine x_aload_n (pc' := 27) 0 (dX9_begin 14 rfl rfl) rfl rfl rfl ?_
  refine x_aload_n (pc' := 28) 0 (dX9_begin 15 rfl rfl) rfl rfl rfl ?_
  refine x_getR (pc' := 31) (dX9_begin 16 rfl rfl) g86 q696 (Or.inl rfl) rfl (hf_of 7 s4.1 rfl (by decide) m7_86) (s4.2 3 _ rfl rfl).1 ?_
  refine x_getI (pc' := 34) (dX9_begin 17 rfl rfl) g78 q575 (Or.inl rfl) rfl (hf_of 5 (s4.2 3 _ rfl rfl).2.1 rfl (by decide) m5_78) ?_
  refine x_putI (pc' := 37) (dX9_begin 18 rfl rfl) g93 q706 (Or.inl rfl) (Or.inl rfl) (Or.inl (by decide)) rfl (hf_of 7 s4.1 rfl (by decide) m7_93) (fun h5 e8 => ?_)
  replace hf := hf h5 e8
  replace s3 : So 3 (gW G) h5 := by rw [e8]; exact s3.le sc3 (pI_le (Or.inl rfl))
  replace s4 : So 4 (gW G) h5 := by rw [e8]; exact s4.le sc4 (pI_le (Or.inl rfl))
  refine x_aload_n (pc' := 38) 0 (dX9_begin 19 rfl rfl) rfl rfl rfl ?_
  refine x_aload_n (pc' := 39) 0 (dX9_begin 20 rfl rfl) rfl rfl rfl ?_
  refine x_getR (pc' := 42) (dX9_begin 21 rfl rfl) g89 q700 (Or.inl rfl) rfl (hf_of 7 s4.1 rfl (by decide) m7_89) (s4.2 6 _ rfl rfl).1 ?_
  refine x_getI (pc' := 45) (dX9_begin 22 rfl rfl) g78 q575 (Or.inl rfl) rfl (hf_of 5 (s3.2 3 _ rfl rfl).2.1 rfl (by decide) m5_78) ?_
  refine x_putI (pc' := 48) (dX9_begin 23 rfl rfl) g90 q701 (Or.inl rfl) (Or.inl rfl) (Or.inl (by decide)) rfl (hf_of 7 s4.1 rfl (by decide) m7_90) (fun h6 e7 => ?_)
  replace hf := hf h6 e7
  replace s3 : So 3 (gW G) h6 := by rw [e7]; exact s3.le sc3 (pI_le (Or.inl rfl))
  replace s4 : So 4 (gW G) h6 := by rw [e7]; exact s4.le sc4 (pI_le (Or.inl rfl))
  exact x_vret (dX9_begin 24 rfl rfl) rfl hf
theorem bX9_namesMany (G : Gh) (d : Nat) (h : AH) (Q : Outcome → AH → Prop)  (s4 : So 4 (gW G) h) (hf : Q (.returned (some (.int (fI h (gW G 1085) 78)))) h) : C G mX9_namesMany d [.ref (gW G 4)] h Q := by
  refine C.of_X (by decide +kernel) (Nat.le_of_ble_eq_true rfl) wX9_namesMany ?_
  show X G mX9_namesMany d none [] 0 [(0, .ref (gW G 4))] [] h Q
  refine x_aload_n (pc' := 1) 0 (dX9_namesMany 0 rfl rfl) rfl rfl rfl ?_
  refine x_getR (pc' := 4) (dX9_namesMany 1 rfl rfl) g85 q695 (Or.inl rfl) rfl (hf_of 7 s4.1 rfl (by decide) m7_85) (s4.2 2 _ rfl rfl).1 ?_
  refine x_getI (pc' := 7) (dX9_namesMany 2 rfl rfl) g78 q575 (Or.inl rfl) rfl (hf_of 5 (s4.2 2 _ rfl rfl).2.1 rfl (by decide) m5_78) ?_
  exact x_iret (dX9_namesMany 3 rfl rfl) rfl hf
theorem bX9_consMany (G : Gh) (d : Nat) (h : AH) (Q : Outcome → AH → Prop)  (s4 : So 4 (gW G) h) (hf : Q (.returned (some (.int (fI h (gW G 1086) 78)))) h) : C G mX9_consMany d [.ref (gW G 4)] h Q := by
  refine C.of_X (by decide +kernel) (Nat.le_of_ble_eq_true rfl) wX9_consMany ?_
  show X G mX9_consMany d none [] 0 [(0, .ref (gW G 4))] [] h Q
  refine x_aload_n (pc' := 1) 0 (dX9_consMany 0 rfl rfl) rfl rfl rfl ?_
  refine x_getR (pc' := 4) (dX9_consMany 1 rfl rfl) g86 q696 (Or.inl rfl) rfl (hf_of 7 s4.1 rfl (by decide) m7_86) (s4.2 3 _ rfl rfl).1 ?_
  refine x_getI (pc' := 7) (dX9_consMany 2 rfl rfl) g78 q575 (Or.inl rfl) rfl (hf_of 5 (s4.2 3 _ rfl rfl).2.1 rfl (by decide) m5_78) ?_
  exact x_iret (dX9_consMany 3 rfl rfl) rfl hf
theorem bX9_isTwice (G : Gh) (d : Nat) (h : AH) (Q : Outcome → AH → Prop) (p1 : Int32) (p2 : Int32) (s1 : So 1 (gW G) h) (s4 : So 4 (gW G) h) (hf : vp_in p2 4098 ∧ (vp_in p2 4098 ∧ (C G mX9_is d [.ref (gW G 4), .long (aJ h (gW G 1026) p2.toNatClampNeg), .long (aJ h (gW G 1027) p2.toNatClampNeg), .int (p1)] h (KI Q (fun x5 h3 => (x5 = 0 ∨ x5 = 1) ∧ Q (.returned (some (.int x5))) h3))))) : C G mX9_isTwice (d + 1) [.ref (gW G 4), .int (p1), .int (p2)] h Q := by
  refine C.of_X (by decide +kernel) (Nat.le_of_ble_eq_true rfl) wX9_isTwice ?_
  show X G mX9_isTwice (d + 1) none [] 0 [(0, .ref (gW G 4)), (1, .int (p1)), (2, .int (p2))] [] h Q
  refine x_aload_n (pc' := 1) 0 (dX9_isTwice 0 rfl rfl) rfl rfl rfl ?_
  refine x_aload_n (pc' := 2) 0 (dX9_isTwice 1 rfl rfl) rfl rfl rfl ?_
  refine x_getR (pc' := 5) (dX9_isTwice 2 rfl rfl) g80 q684 (Or.inl rfl) rfl (hf_of 7 s4.1 rfl (by decide) m7_80) (s4.2 0 _ rfl rfl).1 ?_
  refine x_getR (pc' := 8) (dX9_isTwice 3 rfl rfl) g26 q333 (Or.inl rfl) rfl (hf_of 1 s1.1 rfl (by decide) m1_26) (s1.2 4 _ rfl rfl).1 ?_
  refine x_iload_n (pc' := 9) 2 (dX9_isTwice 4 rfl rfl) rfl rfl rfl ?_
  obtain ⟨i1, hf⟩ := hf
  refine x_lald (pc' := 10) (dX9_isTwice 5 rfl rfl) rfl (s1.2 4 _ rfl rfl).2.1 (by rw [(s1.2 4 _ rfl rfl).2.2.2 (by decide)]; exact i1) ?_
  refine x_aload_n (pc' := 11) 0 (dX9_isTwice 6 rfl rfl) rfl rfl rfl ?_
  refine x_getR (pc' := 14) (dX9_isTwice 7 rfl rfl) g80 q684 (Or.inl rfl) rfl (hf_of 7 s4.1 rfl (by decide) m7_80) (s4.2 0 _ rfl rfl).1 ?_
  refine x_getR (pc' := 17) (dX9_isTwice 8 rfl rfl) g27 q336 (Or.inl rfl) rfl (hf_of 1 s1.1 rfl (by decide) m1_27) (s1.2 5 _ rfl rfl).1 ?_
  refine x_iload_n (pc' := 18) 2 (dX9_isTwice 9 rfl rfl) rfl rfl rfl ?_
  obtain ⟨i2, hf⟩ := hf
  refine x_lald (pc' := 19) (dX9_isTwice 10 rfl rfl) rfl (s1.2 5 _ rfl rfl).2.1 (by rw [(s1.2 5 _ rfl rfl).2.2.2 (by decide)]; exact i2) ?_
  refine x_iload_n (pc' := 20) 1 (dX9_isTwice 11 rfl rfl) rfl rfl rfl ?_
  refine x_inv (pc' := 23) (ν := mX9_is) (av := [_, _, _, _]) (st := []) rfl rfl (dX9_isTwice 12 rfl rfl) (Nat.le_of_ble_eq_true rfl) wX9_is q223 (inv_V (k := 7) (dX9_isTwice 12 rfl rfl) q2056 q2058 qs36 wX9_is (by decide) lX9_is (by decide) s4.1) (exN (by decide)) rfl ?_
  refine C.mono hf (fun _ _ => KI.g (fun x5 h3 hf le4 => ?_))
  replace s1 := s1.le sc1 (le4)
  replace s4 := s4.le sc4 (le4)
  obtain ⟨z0, hf⟩ := hf
  exact x_zret (ty := .boolean) (dX9_isTwice 13 rfl rfl) rfl (nar_z z0) hf
theorem bX9_is (G : Gh) (d : Nat) (h : AH) (Q : Outcome → AH → Prop) (p1 : Int64) (p3 : Int64) (p5 : Int32) (s1 : So 1 (gW G) h) (s4 : So 4 (gW G) h) (hf : vp_in p5 4098 ∧ (((lg_cmp p1 (aJ h (gW G 1026) p5.toNatClampNeg)) = 0 → (vp_in p5 4098 ∧ (((lg_cmp p3 (aJ h (gW G 1027) p5.toNatClampNeg)) = 0 → (Q (.returned (some (.int 1))) h)) ∧ (¬ ((lg_cmp p3 (aJ h (gW G 1027) p5.toNatClampNeg)) = 0) → (Q (.returned (some (.int 0))) h))))) ∧ (¬ ((lg_cmp p1 (aJ h (gW G 1026) p5.toNatClampNeg)) = 0) → (Q (.returned (some (.int 0))) h)))) : C G mX9_is d [.ref (gW G 4), .long (p1), .long (p3), .int (p5)] h Q := by
  refine C.of_X (by decide +kernel) (Nat.le_of_ble_eq_true rfl) wX9_is ?_
  show X G mX9_is d none [] 0 [(0, .ref (gW G 4)), (1, .long (p1)), (3, .long (p3)), (5, .int (p5))] [] h Q
  refine x_lload_n (pc' := 1) 1 (dX9_is 0 rfl rfl) rfl rfl rfl ?_
  refine x_aload_n (pc' := 2) 0 (dX9_is 1 rfl rfl) rfl rfl rfl ?_
  refine x_getR (pc' := 5) (dX9_is 2 rfl rfl) g80 q684 (Or.inl rfl) rfl (hf_of 7 s4.1 rfl (by decide) m7_80) (s4.2 0 _ rfl rfl).1 ?_
  refine x_getR (pc' := 8) (dX9_is 3 rfl rfl) g26 q333 (Or.inl rfl) rfl (hf_of 1 s1.1 rfl (by decide) m1_26) (s1.2 4 _ rfl rfl).1 ?_
  refine x_iload (pc' := 10) 3 (dX9_is 4 rfl rfl) rfl rfl ?_
  obtain ⟨i1, hf⟩ := hf
  refine x_lald (pc' := 11) (dX9_is 5 rfl rfl) rfl (s1.2 4 _ rfl rfl).2.1 (by rw [(s1.2 4 _ rfl rfl).2.2.2 (by decide)]; exact i1) ?_
  refine x_lcmp (pc' := 12) (dX9_is 6 rfl rfl) rfl ?_
  refine x_if_ne (pc' := 15) (tgt := 34) (dX9_is 7 rfl rfl) (by decide) rfl (fun c2 => ?_) (fun c2 => ?_)
  · replace hf := hf.2 c2
    refine x_iconst (pc' := 35) (v := 0) (dX9_is 18 rfl rfl) (by decide) rfl ?_
    exact x_zret (ty := .boolean) (dX9_is 19 rfl rfl) rfl (by decide) hf
  · replace hf := hf.1 (Classical.not_not.mp c2)
    replace c2 := Classical.not_not.mp c2
    refine x_lload_n (pc' := 16) 2 (dX9_is 8 rfl rfl) rfl rfl rfl ?_
    refine x_aload_n (pc' := 17) 0 (dX9_is 9 rfl rfl) rfl rfl rfl ?_
    refine x_getR (pc' := 20) (dX9_is 10 rfl rfl) g80 q684 (Or.inl rfl) rfl (hf_of 7 s4.1 rfl (by decide) m7_80) (s4.2 0 _ rfl rfl).1 ?_
    refine x_getR (pc' := 23) (dX9_is 11 rfl rfl) g27 q336 (Or.inl rfl) rfl (hf_of 1 s1.1 rfl (by decide) m1_27) (s1.2 5 _ rfl rfl).1 ?_
    refine x_iload (pc' := 25) 3 (dX9_is 12 rfl rfl) rfl rfl ?_
    obtain ⟨i3, hf⟩ := hf
    refine x_lald (pc' := 26) (dX9_is 13 rfl rfl) rfl (s1.2 5 _ rfl rfl).2.1 (by rw [(s1.2 5 _ rfl rfl).2.2.2 (by decide)]; exact i3) ?_
    refine x_lcmp (pc' := 27) (dX9_is 14 rfl rfl) rfl ?_
    refine x_if_ne (pc' := 30) (tgt := 34) (dX9_is 15 rfl rfl) (by decide) rfl (fun c4 => ?_) (fun c4 => ?_)
    · replace hf := hf.2 c4
      refine x_iconst (pc' := 35) (v := 0) (dX9_is 18 rfl rfl) (by decide) rfl ?_
      exact x_zret (ty := .boolean) (dX9_is 19 rfl rfl) rfl (by decide) hf
    · replace hf := hf.1 (Classical.not_not.mp c4)
      replace c4 := Classical.not_not.mp c4
      refine x_iconst (pc' := 31) (v := 1) (dX9_is 16 rfl rfl) (by decide) rfl ?_
      refine x_goto (tgt := 35) (dX9_is 17 rfl rfl) (by decide) ?_
      exact x_zret (ty := .boolean) (dX9_is 19 rfl rfl) rfl (by decide) hf
theorem bX9_found (G : Gh) (d : Nat) (h : AH) (Q : Outcome → AH → Prop) (p1 : Int32) (p2 : Int32) (s1 : So 1 (gW G) h) (s4 : So 4 (gW G) h) (hf : vp_in p2 4098 ∧ (∀ x2 : Int32, x2 = aI h (gW G 1025) p2.toNatClampNeg → (((fI h (gW G 4) 91) = 0 → (∀ h4, h4 = pI h (gW G 4) 91 p1 → (∀ h5, h5 = pI h4 (gW G 4) 92 x2 → (Q (.returned none) h5)))) ∧ (¬ ((fI h (gW G 4) 91) = 0) → (((fI h (gW G 4) 92) < x2 → (Q (.returned none) h)) ∧ (¬ ((fI h (gW G 4) 92) < x2) → (((fI h (gW G 4) 92) = x2 → ((p1 < (fI h (gW G 4) 91) → (∀ h15, h15 = pI h (gW G 4) 91 p1 → (∀ h16, h16 = pI h15 (gW G 4) 92 x2 → (Q (.returned none) h16)))) ∧ (¬ (p1 < (fI h (gW G 4) 91)) → (Q (.returned none) h)))) ∧ (¬ ((fI h (gW G 4) 92) = x2) → (∀ h10, h10 = pI h (gW G 4) 91 p1 → (∀ h11, h11 = pI h10 (gW G 4) 92 x2 → (Q (.returned none) h11))))))))))) : C G mX9_found d [.ref (gW G 4), .int (p1), .int (p2)] h Q := by
  refine C.of_X (by decide +kernel) (Nat.le_of_ble_eq_true rfl) wX9_found ?_
  show X G mX9_found d none [] 0 [(0, .ref (gW G 4)), (1, .int (p1)), (2, .int (p2))] [] h Q
  refine x_aload_n (pc' := 1) 0 (dX9_found 0 rfl rfl) rfl rfl rfl ?_
  refine x_getR (pc' := 4) (dX9_found 1 rfl rfl) g80 q684 (Or.inl rfl) rfl (hf_of 7 s4.1 rfl (by decide) m7_80) (s4.2 0 _ rfl rfl).1 ?_
  refine x_getR (pc' := 7) (dX9_found 2 rfl rfl) g25 q329 (Or.inl rfl) rfl (hf_of 1 s1.1 rfl (by decide) m1_25) (s1.2 3 _ rfl rfl).1 ?_
  refine x_iload_n (pc' := 8) 2 (dX9_found 3 rfl rfl) rfl rfl rfl ?_
  obtain ⟨i1, hf⟩ := hf
  refine x_iald (pc' := 9) (dX9_found 4 rfl rfl) rfl (s1.2 3 _ rfl rfl).2.1 (by rw [(s1.2 3 _ rfl rfl).2.2.2 (by decide)]; exact i1) ?_
  replace hf := hf _ rfl
  refine x_istore_n (pc' := 10) (dX9_found 5 rfl rfl) rfl (by decide) rfl rfl ?_
  refine x_aload_n (pc' := 11) 1 (dX9_found 6 rfl rfl) rfl rfl rfl ?_
  refine x_getI (pc' := 14) (dX9_found 7 rfl rfl) g91 q702 (Or.inl rfl) rfl (hf_of 7 s4.1 rfl (by decide) m7_91) ?_
  refine x_if_eq (pc' := 17) (tgt := 42) (dX9_found 8 rfl rfl) (by decide) rfl (fun c3 => ?_) (fun c3 => ?_)
  · replace hf := hf.1 c3
    refine x_aload_n (pc' := 43) 1 (dX9_found 22 rfl rfl) rfl rfl rfl ?_
    refine x_iload_n (pc' := 44) 2 (dX9_found 23 rfl rfl) rfl rfl rfl ?_
    refine x_putI (pc' := 47) (dX9_found 24 rfl rfl) g91 q702 (Or.inl rfl) (Or.inl rfl) (Or.inl (by decide)) rfl (hf_of 7 s4.1 rfl (by decide) m7_91) (fun h4 e7 => ?_)
    replace hf := hf h4 e7
    replace s1 : So 1 (gW G) h4 := by rw [e7]; exact s1.le sc1 (pI_le (Or.inl rfl))
    replace s4 : So 4 (gW G) h4 := by rw [e7]; exact s4.le sc4 (pI_le (Or.inl rfl))
    refine x_aload_n (pc' := 48) 1 (dX9_found 25 rfl rfl) rfl rfl rfl ?_
    refine x_iload_n (pc' := 49) 0 (dX9_found 26 rfl rfl) rfl rfl rfl ?_
    refine x_putI (pc' := 52) (dX9_found 27 rfl rfl) g92 q704 (Or.inl rfl) (Or.inl rfl) (Or.inl (by decide)) rfl (hf_of 7 s4.1 rfl (by decide) m7_92) (fun h5 e6 => ?_)
    replace hf := hf h5 e6
    replace s1 : So 1 (gW G) h5 := by rw [e6]; exact s1.le sc1 (pI_le (Or.inl rfl))
    replace s4 : So 4 (gW G) h5 := by rw [e6]; exact s4.le sc4 (pI_le (Or.inl rfl))
    exact x_vret (dX9_found 28 rfl rfl) rfl hf
  · replace hf := hf.2 c3
    refine x_aload_n (pc' := 18) 1 (dX9_found 9 rfl rfl) rfl rfl rfl ?_
    refine x_getI (pc' := 21) (dX9_found 10 rfl rfl) g92 q704 (Or.inl rfl) rfl (hf_of 7 s4.1 rfl (by decide) m7_92) ?_
    refine x_iload_n (pc' := 22) 0 (dX9_found 11 rfl rfl) rfl rfl rfl ?_
    refine x_icmp_lt (pc' := 25) (tgt := 41) (dX9_found 12 rfl rfl) (by decide) rfl (fun c8 => ?_) (fun c8 => ?_)
    · replace hf := hf.1 c8
      exact x_vret (dX9_found 21 rfl rfl) rfl hf
    · replace hf := hf.2 c8
      refine x_aload_n (pc' := 26) 1 (dX9_found 13 rfl rfl) rfl rfl rfl ?_
      refine x_getI (pc' := 29) (dX9_found 14 rfl rfl) g92 q704 (Or.inl rfl) rfl (hf_of 7 s4.1 rfl (by decide) m7_92) ?_
      refine x_iload_n (pc' := 30) 0 (dX9_found 15 rfl rfl) rfl rfl rfl ?_
      refine x_icmp_ne (pc' := 33) (tgt := 42) (dX9_found 16 rfl rfl) (by decide) rfl (fun c9 => ?_) (fun c9 => ?_)
      · replace hf := hf.2 c9
        refine x_aload_n (pc' := 43) 1 (dX9_found 22 rfl rfl) rfl rfl rfl ?_
        refine x_iload_n (pc' := 44) 2 (dX9_found 23 rfl rfl) rfl rfl rfl ?_
        refine x_putI (pc' := 47) (dX9_found 24 rfl rfl) g91 q702 (Or.inl rfl) (Or.inl rfl) (Or.inl (by decide)) rfl (hf_of 7 s4.1 rfl (by decide) m7_91) (fun h10 e13 => ?_)
        replace hf := hf h10 e13
        replace s1 : So 1 (gW G) h10 := by rw [e13]; exact s1.le sc1 (pI_le (Or.inl rfl))
        replace s4 : So 4 (gW G) h10 := by rw [e13]; exact s4.le sc4 (pI_le (Or.inl rfl))
        refine x_aload_n (pc' := 48) 1 (dX9_found 25 rfl rfl) rfl rfl rfl ?_
        refine x_iload_n (pc' := 49) 0 (dX9_found 26 rfl rfl) rfl rfl rfl ?_
        refine x_putI (pc' := 52) (dX9_found 27 rfl rfl) g92 q704 (Or.inl rfl) (Or.inl rfl) (Or.inl (by decide)) rfl (hf_of 7 s4.1 rfl (by decide) m7_92) (fun h11 e12 => ?_)
        replace hf := hf h11 e12
        replace s1 : So 1 (gW G) h11 := by rw [e12]; exact s1.le sc1 (pI_le (Or.inl rfl))
        replace s4 : So 4 (gW G) h11 := by rw [e12]; exact s4.le sc4 (pI_le (Or.inl rfl))
        exact x_vret (dX9_found 28 rfl rfl) rfl hf
      · replace hf := hf.1 (Classical.not_not.mp c9)
        replace c9 := Classical.not_not.mp c9
        refine x_aload_n (pc' := 34) 1 (dX9_found 17 rfl rfl) rfl rfl rfl ?_
        refine x_getI (pc' := 37) (dX9_found 18 rfl rfl) g91 q702 (Or.inl rfl) rfl (hf_of 7 s4.1 rfl (by decide) m7_91) ?_
        refine x_iload_n (pc' := 38) 2 (dX9_found 19 rfl rfl) rfl rfl rfl ?_
        refine x_icmp_gt (pc' := 41) (tgt := 42) (dX9_found 20 rfl rfl) (by decide) rfl (fun c14 => ?_) (fun c14 => ?_)
        · replace hf := hf.1 c14
          refine x_aload_n (pc' := 43) 1 (dX9_found 22 rfl rfl) rfl rfl rfl ?_
          refine x_iload_n (pc' := 44) 2 (dX9_found 23 rfl rfl) rfl rfl rfl ?_
          refine x_putI (pc' := 47) (dX9_found 24 rfl rfl) g91 q702 (Or.inl rfl) (Or.inl rfl) (Or.inl (by decide)) rfl (hf_of 7 s4.1 rfl (by decide) m7_91) (fun h15 e18 => ?_)
          replace hf := hf h15 e18
          replace s1 : So 1 (gW G) h15 := by rw [e18]; exact s1.le sc1 (pI_le (Or.inl rfl))
          replace s4 : So 4 (gW G) h15 := by rw [e18]; exact s4.le sc4 (pI_le (Or.inl rfl))
          refine x_aload_n (pc' := 48) 1 (dX9_found 25 rfl rfl) rfl rfl rfl ?_
          refine x_iload_n (pc' := 49) 0 (dX9_found 26 rfl rfl) rfl rfl rfl ?_
          refine x_putI (pc' := 52) (dX9_found 27 rfl rfl) g92 q704 (Or.inl rfl) (Or.inl rfl) (Or.inl (by decide)) rfl (hf_of 7 s4.1 rfl (by decide) m7_92) (fun h16 e17 => ?_)
          replace hf := hf h16 e17
          replace s1 : So 1 (gW G) h16 := by rw [e17]; exact s1.le sc1 (pI_le (Or.inl rfl))
          replace s4 : So 4 (gW G) h16 := by rw [e17]; exact s4.le sc4 (pI_le (Or.inl rfl))
          exact x_vret (dX9_found 28 rfl rfl) rfl hf
        · replace hf := hf.2 c14
          exact x_vret (dX9_found 21 rfl rfl) rfl hf
theorem bX9_declare (G : Gh) (d : Nat) (h : AH) (Q : Outcome → AH → Prop) (p1 : Int32) (p2 : Int32) (s1 : So 1 (gW G) h) (s2 : So 2 (gW G) h) (s4 : So 4 (gW G) h) (hf : C G mX3_isFull d [.ref (gW G 2)] h (KI Q (fun x3 h1 => (x3 = 0 ∨ x3 = 1) ∧ (∀ h4, h4 = pI h1 (gW G 4) 95 x3 → (((fI h4 (gW G 4) 95) = 0 → (vp_in p1 4098 ∧ (vp_in p1 4098 ∧ (C G mX3_add_2 d [.ref (gW G 2), .long (aJ h4 (gW G 1026) p1.toNatClampNeg), .long (aJ h4 (gW G 1027) p1.toNatClampNeg), .int (p2)] h4 (KR Q (fun b10 h8 => Q (.returned (some (.ref (b10)))) h8)))))) ∧ (¬ ((fI h4 (gW G 4) 95) = 0) → ((hc h4 + 1 ≤ MC) ∧ (hs h4 + 6 ≤ MS) ∧ ∀ q11, hK h4 q11 = 0 → ∀ h13, h13 = nO h4 q11 3 → (vp_in p1 4098 ∧ (vp_in p1 4098 ∧ (C G mX5_init d [.ref (q11), .long (aJ h13 (gW G 1026) p1.toNatClampNeg), .long (aJ h13 (gW G 1027) p1.toNatClampNeg), .int (p2), .int (0)] h13 (KV Q (fun h18 => Q (.returned (some (.ref (q11)))) h18)))))))))))) : C G mX9_declare (d + 1) [.ref (gW G 4), .int (p1), .int (p2)] h Q := by
  refine C.of_X (by decide +kernel) (Nat.le_of_ble_eq_true rfl) wX9_declare ?_
  show X G mX9_declare (d + 1) none [] 0 [(0, .ref (gW G 4)), (1, .int (p1)), (2, .int (p2))] [] h Q
  refine x_aload_n (pc' := 1) 0 (dX9_declare 0 rfl rfl) rfl rfl rfl ?_
  refine x_aload_n (pc' := 2) 0 (dX9_declare 1 rfl rfl) rfl rfl rfl ?_
  refine x_getR (pc' := 5) (dX9_declare 2 rfl rfl) g81 q685 (Or.inl rfl) rfl (hf_of 7 s4.1 rfl (by decide) m7_81) (s4.2 1 _ rfl rfl).1 ?_
  refine x_inv (pc' := 8) (ν := mX3_isFull) (av := [_]) (st := [_]) rfl rfl (dX9_declare 3 rfl rfl) (Nat.le_of_ble_eq_true rfl) wX3_isFull q213 (inv_V (k := 2) (dX9_declare 3 rfl rfl) q2068 q2069 q2070 wX3_isFull (by decide) lX3_isFull (by decide) s2.1) (exN (by decide)) rfl ?_
  refine C.mono hf (fun _ _ => KI.g (fun x3 h1 hf le2 => ?_))
  replace s1 := s1.le sc1 (le2)
  replace s2 := s2.le sc2 (le2)
  replace s4 := s4.le sc4 (le2)
  obtain ⟨z20, hf⟩ := hf
  refine x_putZ (pc' := 11) (dX9_declare 4 rfl rfl) g95 q710 (Or.inl rfl) (Or.inl rfl) (Or.inl (by decide)) rfl (hf_of 7 s4.1 rfl (by decide) m7_95) z20 (fun h4 e21 => ?_)
  replace hf := hf h4 e21
  replace s1 : So 1 (gW G) h4 := by rw [e21]; exact s1.le sc1 (pI_le (Or.inl rfl))
  replace s2 : So 2 (gW G) h4 := by rw [e21]; exact s2.le sc2 (pI_le (Or.inl rfl))
  replace s4 : So 4 (gW G) h4 := by rw [e21]; exact s4.le sc4 (pI_le (Or.inl rfl))
  refine x_aload_n (pc' := 12) 0 (dX9_declare 5 rfl rfl) rfl rfl rfl ?_
  refine x_getZ (pc' := 15) (dX9_declare 6 rfl rfl) g95 q710 (Or.inl rfl) rfl (hf_of 7 s4.1 rfl (by decide) m7_95) ?_
  refine x_if_eq (pc' := 18) (tgt := 48) (dX9_declare 7 rfl rfl) (by decide) rfl (fun c5 => ?_) (fun c5 => ?_)
  · replace hf := hf.1 c5
    refine x_aload_n (pc' := 49) 0 (dX9_declare 24 rfl rfl) rfl rfl rfl ?_
    refine x_getR (pc' := 52) (dX9_declare 25 rfl rfl) g81 q685 (Or.inl rfl) rfl (hf_of 7 s4.1 rfl (by decide) m7_81) (s4.2 1 _ rfl rfl).1 ?_
    refine x_aload_n (pc' := 53) 0 (dX9_declare 26 rfl rfl) rfl rfl rfl ?_
    refine x_getR (pc' := 56) (dX9_declare 27 rfl rfl) g80 q684 (Or.inl rfl) rfl (hf_of 7 s4.1 rfl (by decide) m7_80) (s4.2 0 _ rfl rfl).1 ?_
    refine x_getR (pc' := 59) (dX9_declare 28 rfl rfl) g26 q333 (Or.inl rfl) rfl (hf_of 1 s1.1 rfl (by decide) m1_26) (s1.2 4 _ rfl rfl).1 ?_
    refine x_iload_n (pc' := 60) 1 (dX9_declare 29 rfl rfl) rfl rfl rfl ?_
    obtain ⟨i6, hf⟩ := hf
    refine x_lald (pc' := 61) (dX9_declare 30 rfl rfl) rfl (s1.2 4 _ rfl rfl).2.1 (by rw [(s1.2 4 _ rfl rfl).2.2.2 (by decide)]; exact i6) ?_
    refine x_aload_n (pc' := 62) 0 (dX9_declare 31 rfl rfl) rfl rfl rfl ?_
    refine x_getR (pc' := 65) (dX9_declare 32 rfl rfl) g80 q684 (Or.inl rfl) rfl (hf_of 7 s4.1 rfl (by decide) m7_80) (s4.2 0 _ rfl rfl).1 ?_
    refine x_getR (pc' := 68) (dX9_declare 33 rfl rfl) g27 q336 (Or.inl rfl) rfl (hf_of 1 s1.1 rfl (by decide) m1_27) (s1.2 5 _ rfl rfl).1 ?_
    refine x_iload_n (pc' := 69) 1 (dX9_declare 34 rfl rfl) rfl rfl rfl ?_
    obtain ⟨i7, hf⟩ := hf
    refine x_lald (pc' := 70) (dX9_declare 35 rfl rfl) rfl (s1.2 5 _ rfl rfl).2.1 (by rw [(s1.2 5 _ rfl rfl).2.2.2 (by decide)]; exact i7) ?_
    refine x_iload_n (pc' := 71) 2 (dX9_declare 36 rfl rfl) rfl rfl rfl ?_
    refine x_inv (pc' := 74) (ν := mX3_add_2) (av := [_, _, _, _]) (st := []) rfl rfl (dX9_declare 37 rfl rfl) (Nat.le_of_ble_eq_true rfl) wX3_add_2 q213 (inv_V (k := 2) (dX9_declare 37 rfl rfl) q2074 q429 q430 wX3_add_2 (by decide) lX3_add_2 (by decide) s2.1) (exN (by decide)) rfl ?_
    refine C.mono hf (fun _ _ => KR.g (fun b10 h8 hf le9 => ?_))
    replace s1 := s1.le sc1 (le9)
    replace s2 := s2.le sc2 (le9)
    replace s4 := s4.le sc4 (le9)
    exact x_aret (dX9_declare 38 rfl rfl) rfl (Or.inl ⟨_, rfl⟩) (Or.inr ⟨_, rfl⟩) hf
  · replace hf := hf.2 c5
    obtain ⟨n1, n2, hf⟩ := hf
    refine x_new (pc' := 21) (k := 3) (dX9_declare 8 rfl rfl) q2072 (by decide) rfl (by decide) n1 n2 (fun q11 h13 k12 e14 => ?_)
    replace hf := hf q11 k12 h13 e14
    replace s1 : So 1 (gW G) h13 := by rw [e14]; exact s1.le sc1 (nO_le k12)
    replace s2 : So 2 (gW G) h13 := by rw [e14]; exact s2.le sc2 (nO_le k12)
    replace s4 : So 4 (gW G) h13 := by rw [e14]; exact s4.le sc4 (nO_le k12)
    have k15 : hK h13 q11 = 4 := by rw [e14]; exact kNOs
    refine x_dup (pc' := 22) (dX9_declare 9 rfl rfl) rfl rfl ?_
    refine x_aload_n (pc' := 23) 0 (dX9_declare 10 rfl rfl) rfl rfl rfl ?_
    refine x_getR (pc' := 26) (dX9_declare 11 rfl rfl) g80 q684 (Or.inl rfl) rfl (hf_of 7 s4.1 rfl (by decide) m7_80) (s4.2 0 _ rfl rfl).1 ?_
    refine x_getR (pc' := 29) (dX9_declare 12 rfl rfl) g26 q333 (Or.inl rfl) rfl (hf_of 1 s1.1 rfl (by decide) m1_26) (s1.2 4 _ rfl rfl).1 ?_
    refine x_iload_n (pc' := 30) 1 (dX9_declare 13 rfl rfl) rfl rfl rfl ?_
    obtain ⟨i16, hf⟩ := hf
    refine x_lald (pc' := 31) (dX9_declare 14 rfl rfl) rfl (s1.2 4 _ rfl rfl).2.1 (by rw [(s1.2 4 _ rfl rfl).2.2.2 (by decide)]; exact i16) ?_
    refine x_aload_n (pc' := 32) 0 (dX9_declare 15 rfl rfl) rfl rfl rfl ?_
    refine x_getR (pc' := 35) (dX9_declare 16 rfl rfl) g80 q684 (Or.inl rfl) rfl (hf_of 7 s4.1 rfl (by decide) m7_80) (s4.2 0 _ rfl rfl).1 ?_
    refine x_getR (pc' := 38) (dX9_declare 17 rfl rfl) g27 q336 (Or.inl rfl) rfl (hf_of 1 s1.1 rfl (by decide) m1_27) (s1.2 5 _ rfl rfl).1 ?_
    refine x_iload_n (pc' := 39) 1 (dX9_declare 18 rfl rfl) rfl rfl rfl ?_
    obtain ⟨i17, hf⟩ := hf
    refine x_lald (pc' := 40) (dX9_declare 19 rfl rfl) rfl (s1.2 5 _ rfl rfl).2.1 (by rw [(s1.2 5 _ rfl rfl).2.2.2 (by decide)]; exact i17) ?_
    refine x_iload_n (pc' := 41) 2 (dX9_declare 20 rfl rfl) rfl rfl rfl ?_
    refine x_iconst (pc' := 42) (v := 0) (dX9_declare 21 rfl rfl) (by decide) rfl ?_
    refine x_inv (pc' := 45) (ν := mX5_init) (av := [_, _, _, _, _]) (st := [_]) rfl rfl (dX9_declare 22 rfl rfl) (Nat.le_of_ble_eq_true rfl) wX5_init q219 (inv_I (dX9_declare 22 rfl rfl) q2073 q434 q435 rfl (by decide) lX5_init) (fun b hb => by exact Or.inl (by have e : some _ = some b := hb; cases e; simp)) rfl ?_
    refine C.mono hf (fun _ _ => KV.g (fun h18 hf le19 => ?_))
    replace s1 := s1.leX sc1 le19 k15 (by decide)
    replace s2 := s2.leX sc2 le19 k15 (by decide)
    replace s4 := s4.leX sc4 le19 k15 (by decide)
    have k15 := leK le19 k15 (by decide)
    refine x_goto (tgt := 74) (dX9_declare 23 rfl rfl) (by decide) ?_
    exact x_aret (dX9_declare 38 rfl rfl) rfl (Or.inl ⟨_, rfl⟩) (Or.inr ⟨_, rfl⟩) hf
theorem bX9_isFull (G : Gh) (d : Nat) (h : AH) (Q : Outcome → AH → Prop)  (s4 : So 4 (gW G) h) (hf : (fI h (gW G 4) 95 = 0 ∨ fI h (gW G 4) 95 = 1) ∧ Q (.returned (some (.int (fI h (gW G 4) 95)))) h) : C G mX9_isFull d [.ref (gW G 4)] h Q := by
  refine C.of_X (by decide +kernel) (Nat.le_of_ble_eq_true rfl) wX9_isFull ?_
  show X G mX9_isFull d none [] 0 [(0, .ref (gW G 4))] [] h Q
  refine x_aload_n (pc' := 1) 0 (dX9_isFull 0 rfl rfl) rfl rfl rfl ?_
  refine x_getZ (pc' := 4) (dX9_isFull 1 rfl rfl) g95 q710 (Or.inl rfl) rfl (hf_of 7 s4.1 rfl (by decide) m7_95) ?_
  obtain ⟨z0, hf⟩ := hf
  exact x_zret (ty := .boolean) (dX9_isFull 2 rfl rfl) rfl (nar_z z0) hf
theorem bX9_addName (G : Gh) (d : Nat) (h : AH) (Q : Outcome → AH → Prop) (p1 : Nat) (s4 : So 4 (gW G) h) (hf : C G mX7_add d [.ref (gW G 1085), .ref (p1)] h (KV Q (fun h1 => Q (.returned none) h1))) : C G mX9_addName (d + 1) [.ref (gW G 4), .ref (p1)] h Q := by
  refine C.of_X (by decide +kernel) (Nat.le_of_ble_eq_true rfl) wX9_addName ?_
  show X G mX9_addName (d + 1) none [] 0 [(0, .ref (gW G 4)), (1, .ref (p1))] [] h Q
  refine x_aload_n (pc' := 1) 0 (dX9_addName 0 rfl rfl) rfl rfl rfl ?_
  refine x_getR (pc' := 4) (dX9_addName 1 rfl rfl) g85 q695 (Or.inl rfl) rfl (hf_of 7 s4.1 rfl (by decide) m7_85) (s4.2 2 _ rfl rfl).1 ?_
  refine x_aload_n (pc' := 5) 1 (dX9_addName 2 rfl rfl) rfl rfl rfl ?_
  refine x_inv (pc' := 8) (ν := mX7_add) (av := [_, _]) (st := []) rfl rfl (dX9_addName 3 rfl rfl) (Nat.le_of_ble_eq_true rfl) wX7_add q221 (inv_V (k := 5) (dX9_addName 3 rfl rfl) q953 q590 q591 wX7_add (by decide) lX7_add (by decide) (s4.2 2 _ rfl rfl).2.1) (exN (by decide)) rfl ?_
  refine C.mono hf (fun _ _ => KV.g (fun h1 hf le2 => ?_))
  replace s4 := s4.le sc4 (le2)
  exact x_vret (dX9_addName 4 rfl rfl) rfl hf
theorem bX9_typeName (G : Gh) (d : Nat) (h : AH) (Q : Outcome → AH → Prop) (p1 : Int32) (s4 : So 4 (gW G) h) (hf : ∀ x1 : Int32, x1 = (fI h (gW G 1085) 78) - 1 → (X G mX9_typeName (d + 1) none [] 10 [(0, .ref (gW G 4)), (1, .int (p1)), (2, .int (x1))] [] h Q)) : C G mX9_typeName (d + 1) [.ref (gW G 4), .int (p1)] h Q := by
  refine C.of_X (by decide +kernel) (Nat.le_of_ble_eq_true rfl) wX9_typeName ?_
  show X G mX9_typeName (d + 1) none [] 0 [(0, .ref (gW G 4)), (1, .int (p1))] [] h Q
  refine x_aload_n (pc' := 1) 0 (dX9_typeName 0 rfl rfl) rfl rfl rfl ?_
  refine x_getR (pc' := 4) (dX9_typeName 1 rfl rfl) g85 q695 (Or.inl rfl) rfl (hf_of 7 s4.1 rfl (by decide) m7_85) (s4.2 2 _ rfl rfl).1 ?_
  refine x_getI (pc' := 7) (dX9_typeName 2 rfl rfl) g78 q575 (Or.inl rfl) rfl (hf_of 5 (s4.2 2 _ rfl rfl).2.1 rfl (by decide) m5_78) ?_
  refine x_iconst (pc' := 8) (v := 1) (dX9_typeName 3 rfl rfl) (by decide) rfl ?_
  refine x_isub (pc' := 9) (dX9_typeName 4 rfl rfl) rfl ?_
  replace hf := hf _ rfl
  refine x_istore_n (pc' := 10) (dX9_typeName 5 rfl rfl) rfl (by decide) rfl rfl ?_
  exact X.sub [1, 2, 0] rfl (by simp) hf
theorem bX9_typeName_10 (G : Gh) (d : Nat) (h : AH) (Q : Outcome → AH → Prop) (l1 : Int32) (l2 : Int32) (s4 : So 4 (gW G) h) (hf : (l2 < 0 → (X G mX9_typeName (d + 1) none [] 71 [(0, .ref (gW G 4)), (1, .int (l1)), (2, .int (7))] [] h Q)) ∧ (¬ (l2 < 0) → (C G mX7_get d [.ref (gW G 1085), .int (l2)] h (KR Q (fun b4 h2 => hK h2 b4 = 4 ∧ (C G mX7_get d [.ref (gW G 1085), .int (l2)] h2 (KR Q (fun b8 h6 => hK h6 b8 = 4 ∧ (C G mX9_is d [.ref (gW G 4), .long (fJ h2 b4 49), .long (fJ h6 b8 50), .int (l1)] h6 (KI Q (fun x12 h10 => (x12 = 0 → (∀ x14 : Int32, x14 = l2 + (-1) → (X G mX9_typeName (d + 1) none [] 10 [(0, .ref (gW G 4)), (1, .int (l1)), (2, .int (x14))] [] h10 Q))) ∧ (¬ x12 = 0 → (C G mX7_get d [.ref (gW G 1085), .int (l2)] h10 (KR Q (fun b17 h15 => hK h15 b17 = 4 ∧ (Q (.returned (some (.ref (b17)))) h15)))))))))))))))) : X G mX9_typeName (d + 1) none [] 10 [(0, .ref (gW G 4)), (1, .int (l1)), (2, .int (l2))] [] h Q := by
  refine x_iload_n (pc' := 11) 2 (dX9_typeName 6 rfl rfl) rfl rfl rfl ?_
  refine x_if_lt (pc' := 14) (tgt := 68) (dX9_typeName 7 rfl rfl) (by decide) rfl (fun c1 => ?_) (fun c1 => ?_)
  · replace hf := hf.1 c1
    refine x_bipush (pc' := 70) (v := 7) (dX9_typeName 32 rfl rfl) (by decide) rfl ?_
    refine x_istore_n (pc' := 71) (dX9_typeName 33 rfl rfl) rfl (by decide) rfl rfl ?_
    exact X.sub [1, 2, 0] rfl (by simp) hf
  · replace hf := hf.2 c1
    refine x_aload_n (pc' := 15) 0 (dX9_typeName 8 rfl rfl) rfl rfl rfl ?_
    refine x_aload_n (pc' := 16) 0 (dX9_typeName 9 rfl rfl) rfl rfl rfl ?_
    refine x_getR (pc' := 19) (dX9_typeName 10 rfl rfl) g85 q695 (Or.inl rfl) rfl (hf_of 7 s4.1 rfl (by decide) m7_85) (s4.2 2 _ rfl rfl).1 ?_
    refine x_iload_n (pc' := 20) 2 (dX9_typeName 11 rfl rfl) rfl rfl rfl ?_
    refine x_inv (pc' := 23) (ν := mX7_get) (av := [_, _]) (st := [_]) rfl rfl (dX9_typeName 12 rfl rfl) (Nat.le_of_ble_eq_true rfl) wX7_get q221 (inv_V (k := 5) (dX9_typeName 12 rfl rfl) q2105 q1414 q1415 wX7_get (by decide) lX7_get (by decide) (s4.2 2 _ rfl rfl).2.1) (exN (by decide)) rfl ?_
    refine C.mono hf (fun _ _ => KR.g (fun b4 h2 hf le3 => ?_))
    replace s4 := s4.le sc4 (le3)
    obtain ⟨k5, hf⟩ := hf
    refine x_castS (pc' := 26) (k := 3) (dX9_typeName 13 rfl rfl) q2072 (by decide) k5 rfl ?_
    refine x_getJ (pc' := 29) (dX9_typeName 14 rfl rfl) g49 q439 (Or.inl rfl) rfl (hf_of 3 k5 rfl (by decide) m3_49) ?_
    refine x_aload_n (pc' := 30) 0 (dX9_typeName 15 rfl rfl) rfl rfl rfl ?_
    refine x_getR (pc' := 33) (dX9_typeName 16 rfl rfl) g85 q695 (Or.inl rfl) rfl (hf_of 7 s4.1 rfl (by decide) m7_85) (s4.2 2 _ rfl rfl).1 ?_
    refine x_iload_n (pc' := 34) 2 (dX9_typeName 17 rfl rfl) rfl rfl rfl ?_
    refine x_inv (pc' := 37) (ν := mX7_get) (av := [_, _]) (st := [_, _]) rfl rfl (dX9_typeName 18 rfl rfl) (Nat.le_of_ble_eq_true rfl) wX7_get q221 (inv_V (k := 5) (dX9_typeName 18 rfl rfl) q2105 q1414 q1415 wX7_get (by decide) lX7_get (by decide) (s4.2 2 _ rfl rfl).2.1) (exN (by decide)) rfl ?_
    refine C.mono hf (fun _ _ => KR.g (fun b8 h6 hf le7 => ?_))
    have k5 := leK le7 k5 (by decide)
    replace s4 := s4.le sc4 (le7)
    obtain ⟨k9, hf⟩ := hf
    refine x_castS (pc' := 40) (k := 3) (dX9_typeName 19 rfl rfl) q2072 (by decide) k9 rfl ?_
    refine x_getJ (pc' := 43) (dX9_typeName 20 rfl rfl) g50 q442 (Or.inl rfl) rfl (hf_of 3 k9 rfl (by decide) m3_50) ?_
    refine x_iload_n (pc' := 44) 1 (dX9_typeName 21 rfl rfl) rfl rfl rfl ?_
    refine x_inv (pc' := 47) (ν := mX9_is) (av := [_, _, _, _]) (st := []) rfl rfl (dX9_typeName 22 rfl rfl) (Nat.le_of_ble_eq_true rfl) wX9_is q223 (inv_V (k := 7) (dX9_typeName 22 rfl rfl) q2056 q2058 qs36 wX9_is (by decide) lX9_is (by decide) s4.1) (exN (by decide)) rfl ?_
    refine C.mono hf (fun _ _ => KI.g (fun x12 h10 hf le11 => ?_))
    have k5 := leK le11 k5 (by decide)
    have k9 := leK le11 k9 (by decide)
    replace s4 := s4.le sc4 (le11)
    refine x_if_eq (pc' := 50) (tgt := 62) (dX9_typeName 23 rfl rfl) (by decide) rfl (fun c13 => ?_) (fun c13 => ?_)
    · replace hf := hf.1 c13
      replace hf := hf _ rfl
      refine x_iinc (pc' := 65) 2 (dX9_typeName 30 rfl rfl) rfl (by rfl) (by decide) rfl rfl ?_
      refine x_goto (tgt := 10) (dX9_typeName 31 rfl rfl) (by decide) ?_
      exact X.sub [1, 2, 0] rfl (by simp) hf
    · replace hf := hf.2 c13
      refine x_aload_n (pc' := 51) 0 (dX9_typeName 24 rfl rfl) rfl rfl rfl ?_
      refine x_getR (pc' := 54) (dX9_typeName 25 rfl rfl) g85 q695 (Or.inl rfl) rfl (hf_of 7 s4.1 rfl (by decide) m7_85) (s4.2 2 _ rfl rfl).1 ?_
      refine x_iload_n (pc' := 55) 2 (dX9_typeName 26 rfl rfl) rfl rfl rfl ?_
      refine x_inv (pc' := 58) (ν := mX7_get) (av := [_, _]) (st := []) rfl rfl (dX9_typeName 27 rfl rfl) (Nat.le_of_ble_eq_true rfl) wX7_get q221 (inv_V (k := 5) (dX9_typeName 27 rfl rfl) q2105 q1414 q1415 wX7_get (by decide) lX7_get (by decide) (s4.2 2 _ rfl rfl).2.1) (exN (by decide)) rfl ?_
      refine C.mono hf (fun _ _ => KR.g (fun b17 h15 hf le16 => ?_))
      have k5 := leK le16 k5 (by decide)
      have k9 := leK le16 k9 (by decide)
      replace s4 := s4.le sc4 (le16)
      obtain ⟨k18, hf⟩ := hf
      refine x_castS (pc' := 61) (k := 3) (dX9_typeName 28 rfl rfl) q2072 (by decide) k18 rfl ?_
      exact x_aret (dX9_typeName 29 rfl rfl) rfl (Or.inl ⟨_, rfl⟩) (Or.inr ⟨_, rfl⟩) hf
theorem bX9_typeName_71 (G : Gh) (d : Nat) (h : AH) (Q : Outcome → AH → Prop) (l1 : Int32) (l2 : Int32) (s2 : So 2 (gW G) h) (s4 : So 4 (gW G) h) (hf : (11 < l2 → (C G mX9_found d [.ref (gW G 4), .int (2), .int (l1)] h (KV Q (fun h2 => Q (.returned (some (.null))) h2)))) ∧ (¬ (11 < l2) → (C G mX3_name d [.ref (gW G 2), .int (l2)] h (KR Q (fun b6 h4 => hK h4 b6 = 4 ∧ (C G mX9_is d [.ref (gW G 4), .long (fJ h4 b6 49), .long (0), .int (l1)] h4 (KI Q (fun x10 h8 => (x10 = 0 → (∀ x12 : Int32, x12 = l2 + 1 → (X G mX9_typeName (d + 1) none [] 71 [(0, .ref (gW G 4)), (1, .int (l1)), (2, .int (x12))] [] h8 Q))) ∧ (¬ x10 = 0 → (C G mX3_name d [.ref (gW G 2), .int (l2)] h8 (KR Q (fun b15 h13 => Q (.returned (some (.ref (b15)))) h13)))))))))))) : X G mX9_typeName (d + 1) none [] 71 [(0, .ref (gW G 4)), (1, .int (l1)), (2, .int (l2))] [] h Q := by
  refine x_iload_n (pc' := 72) 2 (dX9_typeName 34 rfl rfl) rfl rfl rfl ?_
  refine x_bipush (pc' := 74) (v := 11) (dX9_typeName 35 rfl rfl) (by decide) rfl ?_
  refine x_icmp_gt (pc' := 77) (tgt := 112) (dX9_typeName 36 rfl rfl) (by decide) rfl (fun c1 => ?_) (fun c1 => ?_)
  · replace hf := hf.1 c1
    refine x_aload_n (pc' := 113) 0 (dX9_typeName 54 rfl rfl) rfl rfl rfl ?_
    refine x_iconst (pc' := 114) (v := 2) (dX9_typeName 55 rfl rfl) (by decide) rfl ?_
    refine x_iload_n (pc' := 115) 1 (dX9_typeName 56 rfl rfl) rfl rfl rfl ?_
    refine x_inv (pc' := 118) (ν := mX9_found) (av := [_, _, _]) (st := []) rfl rfl (dX9_typeName 57 rfl rfl) (Nat.le_of_ble_eq_true rfl) wX9_found q223 (inv_V (k := 7) (dX9_typeName 57 rfl rfl) q2110 q2061 q2062 wX9_found (by decide) lX9_found (by decide) s4.1) (exN (by decide)) rfl ?_
    refine C.mono hf (fun _ _ => KV.g (fun h2 hf le3 => ?_))
    replace s2 := s2.le sc2 (le3)
    replace s4 := s4.le sc4 (le3)
    refine x_null (pc' := 119) (dX9_typeName 58 rfl rfl) rfl ?_
    exact x_aret (dX9_typeName 59 rfl rfl) rfl (Or.inl ⟨_, rfl⟩) (Or.inl rfl) hf
  · replace hf := hf.2 c1
    refine x_aload_n (pc' := 78) 0 (dX9_typeName 37 rfl rfl) rfl rfl rfl ?_
    refine x_aload_n (pc' := 79) 0 (dX9_typeName 38 rfl rfl) rfl rfl rfl ?_
    refine x_getR (pc' := 82) (dX9_typeName 39 rfl rfl) g81 q685 (Or.inl rfl) rfl (hf_of 7 s4.1 rfl (by decide) m7_81) (s4.2 1 _ rfl rfl).1 ?_
    refine x_iload_n (pc' := 83) 2 (dX9_typeName 40 rfl rfl) rfl rfl rfl ?_
    refine x_inv (pc' := 86) (ν := mX3_name) (av := [_, _]) (st := [_]) rfl rfl (dX9_typeName 41 rfl rfl) (Nat.le_of_ble_eq_true rfl) wX3_name q213 (inv_V (k := 2) (dX9_typeName 41 rfl rfl) q2106 q2107 q2108 wX3_name (by decide) lX3_name (by decide) s2.1) (exN (by decide)) rfl ?_
    refine C.mono hf (fun _ _ => KR.g (fun b6 h4 hf le5 => ?_))
    replace s2 := s2.le sc2 (le5)
    replace s4 := s4.le sc4 (le5)
    obtain ⟨k7, hf⟩ := hf
    refine x_getJ (pc' := 89) (dX9_typeName 42 rfl rfl) g49 q439 (Or.inl rfl) rfl (hf_of 3 k7 rfl (by decide) m3_49) ?_
    refine x_lconst (pc' := 90) (v := 0) (dX9_typeName 43 rfl rfl) (by decide) rfl ?_
    refine x_iload_n (pc' := 91) 1 (dX9_typeName 44 rfl rfl) rfl rfl rfl ?_
    refine x_inv (pc' := 94) (ν := mX9_is) (av := [_, _, _, _]) (st := []) rfl rfl (dX9_typeName 45 rfl rfl) (Nat.le_of_ble_eq_true rfl) wX9_is q223 (inv_V (k := 7) (dX9_typeName 45 rfl rfl) q2056 q2058 qs36 wX9_is (by decide) lX9_is (by decide) s4.1) (exN (by decide)) rfl ?_
    refine C.mono hf (fun _ _ => KI.g (fun x10 h8 hf le9 => ?_))
    have k7 := leK le9 k7 (by decide)
    replace s2 := s2.le sc2 (le9)
    replace s4 := s4.le sc4 (le9)
    refine x_if_eq (pc' := 97) (tgt := 106) (dX9_typeName 46 rfl rfl) (by decide) rfl (fun c11 => ?_) (fun c11 => ?_)
    · replace hf := hf.1 c11
      replace hf := hf _ rfl
      refine x_iinc (pc' := 109) 2 (dX9_typeName 52 rfl rfl) rfl (by rfl) (by decide) rfl rfl ?_
      refine x_goto (tgt := 71) (dX9_typeName 53 rfl rfl) (by decide) ?_
      exact X.sub [1, 2, 0] rfl (by simp) hf
    · replace hf := hf.2 c11
      refine x_aload_n (pc' := 98) 0 (dX9_typeName 47 rfl rfl) rfl rfl rfl ?_
      refine x_getR (pc' := 101) (dX9_typeName 48 rfl rfl) g81 q685 (Or.inl rfl) rfl (hf_of 7 s4.1 rfl (by decide) m7_81) (s4.2 1 _ rfl rfl).1 ?_
      refine x_iload_n (pc' := 102) 2 (dX9_typeName 49 rfl rfl) rfl rfl rfl ?_
      refine x_inv (pc' := 105) (ν := mX3_name) (av := [_, _]) (st := []) rfl rfl (dX9_typeName 50 rfl rfl) (Nat.le_of_ble_eq_true rfl) wX3_name q213 (inv_V (k := 2) (dX9_typeName 50 rfl rfl) q2106 q2107 q2108 wX3_name (by decide) lX3_name (by decide) s2.1) (exN (by decide)) rfl ?_
      refine C.mono hf (fun _ _ => KR.g (fun b15 h13 hf le14 => ?_))
      have k7 := leK le14 k7 (by decide)
      replace s2 := s2.le sc2 (le14)
      replace s4 := s4.le sc4 (le14)
      exact x_aret (dX9_typeName 51 rfl rfl) rfl (Or.inl ⟨_, rfl⟩) (Or.inr ⟨_, rfl⟩) hf
theorem bX9_part (G : Gh) (d : Nat) (h : AH) (Q : Outcome → AH → Prop) (p1 : Int32) (p2 : Int32) (s1 : So 1 (gW G) h) (s4 : So 4 (gW G) h) (hf : (p2 = 0 → (vp_in p1 4098 ∧ (Q (.returned (some (.long (aJ h (gW G 1026) p1.toNatClampNeg)))) h))) ∧ (¬ p2 = 0 → (vp_in p1 4098 ∧ (Q (.returned (some (.long (aJ h (gW G 1027) p1.toNatClampNeg)))) h)))) : C G mX9_part d [.ref (gW G 4), .int (p1), .int (p2)] h Q := by
  refine C.of_X (by decide +kernel) (Nat.le_of_ble_eq_true rfl) wX9_part ?_
  show X G mX9_part d none [] 0 [(0, .ref (gW G 4)), (1, .int (p1)), (2, .int (p2))] [] h Q
  refine x_iload_n (pc' := 1) 2 (dX9_part 0 rfl rfl) rfl rfl rfl ?_
  refine x_if_ne (pc' := 4) (tgt := 16) (dX9_part 1 rfl rfl) (by decide) rfl (fun c1 => ?_) (fun c1 => ?_)
  · replace hf := hf.2 c1
    refine x_aload_n (pc' := 17) 0 (dX9_part 8 rfl rfl) rfl rfl rfl ?_
    refine x_getR (pc' := 20) (dX9_part 9 rfl rfl) g80 q684 (Or.inl rfl) rfl (hf_of 7 s4.1 rfl (by decide) m7_80) (s4.2 0 _ rfl rfl).1 ?_
    refine x_getR (pc' := 23) (dX9_part 10 rfl rfl) g27 q336 (Or.inl rfl) rfl (hf_of 1 s1.1 rfl (by decide) m1_27) (s1.2 5 _ rfl rfl).1 ?_
    refine x_iload_n (pc' := 24) 1 (dX9_part 11 rfl rfl) rfl rfl rfl ?_
    obtain ⟨i2, hf⟩ := hf
    refine x_lald (pc' := 25) (dX9_part 12 rfl rfl) rfl (s1.2 5 _ rfl rfl).2.1 (by rw [(s1.2 5 _ rfl rfl).2.2.2 (by decide)]; exact i2) ?_
    exact x_lret (dX9_part 13 rfl rfl) rfl hf
  · replace hf := hf.1 (Classical.not_not.mp c1)
    replace c1 := Classical.not_not.mp c1
    refine x_aload_n (pc' := 5) 0 (dX9_part 2 rfl rfl) rfl rfl rfl ?_
    refine x_getR (pc' := 8) (dX9_part 3 rfl rfl) g80 q684 (Or.inl rfl) rfl (hf_of 7 s4.1 rfl (by decide) m7_80) (s4.2 0 _ rfl rfl).1 ?_
    refine x_getR (pc' := 11) (dX9_part 4 rfl rfl) g26 q333 (Or.inl rfl) rfl (hf_of 1 s1.1 rfl (by decide) m1_26) (s1.2 4 _ rfl rfl).1 ?_
    refine x_iload_n (pc' := 12) 1 (dX9_part 5 rfl rfl) rfl rfl rfl ?_
    obtain ⟨i3, hf⟩ := hf
    refine x_lald (pc' := 13) (dX9_part 6 rfl rfl) rfl (s1.2 4 _ rfl rfl).2.1 (by rw [(s1.2 4 _ rfl rfl).2.2.2 (by decide)]; exact i3) ?_
    refine x_goto (tgt := 25) (dX9_part 7 rfl rfl) (by decide) ?_
    exact x_lret (dX9_part 13 rfl rfl) rfl hf
theorem bX9_number (G : Gh) (d : Nat) (h : AH) (Q : Outcome → AH → Prop) (p1 : Nat) (s3 : So 3 (gW G) h) (s4 : So 4 (gW G) h) (hf : hK h p1 = 54 ∧ (∀ h2, h2 = pI h p1 370 (fI h (gW G 1059) 78) → (C G mX7_add d [.ref (gW G 1059), .ref (p1)] h2 (KV Q (fun h3 => Q (.returned none) h3))))) : C G mX9_number (d + 1) [.ref (gW G 4), .ref (p1)] h Q := by
  refine C.of_X (by decide +kernel) (Nat.le_of_ble_eq_true rfl) wX9_number ?_
  show X G mX9_number (d + 1) none [] 0 [(0, .ref (gW G 4)), (1, .ref (p1))] [] h Q
  refine x_aload_n (pc' := 1) 1 (dX9_number 0 rfl rfl) rfl rfl rfl ?_
  refine x_aload_n (pc' := 2) 0 (dX9_number 1 rfl rfl) rfl rfl rfl ?_
  refine x_getR (pc' := 5) (dX9_number 2 rfl rfl) g89 q700 (Or.inl rfl) rfl (hf_of 7 s4.1 rfl (by decide) m7_89) (s4.2 6 _ rfl rfl).1 ?_
  refine x_getI (pc' := 8) (dX9_number 3 rfl rfl) g78 q575 (Or.inl rfl) rfl (hf_of 5 (s3.2 3 _ rfl rfl).2.1 rfl (by decide) m5_78) ?_
  obtain ⟨k1, hf⟩ := hf
  refine x_putI (pc' := 11) (dX9_number 4 rfl rfl) g370 q2146 (Or.inl rfl) (Or.inl rfl) (Or.inl (by decide)) rfl (hf_of 53 k1 rfl (by decide) m53_370) (fun h2 e5 => ?_)
  replace hf := hf h2 e5
  replace k1 : hK h2 p1 = 54 := by rw [e5]; exact k1
  replace s3 : So 3 (gW G) h2 := by rw [e5]; exact s3.le sc3 (pI_le (Or.inl rfl))
  replace s4 : So 4 (gW G) h2 := by rw [e5]; exact s4.le sc4 (pI_le (Or.inl rfl))
  refine x_aload_n (pc' := 12) 0 (dX9_number 5 rfl rfl) rfl rfl rfl ?_
  refine x_getR (pc' := 15) (dX9_number 6 rfl rfl) g89 q700 (Or.inl rfl) rfl (hf_of 7 s4.1 rfl (by decide) m7_89) (s4.2 6 _ rfl rfl).1 ?_
  refine x_aload_n (pc' := 16) 1 (dX9_number 7 rfl rfl) rfl rfl rfl ?_
  refine x_inv (pc' := 19) (ν := mX7_add) (av := [_, _]) (st := []) rfl rfl (dX9_number 8 rfl rfl) (Nat.le_of_ble_eq_true rfl) wX7_add q221 (inv_V (k := 5) (dX9_number 8 rfl rfl) q953 q590 q591 wX7_add (by decide) lX7_add (by decide) (s3.2 3 _ rfl rfl).2.1) (exN (by decide)) rfl ?_
  refine C.mono hf (fun _ _ => KV.g (fun h3 hf le4 => ?_))
  have k1 := leK le4 k1 (by decide)
  replace s3 := s3.le sc3 (le4)
  replace s4 := s4.le sc4 (le4)
  exact x_vret (dX9_number 9 rfl rfl) rfl hf
theorem bX9_addCon (G : Gh) (d : Nat) (h : AH) (Q : Outcome → AH → Prop) (p1 : Nat) (s4 : So 4 (gW G) h) (hf : C G mX7_add d [.ref (gW G 1086), .ref (p1)] h (KV Q (fun h1 => Q (.returned none) h1))) : C G mX9_addCon (d + 1) [.ref (gW G 4), .ref (p1)] h Q := by
  refine C.of_X (by decide +kernel) (Nat.le_of_ble_eq_true rfl) wX9_addCon ?_
  show X G mX9_addCon (d + 1) none [] 0 [(0, .ref (gW G 4)), (1, .ref (p1))] [] h Q
  refine x_aload_n (pc' := 1) 0 (dX9_addCon 0 rfl rfl) rfl rfl rfl ?_
  refine x_getR (pc' := 4) (dX9_addCon 1 rfl rfl) g86 q696 (Or.inl rfl) rfl (hf_of 7 s4.1 rfl (by decide) m7_86) (s4.2 3 _ rfl rfl).1 ?_
  refine x_aload_n (pc' := 5) 1 (dX9_addCon 2 rfl rfl) rfl rfl rfl ?_
  refine x_inv (pc' := 8) (ν := mX7_add) (av := [_, _]) (st := []) rfl rfl (dX9_addCon 3 rfl rfl) (Nat.le_of_ble_eq_true rfl) wX7_add q221 (inv_V (k := 5) (dX9_addCon 3 rfl rfl) q953 q590 q591 wX7_add (by decide) lX7_add (by decide) (s4.2 3 _ rfl rfl).2.1) (exN (by decide)) rfl ?_
  refine C.mono hf (fun _ _ => KV.g (fun h1 hf le2 => ?_))
  replace s4 := s4.le sc4 (le2)
  exact x_vret (dX9_addCon 4 rfl rfl) rfl hf
theorem bX9_bind (G : Gh) (d : Nat) (h : AH) (Q : Outcome → AH → Prop) (p1 : Int32) (p2 : Int32) (hf : X G mX9_bind (d + 1) none [] 2 [(0, .ref (gW G 4)), (1, .int (p1)), (3, .int (p2))] [] h Q) : C G mX9_bind (d + 1) [.ref (gW G 4), .int (p1), .int (p2)] h Q := by
  refine C.of_X (by decide +kernel) (Nat.le_of_ble_eq_true rfl) wX9_bind ?_
  show X G mX9_bind (d + 1) none [] 0 [(0, .ref (gW G 4)), (1, .int (p1)), (2, .int (p2))] [] h Q
  refine x_iload_n (pc' := 1) 2 (dX9_bind 0 rfl rfl) rfl rfl rfl ?_
  refine x_istore_n (pc' := 2) (dX9_bind 1 rfl rfl) rfl (by decide) rfl rfl ?_
  exact X.sub [1, 2, 0] rfl (by simp) hf
theorem bX9_bind_2 (G : Gh) (d : Nat) (h : AH) (Q : Outcome → AH → Prop) (l1 : Int32) (l3 : Int32) (s1 : So 1 (gW G) h) (s4 : So 4 (gW G) h) (hf : ((fI h (gW G 4) 83) ≤ l3 → (∃ b2, fR h (gW G 4) 82 = some b2 ∧ (hK h b2 = 1007 ∧ (((fI h (gW G 4) 83) = (Int32.ofNat (hL h b2)) → ((¬ (2 * (fI h (gW G 4) 83) : Int32) < 0) ∧ (hc h + 1 ≤ MC) ∧ (hs h + (2 * (fI h (gW G 4) 83) : Int32).toNatClampNeg ≤ MS) ∧ ∀ q29, hK h q29 = 0 → ∀ h31, h31 = nA h q29 7 (2 * (fI h (gW G 4) 83) : Int32).toNatClampNeg → (X G mX9_bind (d + 1) none [] 73 [(0, .ref (gW G 4)), (1, .int (l1)), (3, .ref (q29)), (4, .int (0))] [] h31 Q))) ∧ (¬ ((fI h (gW G 4) 83) = (Int32.ofNat (hL h b2))) → ((hc h + 1 ≤ MC) ∧ (hs h + 7 ≤ MS) ∧ ∀ q6, hK h q6 = 0 → ∀ h8, h8 = nO h q6 12 → (vp_in l1 4098 ∧ (vp_in l1 4098 ∧ (C G mX14_init d [.ref (q6), .long (aJ h8 (gW G 1026) l1.toNatClampNeg), .long (aJ h8 (gW G 1027) l1.toNatClampNeg)] h8 (KV Q (fun h13 => ∀ h15, h15 = pI h13 q6 129 (fI h13 (gW G 4) 84) → (∃ b16, fR h15 (gW G 4) 82 = some b16 ∧ (hK h15 b16 = 1007 ∧ Ns (gW G) b16 ∧ vp_in (fI h15 (gW G 4) 83) (hL h15 b16) ∧ AOK G h15 q6 7 "LetMill$Binding" ∧ ∀ h20, h20 = sR h15 b16 (fI h15 (gW G 4) 83).toNatClampNeg (some q6) → (∀ h23, h23 = pI h20 (gW G 4) 83 ((fI h20 (gW G 4) 83) + 1) → (∀ h24, h24 = pI h23 (gW G 4) 84 ((fI h23 (gW G 4) 84) + 1) → (Q (.returned (some (.ref (q6)))) h24)))))))))))))))) ∧ (¬ ((fI h (gW G 4) 83) ≤ l3) → (∃ b35, fR h (gW G 4) 82 = some b35 ∧ (hK h b35 = 1007 ∧ vp_in l3 (hL h b35) ∧ ∃ b39, aR h b35 l3.toNatClampNeg = some b39 ∧ (hK h b39 = 13 ∧ (∃ b42, fR h (gW G 4) 82 = some b42 ∧ (hK h b42 = 1007 ∧ vp_in l3 (hL h b42) ∧ ∃ b46, aR h b42 l3.toNatClampNeg = some b46 ∧ (hK h b46 = 13 ∧ (C G mX9_is d [.ref (gW G 4), .long (fJ h b39 125), .long (fJ h b46 126), .int (l1)] h (KI Q (fun x51 h49 => (x51 = 0 → (∀ x53 : Int32, x53 = l3 + 1 → (X G mX9_bind (d + 1) none [] 2 [(0, .ref (gW G 4)), (1, .int (l1)), (3, .int (x53))] [] h49 Q))) ∧ (¬ x51 = 0 → (C G mX9_found d [.ref (gW G 4), .int (3), .int (l1)] h49 (KV Q (fun h54 => ∀ x56 : Int32, x56 = l3 + 1 → (X G mX9_bind (d + 1) none [] 2 [(0, .ref (gW G 4)), (1, .int (l1)), (3, .int (x56))] [] h54 Q)))))))))))))))) : X G mX9_bind (d + 1) none [] 2 [(0, .ref (gW G 4)), (1, .int (l1)), (3, .int (l3))] [] h Q := by
  refine x_iload_n (pc' := 3) 2 (dX9_bind 2 rfl rfl) rfl rfl rfl ?_
  refine x_aload_n (pc' := 4) 0 (dX9_bind 3 rfl rfl) rfl rfl rfl ?_
  refine x_getI (pc' := 7) (dX9_bind 4 rfl rfl) g83 q690 (Or.inl rfl) rfl (hf_of 7 s4.1 rfl (by decide) m7_83) ?_
  refine x_icmp_ge (pc' := 10) (tgt := 48) (dX9_bind 5 rfl rfl) (by decide) rfl (fun c1 => ?_) (fun c1 => ?_)
  · replace hf := hf.1 c1
    refine x_aload_n (pc' := 49) 0 (dX9_bind 26 rfl rfl) rfl rfl rfl ?_
    refine x_getI (pc' := 52) (dX9_bind 27 rfl rfl) g83 q690 (Or.inl rfl) rfl (hf_of 7 s4.1 rfl (by decide) m7_83) ?_
    refine x_aload_n (pc' := 53) 0 (dX9_bind 28 rfl rfl) rfl rfl rfl ?_
    obtain ⟨b2, e3, hf⟩ := hf
    refine x_getR (pc' := 56) (dX9_bind 29 rfl rfl) g82 q686 (Or.inl rfl) rfl (hf_of 7 s4.1 rfl (by decide) m7_82) e3 ?_
    obtain ⟨k4, hf⟩ := hf
    refine x_alen (pc' := 57) (t := 7) (ty := .object "LetMill$Binding") (dX9_bind 30 rfl rfl) rfl rfl k4 ?_
    refine x_icmp_ne (pc' := 60) (tgt := 104) (dX9_bind 31 rfl rfl) (by decide) rfl (fun c5 => ?_) (fun c5 => ?_)
    · replace hf := hf.2 c5
      obtain ⟨n1, n2, hf⟩ := hf
      refine x_new (pc' := 107) (k := 12) (dX9_bind 56 rfl rfl) q680 (by decide) rfl (by decide) n1 n2 (fun q6 h8 k7 e9 => ?_)
      replace hf := hf q6 k7 h8 e9
      replace k4 : hK h8 b2 = 1007 := by rw [e9]; exact kNO k4 (by decide) k7
      replace s1 : So 1 (gW G) h8 := by rw [e9]; exact s1.le sc1 (nO_le k7)
      replace s4 : So 4 (gW G) h8 := by rw [e9]; exact s4.le sc4 (nO_le k7)
      have k10 : hK h8 q6 = 13 := by rw [e9]; exact kNOs
      refine x_dup (pc' := 108) (dX9_bind 57 rfl rfl) rfl rfl ?_
      refine x_aload_n (pc' := 109) 0 (dX9_bind 58 rfl rfl) rfl rfl rfl ?_
      refine x_getR (pc' := 112) (dX9_bind 59 rfl rfl) g80 q684 (Or.inl rfl) rfl (hf_of 7 s4.1 rfl (by decide) m7_80) (s4.2 0 _ rfl rfl).1 ?_
      refine x_getR (pc' := 115) (dX9_bind 60 rfl rfl) g26 q333 (Or.inl rfl) rfl (hf_of 1 s1.1 rfl (by decide) m1_26) (s1.2 4 _ rfl rfl).1 ?_
      refine x_iload_n (pc' := 116) 1 (dX9_bind 61 rfl rfl) rfl rfl rfl ?_
      obtain ⟨i11, hf⟩ := hf
      refine x_lald (pc' := 117) (dX9_bind 62 rfl rfl) rfl (s1.2 4 _ rfl rfl).2.1 (by rw [(s1.2 4 _ rfl rfl).2.2.2 (by decide)]; exact i11) ?_
      refine x_aload_n (pc' := 118) 0 (dX9_bind 63 rfl rfl) rfl rfl rfl ?_
      refine x_getR (pc' := 121) (dX9_bind 64 rfl rfl) g80 q684 (Or.inl rfl) rfl (hf_of 7 s4.1 rfl (by decide) m7_80) (s4.2 0 _ rfl rfl).1 ?_
      refine x_getR (pc' := 124) (dX9_bind 65 rfl rfl) g27 q336 (Or.inl rfl) rfl (hf_of 1 s1.1 rfl (by decide) m1_27) (s1.2 5 _ rfl rfl).1 ?_
      refine x_iload_n (pc' := 125) 1 (dX9_bind 66 rfl rfl) rfl rfl rfl ?_
      obtain ⟨i12, hf⟩ := hf
      refine x_lald (pc' := 126) (dX9_bind 67 rfl rfl) rfl (s1.2 5 _ rfl rfl).2.1 (by rw [(s1.2 5 _ rfl rfl).2.2.2 (by decide)]; exact i12) ?_
      refine x_inv (pc' := 129) (ν := mX14_init) (av := [_, _, _]) (st := [_]) rfl rfl (dX9_bind 68 rfl rfl) (Nat.le_of_ble_eq_true rfl) wX14_init q228 (inv_I (dX9_bind 68 rfl rfl) q913 q914 q915 rfl (by decide) lX14_init) (fun b hb => by exact Or.inl (by have e : some _ = some b := hb; cases e; simp)) rfl ?_
      refine C.mono hf (fun _ _ => KV.g (fun h13 hf le14 => ?_))
      replace s1 := s1.leX sc1 le14 k10 (by decide)
      replace s4 := s4.leX sc4 le14 k10 (by decide)
      have k4 := leK le14 k4 (by decide)
      have k10 := leK le14 k10 (by decide)
      refine x_astore_n (pc' := 130) (dX9_bind 69 rfl rfl) rfl (by decide) rfl rfl ?_
      refine x_aload_n (pc' := 131) 0 (dX9_bind 70 rfl rfl) rfl rfl rfl ?_
      refine x_aload_n (pc' := 132) 1 (dX9_bind 71 rfl rfl) rfl rfl rfl ?_
      refine x_getI (pc' := 135) (dX9_bind 72 rfl rfl) g84 q693 (Or.inl rfl) rfl (hf_of 7 s4.1 rfl (by decide) m7_84) ?_
      refine x_putI (pc' := 138) (dX9_bind 73 rfl rfl) g129 q928 (Or.inl rfl) (Or.inl rfl) (Or.inl (by decide)) rfl (hf_of 12 k10 rfl (by decide) m12_129) (fun h15 e28 => ?_)
      replace hf := hf h15 e28
      replace k4 : hK h15 b2 = 1007 := by rw [e28]; exact k4
      replace k10 : hK h15 q6 = 13 := by rw [e28]; exact k10
      replace s1 : So 1 (gW G) h15 := by rw [e28]; exact s1.le sc1 (pI_le (Or.inl rfl))
      replace s4 : So 4 (gW G) h15 := by rw [e28]; exact s4.le sc4 (pI_le (Or.inl rfl))
      refine x_aload_n (pc' := 139) 1 (dX9_bind 74 rfl rfl) rfl rfl rfl ?_
      obtain ⟨b16, e17, hf⟩ := hf
      refine x_getR (pc' := 142) (dX9_bind 75 rfl rfl) g82 q686 (Or.inl rfl) rfl (hf_of 7 s4.1 rfl (by decide) m7_82) e17 ?_
      refine x_aload_n (pc' := 143) 1 (dX9_bind 76 rfl rfl) rfl rfl rfl ?_
      refine x_getI (pc' := 146) (dX9_bind 77 rfl rfl) g83 q690 (Or.inl rfl) rfl (hf_of 7 s4.1 rfl (by decide) m7_83) ?_
      refine x_aload_n (pc' := 147) 0 (dX9_bind 78 rfl rfl) rfl rfl rfl ?_
      obtain ⟨k18, hf⟩ := hf
      obtain ⟨n22, hf⟩ := hf
      obtain ⟨i19, hf⟩ := hf
      obtain ⟨o27, hf⟩ := hf
      refine x_aast (pc' := 148) (t := 7) (E := "LetMill$Binding") (dX9_bind 79 rfl rfl) rfl (by decide) rfl (by decide) k18 (Or.inr ⟨n22, by decide⟩) i19 o27 (fun h20 e21 => ?_)
      replace hf := hf h20 e21
      replace k4 : hK h20 b2 = 1007 := by rw [e21]; exact k4
      replace k10 : hK h20 q6 = 13 := by rw [e21]; exact k10
      replace k18 : hK h20 b16 = 1007 := by rw [e21]; exact k18
      replace s1 : So 1 (gW G) h20 := by rw [e21]; exact s1.le sc1 (sR_le )
      replace s4 : So 4 (gW G) h20 := by rw [e21]; exact s4.le sc4 (sR_le )
      refine x_aload_n (pc' := 149) 1 (dX9_bind 80 rfl rfl) rfl rfl rfl ?_
      refine x_dup (pc' := 150) (dX9_bind 81 rfl rfl) rfl rfl ?_
      refine x_getI (pc' := 153) (dX9_bind 82 rfl rfl) g83 q690 (Or.inl rfl) rfl (hf_of 7 s4.1 rfl (by decide) m7_83) ?_
      refine x_iconst (pc' := 154) (v := 1) (dX9_bind 83 rfl rfl) (by decide) rfl ?_
      refine x_iadd (pc' := 155) (dX9_bind 84 rfl rfl) rfl ?_
      refine x_putI (pc' := 158) (dX9_bind 85 rfl rfl) g83 q690 (Or.inl rfl) (Or.inl rfl) (Or.inl (by decide)) rfl (hf_of 7 s4.1 rfl (by decide) m7_83) (fun h23 e26 => ?_)
      replace hf := hf h23 e26
      replace k4 : hK h23 b2 = 1007 := by rw [e26]; exact k4
      replace k10 : hK h23 q6 = 13 := by rw [e26]; exact k10
      replace k18 : hK h23 b16 = 1007 := by rw [e26]; exact k18
      replace s1 : So 1 (gW G) h23 := by rw [e26]; exact s1.le sc1 (pI_le (Or.inl rfl))
      replace s4 : So 4 (gW G) h23 := by rw [e26]; exact s4.le sc4 (pI_le (Or.inl rfl))
      refine x_aload_n (pc' := 159) 1 (dX9_bind 86 rfl rfl) rfl rfl rfl ?_
      refine x_dup (pc' := 160) (dX9_bind 87 rfl rfl) rfl rfl ?_
      refine x_getI (pc' := 163) (dX9_bind 88 rfl rfl) g84 q693 (Or.inl rfl) rfl (hf_of 7 s4.1 rfl (by decide) m7_84) ?_
      refine x_iconst (pc' := 164) (v := 1) (dX9_bind 89 rfl rfl) (by decide) rfl ?_
      refine x_iadd (pc' := 165) (dX9_bind 90 rfl rfl) rfl ?_
      refine x_putI (pc' := 168) (dX9_bind 91 rfl rfl) g84 q693 (Or.inl rfl) (Or.inl rfl) (Or.inl (by decide)) rfl (hf_of 7 s4.1 rfl (by decide) m7_84) (fun h24 e25 => ?_)
      replace hf := hf h24 e25
      replace k4 : hK h24 b2 = 1007 := by rw [e25]; exact k4
      replace k10 : hK h24 q6 = 13 := by rw [e25]; exact k10
      replace k18 : hK h24 b16 = 1007 := by rw [e25]; exact k18
      replace s1 : So 1 (gW G) h24 := by rw [e25]; exact s1.le sc1 (pI_le (Or.inl rfl))
      replace s4 : So 4 (gW G) h24 := by rw [e25]; exact s4.le sc4 (pI_le (Or.inl rfl))
      refine x_aload_n (pc' := 169) 0 (dX9_bind 92 rfl rfl) rfl rfl rfl ?_
      exact x_aret (dX9_bind 93 rfl rfl) rfl (Or.inl ⟨_, rfl⟩) (Or.inr ⟨_, rfl⟩) hf
    · replace hf := hf.1 (Classical.not_not.mp c5)
      replace c5 := Classical.not_not.mp c5
      refine x_iconst (pc' := 61) (v := 2) (dX9_bind 32 rfl rfl) (by decide) rfl ?_
      refine x_aload_n (pc' := 62) 0 (dX9_bind 33 rfl rfl) rfl rfl rfl ?_
      refine x_getI (pc' := 65) (dX9_bind 34 rfl rfl) g83 q690 (Or.inl rfl) rfl (hf_of 7 s4.1 rfl (by decide) m7_83) ?_
      refine x_imul (pc' := 66) (dX9_bind 35 rfl rfl) rfl ?_
      obtain ⟨z33, n1, n2, hf⟩ := hf
      refine x_newq (pc' := 69) (t := 7) (E := "LetMill$Binding") (dX9_bind 36 rfl rfl) q680 (by decide) (by decide) rfl rfl z33 (by decide) n1 n2 (fun q29 h31 k30 e32 => ?_)
      replace hf := hf q29 k30 h31 e32
      replace k4 : hK h31 b2 = 1007 := by rw [e32]; exact kNA k4 (by decide) k30
      replace s1 : So 1 (gW G) h31 := by rw [e32]; exact s1.le sc1 (nA_le k30)
      replace s4 : So 4 (gW G) h31 := by rw [e32]; exact s4.le sc4 (nA_le k30)
      have k34 : hK h31 q29 = 1007 := by rw [e32]; exact kNAs
      refine x_astore_n (pc' := 70) (dX9_bind 37 rfl rfl) rfl (by decide) rfl rfl ?_
      refine x_iconst (pc' := 71) (v := 0) (dX9_bind 38 rfl rfl) (by decide) rfl ?_
      refine x_istore (pc' := 73) (dX9_bind 39 rfl rfl) (by decide) rfl rfl ?_
      exact X.sub [2, 3, 1, 0] rfl (by simp) hf
  · replace hf := hf.2 c1
    refine x_aload_n (pc' := 11) 0 (dX9_bind 6 rfl rfl) rfl rfl rfl ?_
    refine x_aload_n (pc' := 12) 0 (dX9_bind 7 rfl rfl) rfl rfl rfl ?_
    obtain ⟨b35, e36, hf⟩ := hf
    refine x_getR (pc' := 15) (dX9_bind 8 rfl rfl) g82 q686 (Or.inl rfl) rfl (hf_of 7 s4.1 rfl (by decide) m7_82) e36 ?_
    refine x_iload_n (pc' := 16) 2 (dX9_bind 9 rfl rfl) rfl rfl rfl ?_
    obtain ⟨k37, hf⟩ := hf
    obtain ⟨i38, hf⟩ := hf
    obtain ⟨b39, e40, hf⟩ := hf
    refine x_aald (pc' := 17) (t := 7) (C := "LetMill$Binding") (dX9_bind 10 rfl rfl) rfl (by decide) rfl k37 i38 e40 ?_
    obtain ⟨k41, hf⟩ := hf
    refine x_getJ (pc' := 20) (dX9_bind 11 rfl rfl) g125 q918 (Or.inl rfl) rfl (hf_of 12 k41 rfl (by decide) m12_125) ?_
    refine x_aload_n (pc' := 21) 0 (dX9_bind 12 rfl rfl) rfl rfl rfl ?_
    obtain ⟨b42, e43, hf⟩ := hf
    refine x_getR (pc' := 24) (dX9_bind 13 rfl rfl) g82 q686 (Or.inl rfl) rfl (hf_of 7 s4.1 rfl (by decide) m7_82) e43 ?_
    refine x_iload_n (pc' := 25) 2 (dX9_bind 14 rfl rfl) rfl rfl rfl ?_
    obtain ⟨k44, hf⟩ := hf
    obtain ⟨i45, hf⟩ := hf
    obtain ⟨b46, e47, hf⟩ := hf
    refine x_aald (pc' := 26) (t := 7) (C := "LetMill$Binding") (dX9_bind 15 rfl rfl) rfl (by decide) rfl k44 i45 e47 ?_
    obtain ⟨k48, hf⟩ := hf
    refine x_getJ (pc' := 29) (dX9_bind 16 rfl rfl) g126 q921 (Or.inl rfl) rfl (hf_of 12 k48 rfl (by decide) m12_126) ?_
    refine x_iload_n (pc' := 30) 1 (dX9_bind 17 rfl rfl) rfl rfl rfl ?_
    refine x_inv (pc' := 33) (ν := mX9_is) (av := [_, _, _, _]) (st := []) rfl rfl (dX9_bind 18 rfl rfl) (Nat.le_of_ble_eq_true rfl) wX9_is q223 (inv_V (k := 7) (dX9_bind 18 rfl rfl) q2056 q2058 qs36 wX9_is (by decide) lX9_is (by decide) s4.1) (exN (by decide)) rfl ?_
    refine C.mono hf (fun _ _ => KI.g (fun x51 h49 hf le50 => ?_))
    have k37 := leK le50 k37 (by decide)
    have k41 := leK le50 k41 (by decide)
    have k44 := leK le50 k44 (by decide)
    have k48 := leK le50 k48 (by decide)
    replace s1 := s1.le sc1 (le50)
    replace s4 := s4.le sc4 (le50)
    refine x_if_eq (pc' := 36) (tgt := 42) (dX9_bind 19 rfl rfl) (by decide) rfl (fun c52 => ?_) (fun c52 => ?_)
    · replace hf := hf.1 c52
      replace hf := hf _ rfl
      refine x_iinc (pc' := 45) 2 (dX9_bind 24 rfl rfl) rfl (by rfl) (by decide) rfl rfl ?_
      refine x_goto (tgt := 2) (dX9_bind 25 rfl rfl) (by decide) ?_
      exact X.sub [1, 2, 0] rfl (by simp) hf
    · replace hf := hf.2 c52
      refine x_aload_n (pc' := 37) 0 (dX9_bind 20 rfl rfl) rfl rfl rfl ?_
      refine x_iconst (pc' := 38) (v := 3) (dX9_bind 21 rfl rfl) (by decide) rfl ?_
      refine x_iload_n (pc' := 39) 1 (dX9_bind 22 rfl rfl) rfl rfl rfl ?_
      refine x_inv (pc' := 42) (ν := mX9_found) (av := [_, _, _]) (st := []) rfl rfl (dX9_bind 23 rfl rfl) (Nat.le_of_ble_eq_true rfl) wX9_found q223 (inv_V (k := 7) (dX9_bind 23 rfl rfl) q2110 q2061 q2062 wX9_found (by decide) lX9_found (by decide) s4.1) (exN (by decide)) rfl ?_
      refine C.mono hf (fun _ _ => KV.g (fun h54 hf le55 => ?_))
      have k37 := leK le55 k37 (by decide)
      have k41 := leK le55 k41 (by decide)
      have k44 := leK le55 k44 (by decide)
      have k48 := leK le55 k48 (by decide)
      replace s1 := s1.le sc1 (le55)
      replace s4 := s4.le sc4 (le55)
      replace hf := hf _ rfl
      refine x_iinc (pc' := 45) 2 (dX9_bind 24 rfl rfl) rfl (by rfl) (by decide) rfl rfl ?_
      refine x_goto (tgt := 2) (dX9_bind 25 rfl rfl) (by decide) ?_
      exact X.sub [1, 2, 0] rfl (by simp) hf
theorem bX9_bind_73 (G : Gh) (d : Nat) (h : AH) (Q : Outcome → AH → Prop) (l1 : Int32) (l3 : Nat) (l4 : Int32) (s1 : So 1 (gW G) h) (s4 : So 4 (gW G) h) (hf : ((fI h (gW G 4) 83) ≤ l4 → (∀ h2, h2 = pR h (gW G 4) 82 (some l3) → ((hc h2 + 1 ≤ MC) ∧ (hs h2 + 7 ≤ MS) ∧ ∀ q3, hK h2 q3 = 0 → ∀ h5, h5 = nO h2 q3 12 → (vp_in l1 4098 ∧ (vp_in l1 4098 ∧ (C G mX14_init d [.ref (q3), .long (aJ h5 (gW G 1026) l1.toNatClampNeg), .long (aJ h5 (gW G 1027) l1.toNatClampNeg)] h5 (KV Q (fun h10 => ∀ h12, h12 = pI h10 q3 129 (fI h10 (gW G 4) 84) → (∃ b13, fR h12 (gW G 4) 82 = some b13 ∧ (hK h12 b13 = 1007 ∧ Ns (gW G) b13 ∧ vp_in (fI h12 (gW G 4) 83) (hL h12 b13) ∧ AOK G h12 q3 7 "LetMill$Binding" ∧ ∀ h17, h17 = sR h12 b13 (fI h12 (gW G 4) 83).toNatClampNeg (some q3) → (∀ h20, h20 = pI h17 (gW G 4) 83 ((fI h17 (gW G 4) 83) + 1) → (∀ h21, h21 = pI h20 (gW G 4) 84 ((fI h20 (gW G 4) 84) + 1) → (Q (.returned (some (.ref (q3)))) h21))))))))))))) ∧ (¬ ((fI h (gW G 4) 83) ≤ l4) → (∃ b27, fR h (gW G 4) 82 = some b27 ∧ (hK h b27 = 1007 ∧ vp_in l4 (hL h b27) ∧ ∃ b31, aR h b27 l4.toNatClampNeg = some b31 ∧ (hK h l3 = 1007 ∧ Ns (gW G) l3 ∧ vp_in l4 (hL h l3) ∧ AOK G h b31 7 "LetMill$Binding" ∧ ∀ h35, h35 = sR h l3 l4.toNatClampNeg (some b31) → (∀ x38 : Int32, x38 = l4 + 1 → (X G mX9_bind (d + 1) none [] 73 [(0, .ref (gW G 4)), (1, .int (l1)), (3, .ref (l3)), (4, .int (x38))] [] h35 Q))))))) : X G mX9_bind (d + 1) none [] 73 [(0, .ref (gW G 4)), (1, .int (l1)), (3, .ref (l3)), (4, .int (l4))] [] h Q := by
  refine x_iload (pc' := 75) 3 (dX9_bind 40 rfl rfl) rfl rfl ?_
  refine x_aload_n (pc' := 76) 0 (dX9_bind 41 rfl rfl) rfl rfl rfl ?_
  refine x_getI (pc' := 79) (dX9_bind 42 rfl rfl) g83 q690 (Or.inl rfl) rfl (hf_of 7 s4.1 rfl (by decide) m7_83) ?_
  refine x_icmp_ge (pc' := 82) (tgt := 99) (dX9_bind 43 rfl rfl) (by decide) rfl (fun c1 => ?_) (fun c1 => ?_)
  · replace hf := hf.1 c1
    refine x_aload_n (pc' := 100) 0 (dX9_bind 53 rfl rfl) rfl rfl rfl ?_
    refine x_aload_n (pc' := 101) 2 (dX9_bind 54 rfl rfl) rfl rfl rfl ?_
    refine x_putR (pc' := 104) (dX9_bind 55 rfl rfl) g82 q686 (Or.inl rfl) (Or.inl rfl) (Or.inl (by decide)) rfl (hf_of 7 s4.1 rfl (by decide) m7_82) (fun h2 e26 => ?_)
    replace hf := hf h2 e26
    replace s1 : So 1 (gW G) h2 := by rw [e26]; exact s1.le sc1 (pR_le (Or.inl rfl))
    replace s4 : So 4 (gW G) h2 := by rw [e26]; exact s4.le sc4 (pR_le (Or.inl rfl))
    obtain ⟨n1, n2, hf⟩ := hf
    refine x_new (pc' := 107) (k := 12) (dX9_bind 56 rfl rfl) q680 (by decide) rfl (by decide) n1 n2 (fun q3 h5 k4 e6 => ?_)
    replace hf := hf q3 k4 h5 e6
    replace s1 : So 1 (gW G) h5 := by rw [e6]; exact s1.le sc1 (nO_le k4)
    replace s4 : So 4 (gW G) h5 := by rw [e6]; exact s4.le sc4 (nO_le k4)
    have k7 : hK h5 q3 = 13 := by rw [e6]; exact kNOs
    refine x_dup (pc' := 108) (dX9_bind 57 rfl rfl) rfl rfl ?_
    refine x_aload_n (pc' := 109) 0 (dX9_bind 58 rfl rfl) rfl rfl rfl ?_
    refine x_getR (pc' := 112) (dX9_bind 59 rfl rfl) g80 q684 (Or.inl rfl) rfl (hf_of 7 s4.1 rfl (by decide) m7_80) (s4.2 0 _ rfl rfl).1 ?_
    refine x_getR (pc' := 115) (dX9_bind 60 rfl rfl) g26 q333 (Or.inl rfl) rfl (hf_of 1 s1.1 rfl (by decide) m1_26) (s1.2 4 _ rfl rfl).1 ?_
    refine x_iload_n (pc' := 116) 1 (dX9_bind 61 rfl rfl) rfl rfl rfl ?_
    obtain ⟨i8, hf⟩ := hf
    refine x_lald (pc' := 117) (dX9_bind 62 rfl rfl) rfl (s1.2 4 _ rfl rfl).2.1 (by rw [(s1.2 4 _ rfl rfl).2.2.2 (by decide)]; exact i8) ?_
    refine x_aload_n (pc' := 118) 0 (dX9_bind 63 rfl rfl) rfl rfl rfl ?_
    refine x_getR (pc' := 121) (dX9_bind 64 rfl rfl) g80 q684 (Or.inl rfl) rfl (hf_of 7 s4.1 rfl (by decide) m7_80) (s4.2 0 _ rfl rfl).1 ?_
    refine x_getR (pc' := 124) (dX9_bind 65 rfl rfl) g27 q336 (Or.inl rfl) rfl (hf_of 1 s1.1 rfl (by decide) m1_27) (s1.2 5 _ rfl rfl).1 ?_
    refine x_iload_n (pc' := 125) 1 (dX9_bind 66 rfl rfl) rfl rfl rfl ?_
    obtain ⟨i9, hf⟩ := hf
    refine x_lald (pc' := 126) (dX9_bind 67 rfl rfl) rfl (s1.2 5 _ rfl rfl).2.1 (by rw [(s1.2 5 _ rfl rfl).2.2.2 (by decide)]; exact i9) ?_
    refine x_inv (pc' := 129) (ν := mX14_init) (av := [_, _, _]) (st := [_]) rfl rfl (dX9_bind 68 rfl rfl) (Nat.le_of_ble_eq_true rfl) wX14_init q228 (inv_I (dX9_bind 68 rfl rfl) q913 q914 q915 rfl (by decide) lX14_init) (fun b hb => by exact Or.inl (by have e : some _ = some b := hb; cases e; simp)) rfl ?_
    refine C.mono hf (fun _ _ => KV.g (fun h10 hf le11 => ?_))
    replace s1 := s1.leX sc1 le11 k7 (by decide)
    replace s4 := s4.leX sc4 le11 k7 (by decide)
    have k7 := leK le11 k7 (by decide)
    refine x_astore_n (pc' := 130) (dX9_bind 69 rfl rfl) rfl (by decide) rfl rfl ?_
    refine x_aload_n (pc' := 131) 0 (dX9_bind 70 rfl rfl) rfl rfl rfl ?_
    refine x_aload_n (pc' := 132) 1 (dX9_bind 71 rfl rfl) rfl rfl rfl ?_
    refine x_getI (pc' := 135) (dX9_bind 72 rfl rfl) g84 q693 (Or.inl rfl) rfl (hf_of 7 s4.1 rfl (by decide) m7_84) ?_
    refine x_putI (pc' := 138) (dX9_bind 73 rfl rfl) g129 q928 (Or.inl rfl) (Or.inl rfl) (Or.inl (by decide)) rfl (hf_of 12 k7 rfl (by decide) m12_129) (fun h12 e25 => ?_)
    replace hf := hf h12 e25
    replace k7 : hK h12 q3 = 13 := by rw [e25]; exact k7
    replace s1 : So 1 (gW G) h12 := by rw [e25]; exact s1.le sc1 (pI_le (Or.inl rfl))
    replace s4 : So 4 (gW G) h12 := by rw [e25]; exact s4.le sc4 (pI_le (Or.inl rfl))
    refine x_aload_n (pc' := 139) 1 (dX9_bind 74 rfl rfl) rfl rfl rfl ?_
    obtain ⟨b13, e14, hf⟩ := hf
    refine x_getR (pc' := 142) (dX9_bind 75 rfl rfl) g82 q686 (Or.inl rfl) rfl (hf_of 7 s4.1 rfl (by decide) m7_82) e14 ?_
    refine x_aload_n (pc' := 143) 1 (dX9_bind 76 rfl rfl) rfl rfl rfl ?_
    refine x_getI (pc' := 146) (dX9_bind 77 rfl rfl) g83 q690 (Or.inl rfl) rfl (hf_of 7 s4.1 rfl (by decide) m7_83) ?_
    refine x_aload_n (pc' := 147) 0 (dX9_bind 78 rfl rfl) rfl rfl rfl ?_
    obtain ⟨k15, hf⟩ := hf
    obtain ⟨n19, hf⟩ := hf
    obtain ⟨i16, hf⟩ := hf
    obtain ⟨o24, hf⟩ := hf
    refine x_aast (pc' := 148) (t := 7) (E := "LetMill$Binding") (dX9_bind 79 rfl rfl) rfl (by decide) rfl (by decide) k15 (Or.inr ⟨n19, by decide⟩) i16 o24 (fun h17 e18 => ?_)
    replace hf := hf h17 e18
    replace k7 : hK h17 q3 = 13 := by rw [e18]; exact k7
    replace k15 : hK h17 b13 = 1007 := by rw [e18]; exact k15
    replace s1 : So 1 (gW G) h17 := by rw [e18]; exact s1.le sc1 (sR_le )
    replace s4 : So 4 (gW G) h17 := by rw [e18]; exact s4.le sc4 (sR_le )
    refine x_aload_n (pc' := 149) 1 (dX9_bind 80 rfl rfl) rfl rfl rfl ?_
    refine x_dup (pc' := 150) (dX9_bind 81 rfl rfl) rfl rfl ?_
    refine x_getI (pc' := 153) (dX9_bind 82 rfl rfl) g83 q690 (Or.inl rfl) rfl (hf_of 7 s4.1 rfl (by decide) m7_83) ?_
    refine x_iconst (pc' := 154) (v := 1) (dX9_bind 83 rfl rfl) (by decide) rfl ?_
    refine x_iadd (pc' := 155) (dX9_bind 84 rfl rfl) rfl ?_
    refine x_putI (pc' := 158) (dX9_bind 85 rfl rfl) g83 q690 (Or.inl rfl) (Or.inl rfl) (Or.inl (by decide)) rfl (hf_of 7 s4.1 rfl (by decide) m7_83) (fun h20 e23 => ?_)
    replace hf := hf h20 e23
    replace k7 : hK h20 q3 = 13 := by rw [e23]; exact k7
    replace k15 : hK h20 b13 = 1007 := by rw [e23]; exact k15
    replace s1 : So 1 (gW G) h20 := by rw [e23]; exact s1.le sc1 (pI_le (Or.inl rfl))
    replace s4 : So 4 (gW G) h20 := by rw [e23]; exact s4.le sc4 (pI_le (Or.inl rfl))
    refine x_aload_n (pc' := 159) 1 (dX9_bind 86 rfl rfl) rfl rfl rfl ?_
    refine x_dup (pc' := 160) (dX9_bind 87 rfl rfl) rfl rfl ?_
    refine x_getI (pc' := 163) (dX9_bind 88 rfl rfl) g84 q693 (Or.inl rfl) rfl (hf_of 7 s4.1 rfl (by decide) m7_84) ?_
    refine x_iconst (pc' := 164) (v := 1) (dX9_bind 89 rfl rfl) (by decide) rfl ?_
    refine x_iadd (pc' := 165) (dX9_bind 90 rfl rfl) rfl ?_
    refine x_putI (pc' := 168) (dX9_bind 91 rfl rfl) g84 q693 (Or.inl rfl) (Or.inl rfl) (Or.inl (by decide)) rfl (hf_of 7 s4.1 rfl (by decide) m7_84) (fun h21 e22 => ?_)
    replace hf := hf h21 e22
    replace k7 : hK h21 q3 = 13 := by rw [e22]; exact k7
    replace k15 : hK h21 b13 = 1007 := by rw [e22]; exact k15
    replace s1 : So 1 (gW G) h21 := by rw [e22]; exact s1.le sc1 (pI_le (Or.inl rfl))
    replace s4 : So 4 (gW G) h21 := by rw [e22]; exact s4.le sc4 (pI_le (Or.inl rfl))
    refine x_aload_n (pc' := 169) 0 (dX9_bind 92 rfl rfl) rfl rfl rfl ?_
    exact x_aret (dX9_bind 93 rfl rfl) rfl (Or.inl ⟨_, rfl⟩) (Or.inr ⟨_, rfl⟩) hf
  · replace hf := hf.2 c1
    refine x_aload_n (pc' := 83) 2 (dX9_bind 44 rfl rfl) rfl rfl rfl ?_
    refine x_iload (pc' := 85) 3 (dX9_bind 45 rfl rfl) rfl rfl ?_
    refine x_aload_n (pc' := 86) 0 (dX9_bind 46 rfl rfl) rfl rfl rfl ?_
    obtain ⟨b27, e28, hf⟩ := hf
    refine x_getR (pc' := 89) (dX9_bind 47 rfl rfl) g82 q686 (Or.inl rfl) rfl (hf_of 7 s4.1 rfl (by decide) m7_82) e28 ?_
    refine x_iload (pc' := 91) 3 (dX9_bind 48 rfl rfl) rfl rfl ?_
    obtain ⟨k29, hf⟩ := hf
    obtain ⟨i30, hf⟩ := hf
    obtain ⟨b31, e32, hf⟩ := hf
    refine x_aald (pc' := 92) (t := 7) (C := "LetMill$Binding") (dX9_bind 49 rfl rfl) rfl (by decide) rfl k29 i30 e32 ?_
    obtain ⟨k33, hf⟩ := hf
    obtain ⟨n37, hf⟩ := hf
    obtain ⟨i34, hf⟩ := hf
    obtain ⟨o39, hf⟩ := hf
    refine x_aast (pc' := 93) (t := 7) (E := "LetMill$Binding") (dX9_bind 50 rfl rfl) rfl (by decide) rfl (by decide) k33 (Or.inr ⟨n37, by decide⟩) i34 o39 (fun h35 e36 => ?_)
    replace hf := hf h35 e36
    replace k29 : hK h35 b27 = 1007 := by rw [e36]; exact k29
    replace k33 : hK h35 l3 = 1007 := by rw [e36]; exact k33
    replace s1 : So 1 (gW G) h35 := by rw [e36]; exact s1.le sc1 (sR_le )
    replace s4 : So 4 (gW G) h35 := by rw [e36]; exact s4.le sc4 (sR_le )
    replace hf := hf _ rfl
    refine x_iinc (pc' := 96) 3 (dX9_bind 51 rfl rfl) rfl (by rfl) (by decide) rfl rfl ?_
    refine x_goto (tgt := 73) (dX9_bind 52 rfl rfl) (by decide) ?_
    exact X.sub [1, 2, 3, 0] rfl (by simp) hf
theorem bX9_clause (G : Gh) (d : Nat) (h : AH) (Q : Outcome → AH → Prop) (p1 : Nat) (s4 : So 4 (gW G) h) (hf : ∀ x1 : Int32, x1 = fI h (gW G 4) 83 → (X G mX9_clause (d + 1) none [] 7 [(0, .ref (gW G 4)), (1, .ref (p1)), (2, .int (x1)), (3, .int (0))] [] h Q)) : C G mX9_clause (d + 1) [.ref (gW G 4), .ref (p1)] h Q := by
  refine C.of_X (by decide +kernel) (Nat.le_of_ble_eq_true rfl) wX9_clause ?_
  show X G mX9_clause (d + 1) none [] 0 [(0, .ref (gW G 4)), (1, .ref (p1))] [] h Q
  refine x_aload_n (pc' := 1) 0 (dX9_clause 0 rfl rfl) rfl rfl rfl ?_
  refine x_getI (pc' := 4) (dX9_clause 1 rfl rfl) g83 q690 (Or.inl rfl) rfl (hf_of 7 s4.1 rfl (by decide) m7_83) ?_
  replace hf := hf _ rfl
  refine x_istore_n (pc' := 5) (dX9_clause 2 rfl rfl) rfl (by decide) rfl rfl ?_
  refine x_iconst (pc' := 6) (v := 0) (dX9_clause 3 rfl rfl) (by decide) rfl ?_
  refine x_istore_n (pc' := 7) (dX9_clause 4 rfl rfl) rfl (by decide) rfl rfl ?_
  exact X.sub [2, 3, 1, 0] rfl (by simp) hf
theorem bX9_clause_7 (G : Gh) (d : Nat) (h : AH) (Q : Outcome → AH → Prop) (l1 : Nat) (l2 : Int32) (l3 : Int32) (s4 : So 4 (gW G) h) (hf : hK h l1 = 29 ∧ (∃ b2, fR h l1 317 = some b2 ∧ (hK h b2 = 1008 ∧ (((Int32.ofNat (hL h b2)) ≤ l3 → (∃ b6, fR h l1 318 = some b6 ∧ (∃ (k : Nat) (ν : Mu), VT ⟨"LetMill$Exp", "resolve", "(LLetMill$Scope;)V"⟩ VMExp_resolve k ν ∧ hK h b6 = k + 1 ∧ C G ν d [.ref (b6), .ref (gW G 4)] h (KV Q (fun h8 => C G mX9_back d [.ref (gW G 4), .int (l2)] h8 (KV Q (fun h10 => Q (.returned none) h10))))))) ∧ (¬ ((Int32.ofNat (hL h b2)) ≤ l3) → (∃ b15, fR h l1 317 = some b15 ∧ (hK h b15 = 1008 ∧ vp_in l3 (hL h b15) ∧ ∃ b19, aR h b15 l3.toNatClampNeg = some b19 ∧ (∃ (k : Nat) (ν : Mu), VT ⟨"LetMill$Pat", "resolveFrom", "(LLetMill$Scope;I)V"⟩ VMPat_resolveFrom k ν ∧ hK h b19 = k + 1 ∧ C G ν d [.ref (b19), .ref (gW G 4), .int (l2)] h (KV Q (fun h21 => ∀ x23 : Int32, x23 = l3 + 1 → (X G mX9_clause (d + 1) none [] 7 [(0, .ref (gW G 4)), (1, .ref (l1)), (2, .int (l2)), (3, .int (x23))] [] h21 Q))))))))))) : X G mX9_clause (d + 1) none [] 7 [(0, .ref (gW G 4)), (1, .ref (l1)), (2, .int (l2)), (3, .int (l3))] [] h Q := by
  refine x_iload_n (pc' := 8) 3 (dX9_clause 5 rfl rfl) rfl rfl rfl ?_
  refine x_aload_n (pc' := 9) 1 (dX9_clause 6 rfl rfl) rfl rfl rfl ?_
  obtain ⟨k1, hf⟩ := hf
  obtain ⟨b2, e3, hf⟩ := hf
  refine x_getR (pc' := 12) (dX9_clause 7 rfl rfl) g317 q1498 (Or.inl rfl) rfl (hf_of 28 k1 rfl (by decide) m28_317) e3 ?_
  obtain ⟨k4, hf⟩ := hf
  refine x_alen (pc' := 13) (t := 8) (ty := .object "LetMill$Pat") (dX9_clause 8 rfl rfl) rfl rfl k4 ?_
  refine x_icmp_ge (pc' := 16) (tgt := 33) (dX9_clause 9 rfl rfl) (by decide) rfl (fun c5 => ?_) (fun c5 => ?_)
  · replace hf := hf.1 c5
    refine x_aload_n (pc' := 34) 1 (dX9_clause 19 rfl rfl) rfl rfl rfl ?_
    obtain ⟨b6, e7, hf⟩ := hf
    refine x_getR (pc' := 37) (dX9_clause 20 rfl rfl) g318 q1502 (Or.inl rfl) rfl (hf_of 28 k1 rfl (by decide) m28_318) e7 ?_
    refine x_aload_n (pc' := 38) 0 (dX9_clause 21 rfl rfl) rfl rfl rfl ?_
    obtain ⟨k, ν, ⟨v0, v1, v2, v3, v4, v5, v6, v7⟩, k12, hf⟩ := hf
    refine x_inv (pc' := 41) (ν := ν) (st := []) rfl (sub_tr v7 rfl) (dX9_clause 22 rfl rfl) (by have := v5; simp only [List.map, List.sum_cons, List.sum_nil, Value.category]; omega) v1 v2 (inv_U (k := k) (av := [_]) (dX9_clause 22 rfl rfl) q2249 q2251 (by decide) v3 v4 (by decide) (show _ = some 1 by decide +kernel) v0 k12) (exN v6) rfl ?_
    refine C.mono hf (fun _ _ => KV.g (fun h8 hf le9 => ?_))
    replace le9 := Le.nx v6 le9
    have k1 := leK le9 k1 (by decide)
    have k4 := leK le9 k4 (by decide)
    replace s4 := s4.le sc4 (le9)
    refine x_aload_n (pc' := 42) 0 (dX9_clause 23 rfl rfl) rfl rfl rfl ?_
    refine x_iload_n (pc' := 43) 2 (dX9_clause 24 rfl rfl) rfl rfl rfl ?_
    refine x_inv (pc' := 46) (ν := mX9_back) (av := [_, _]) (st := []) rfl rfl (dX9_clause 25 rfl rfl) (Nat.le_of_ble_eq_true rfl) wX9_back q223 (inv_V (k := 7) (dX9_clause 25 rfl rfl) q2307 q2308 q2309 wX9_back (by decide) lX9_back (by decide) s4.1) (exN (by decide)) rfl ?_
    refine C.mono hf (fun _ _ => KV.g (fun h10 hf le11 => ?_))
    have k1 := leK le11 k1 (by decide)
    have k4 := leK le11 k4 (by decide)
    replace s4 := s4.le sc4 (le11)
    exact x_vret (dX9_clause 26 rfl rfl) rfl hf
  · replace hf := hf.2 c5
    refine x_aload_n (pc' := 17) 1 (dX9_clause 10 rfl rfl) rfl rfl rfl ?_
    obtain ⟨b15, e16, hf⟩ := hf
    refine x_getR (pc' := 20) (dX9_clause 11 rfl rfl) g317 q1498 (Or.inl rfl) rfl (hf_of 28 k1 rfl (by decide) m28_317) e16 ?_
    refine x_iload_n (pc' := 21) 3 (dX9_clause 12 rfl rfl) rfl rfl rfl ?_
    obtain ⟨k17, hf⟩ := hf
    obtain ⟨i18, hf⟩ := hf
    obtain ⟨b19, e20, hf⟩ := hf
    refine x_aald (pc' := 22) (t := 8) (C := "LetMill$Pat") (dX9_clause 13 rfl rfl) rfl (by decide) rfl k17 i18 e20 ?_
    refine x_aload_n (pc' := 23) 0 (dX9_clause 14 rfl rfl) rfl rfl rfl ?_
    refine x_iload_n (pc' := 24) 2 (dX9_clause 15 rfl rfl) rfl rfl rfl ?_
    obtain ⟨k, ν, ⟨v0, v1, v2, v3, v4, v5, v6, v7⟩, k24, hf⟩ := hf
    refine x_inv (pc' := 27) (ν := ν) (st := []) rfl (sub_tr v7 rfl) (dX9_clause 16 rfl rfl) (by have := v5; simp only [List.map, List.sum_cons, List.sum_nil, Value.category]; omega) v1 v2 (inv_U (k := k) (av := [_, _]) (dX9_clause 16 rfl rfl) q2207 q2209 (by decide) v3 v4 (by decide) (show _ = some 2 by decide +kernel) v0 k24) (exN v6) rfl ?_
    refine C.mono hf (fun _ _ => KV.g (fun h21 hf le22 => ?_))
    replace le22 := Le.nx v6 le22
    have k1 := leK le22 k1 (by decide)
    have k4 := leK le22 k4 (by decide)
    have k17 := leK le22 k17 (by decide)
    replace s4 := s4.le sc4 (le22)
    replace hf := hf _ rfl
    refine x_iinc (pc' := 30) 3 (dX9_clause 17 rfl rfl) rfl (by rfl) (by decide) rfl rfl ?_
    refine x_goto (tgt := 7) (dX9_clause 18 rfl rfl) (by decide) ?_
    exact X.sub [1, 2, 3, 0] rfl (by simp) hf
theorem bX9_con (G : Gh) (d : Nat) (h : AH) (Q : Outcome → AH → Prop) (p1 : Int32) (s4 : So 4 (gW G) h) (hf : ∀ x1 : Int32, x1 = (fI h (gW G 1086) 78) - 1 → (X G mX9_con (d + 1) none [] 10 [(0, .ref (gW G 4)), (1, .int (p1)), (2, .int (x1))] [] h Q)) : C G mX9_con (d + 1) [.ref (gW G 4), .int (p1)] h Q := by
  refine C.of_X (by decide +kernel) (Nat.le_of_ble_eq_true rfl) wX9_con ?_
  show X G mX9_con (d + 1) none [] 0 [(0, .ref (gW G 4)), (1, .int (p1))] [] h Q
  refine x_aload_n (pc' := 1) 0 (dX9_con 0 rfl rfl) rfl rfl rfl ?_
  refine x_getR (pc' := 4) (dX9_con 1 rfl rfl) g86 q696 (Or.inl rfl) rfl (hf_of 7 s4.1 rfl (by decide) m7_86) (s4.2 3 _ rfl rfl).1 ?_
  refine x_getI (pc' := 7) (dX9_con 2 rfl rfl) g78 q575 (Or.inl rfl) rfl (hf_of 5 (s4.2 3 _ rfl rfl).2.1 rfl (by decide) m5_78) ?_
  refine x_iconst (pc' := 8) (v := 1) (dX9_con 3 rfl rfl) (by decide) rfl ?_
  refine x_isub (pc' := 9) (dX9_con 4 rfl rfl) rfl ?_
  replace hf := hf _ rfl
  refine x_istore_n (pc' := 10) (dX9_con 5 rfl rfl) rfl (by decide) rfl rfl ?_
  exact X.sub [1, 2, 0] rfl (by simp) hf
theorem bX9_con_10 (G : Gh) (d : Nat) (h : AH) (Q : Outcome → AH → Prop) (l1 : Int32) (l2 : Int32) (s4 : So 4 (gW G) h) (hf : (l2 < 0 → (C G mX9_found d [.ref (gW G 4), .int (2), .int (l1)] h (KV Q (fun h2 => Q (.returned (some (.null))) h2)))) ∧ (¬ (l2 < 0) → (C G mX7_get d [.ref (gW G 1086), .int (l2)] h (KR Q (fun b6 h4 => hK h4 b6 = 54 ∧ (C G mX7_get d [.ref (gW G 1086), .int (l2)] h4 (KR Q (fun b10 h8 => hK h8 b10 = 54 ∧ (C G mX9_is d [.ref (gW G 4), .long (fJ h4 b6 366), .long (fJ h8 b10 367), .int (l1)] h8 (KI Q (fun x14 h12 => (x14 = 0 → (∀ x16 : Int32, x16 = l2 + (-1) → (X G mX9_con (d + 1) none [] 10 [(0, .ref (gW G 4)), (1, .int (l1)), (2, .int (x16))] [] h12 Q))) ∧ (¬ x14 = 0 → (C G mX7_get d [.ref (gW G 1086), .int (l2)] h12 (KR Q (fun b19 h17 => hK h17 b19 = 54 ∧ (Q (.returned (some (.ref (b19)))) h17)))))))))))))))) : X G mX9_con (d + 1) none [] 10 [(0, .ref (gW G 4)), (1, .int (l1)), (2, .int (l2))] [] h Q := by
  refine x_iload_n (pc' := 11) 2 (dX9_con 6 rfl rfl) rfl rfl rfl ?_
  refine x_if_lt (pc' := 14) (tgt := 68) (dX9_con 7 rfl rfl) (by decide) rfl (fun c1 => ?_) (fun c1 => ?_)
  · replace hf := hf.1 c1
    refine x_aload_n (pc' := 69) 0 (dX9_con 32 rfl rfl) rfl rfl rfl ?_
    refine x_iconst (pc' := 70) (v := 2) (dX9_con 33 rfl rfl) (by decide) rfl ?_
    refine x_iload_n (pc' := 71) 1 (dX9_con 34 rfl rfl) rfl rfl rfl ?_
    refine x_inv (pc' := 74) (ν := mX9_found) (av := [_, _, _]) (st := []) rfl rfl (dX9_con 35 rfl rfl) (Nat.le_of_ble_eq_true rfl) wX9_found q223 (inv_V (k := 7) (dX9_con 35 rfl rfl) q2110 q2061 q2062 wX9_found (by decide) lX9_found (by decide) s4.1) (exN (by decide)) rfl ?_
    refine C.mono hf (fun _ _ => KV.g (fun h2 hf le3 => ?_))
    replace s4 := s4.le sc4 (le3)
    refine x_null (pc' := 75) (dX9_con 36 rfl rfl) rfl ?_
    exact x_aret (dX9_con 37 rfl rfl) rfl (Or.inl ⟨_, rfl⟩) (Or.inl rfl) hf
  · replace hf := hf.2 c1
    refine x_aload_n (pc' := 15) 0 (dX9_con 8 rfl rfl) rfl rfl rfl ?_
    refine x_aload_n (pc' := 16) 0 (dX9_con 9 rfl rfl) rfl rfl rfl ?_
    refine x_getR (pc' := 19) (dX9_con 10 rfl rfl) g86 q696 (Or.inl rfl) rfl (hf_of 7 s4.1 rfl (by decide) m7_86) (s4.2 3 _ rfl rfl).1 ?_
    refine x_iload_n (pc' := 20) 2 (dX9_con 11 rfl rfl) rfl rfl rfl ?_
    refine x_inv (pc' := 23) (ν := mX7_get) (av := [_, _]) (st := [_]) rfl rfl (dX9_con 12 rfl rfl) (Nat.le_of_ble_eq_true rfl) wX7_get q221 (inv_V (k := 5) (dX9_con 12 rfl rfl) q2105 q1414 q1415 wX7_get (by decide) lX7_get (by decide) (s4.2 3 _ rfl rfl).2.1) (exN (by decide)) rfl ?_
    refine C.mono hf (fun _ _ => KR.g (fun b6 h4 hf le5 => ?_))
    replace s4 := s4.le sc4 (le5)
    obtain ⟨k7, hf⟩ := hf
    refine x_castS (pc' := 26) (k := 53) (dX9_con 13 rfl rfl) q2220 (by decide) k7 rfl ?_
    refine x_getJ (pc' := 29) (dX9_con 14 rfl rfl) g366 q2136 (Or.inl rfl) rfl (hf_of 53 k7 rfl (by decide) m53_366) ?_
    refine x_aload_n (pc' := 30) 0 (dX9_con 15 rfl rfl) rfl rfl rfl ?_
    refine x_getR (pc' := 33) (dX9_con 16 rfl rfl) g86 q696 (Or.inl rfl) rfl (hf_of 7 s4.1 rfl (by decide) m7_86) (s4.2 3 _ rfl rfl).1 ?_
    refine x_iload_n (pc' := 34) 2 (dX9_con 17 rfl rfl) rfl rfl rfl ?_
    refine x_inv (pc' := 37) (ν := mX7_get) (av := [_, _]) (st := [_, _]) rfl rfl (dX9_con 18 rfl rfl) (Nat.le_of_ble_eq_true rfl) wX7_get q221 (inv_V (k := 5) (dX9_con 18 rfl rfl) q2105 q1414 q1415 wX7_get (by decide) lX7_get (by decide) (s4.2 3 _ rfl rfl).2.1) (exN (by decide)) rfl ?_
    refine C.mono hf (fun _ _ => KR.g (fun b10 h8 hf le9 => ?_))
    have k7 := leK le9 k7 (by decide)
    replace s4 := s4.le sc4 (le9)
    obtain ⟨k11, hf⟩ := hf
    refine x_castS (pc' := 40) (k := 53) (dX9_con 19 rfl rfl) q2220 (by decide) k11 rfl ?_
    refine x_getJ (pc' := 43) (dX9_con 20 rfl rfl) g367 q2139 (Or.inl rfl) rfl (hf_of 53 k11 rfl (by decide) m53_367) ?_
    refine x_iload_n (pc' := 44) 1 (dX9_con 21 rfl rfl) rfl rfl rfl ?_
    refine x_inv (pc' := 47) (ν := mX9_is) (av := [_, _, _, _]) (st := []) rfl rfl (dX9_con 22 rfl rfl) (Nat.le_of_ble_eq_true rfl) wX9_is q223 (inv_V (k := 7) (dX9_con 22 rfl rfl) q2056 q2058 qs36 wX9_is (by decide) lX9_is (by decide) s4.1) (exN (by decide)) rfl ?_
    refine C.mono hf (fun _ _ => KI.g (fun x14 h12 hf le13 => ?_))
    have k7 := leK le13 k7 (by decide)
    have k11 := leK le13 k11 (by decide)
    replace s4 := s4.le sc4 (le13)
    refine x_if_eq (pc' := 50) (tgt := 62) (dX9_con 23 rfl rfl) (by decide) rfl (fun c15 => ?_) (fun c15 => ?_)
    · replace hf := hf.1 c15
      replace hf := hf _ rfl
      refine x_iinc (pc' := 65) 2 (dX9_con 30 rfl rfl) rfl (by rfl) (by decide) rfl rfl ?_
      refine x_goto (tgt := 10) (dX9_con 31 rfl rfl) (by decide) ?_
      exact X.sub [1, 2, 0] rfl (by simp) hf
    · replace hf := hf.2 c15
      refine x_aload_n (pc' := 51) 0 (dX9_con 24 rfl rfl) rfl rfl rfl ?_
      refine x_getR (pc' := 54) (dX9_con 25 rfl rfl) g86 q696 (Or.inl rfl) rfl (hf_of 7 s4.1 rfl (by decide) m7_86) (s4.2 3 _ rfl rfl).1 ?_
      refine x_iload_n (pc' := 55) 2 (dX9_con 26 rfl rfl) rfl rfl rfl ?_
      refine x_inv (pc' := 58) (ν := mX7_get) (av := [_, _]) (st := []) rfl rfl (dX9_con 27 rfl rfl) (Nat.le_of_ble_eq_true rfl) wX7_get q221 (inv_V (k := 5) (dX9_con 27 rfl rfl) q2105 q1414 q1415 wX7_get (by decide) lX7_get (by decide) (s4.2 3 _ rfl rfl).2.1) (exN (by decide)) rfl ?_
      refine C.mono hf (fun _ _ => KR.g (fun b19 h17 hf le18 => ?_))
      have k7 := leK le18 k7 (by decide)
      have k11 := leK le18 k11 (by decide)
      replace s4 := s4.le sc4 (le18)
      obtain ⟨k20, hf⟩ := hf
      refine x_castS (pc' := 61) (k := 53) (dX9_con 28 rfl rfl) q2220 (by decide) k20 rfl ?_
      exact x_aret (dX9_con 29 rfl rfl) rfl (Or.inl ⟨_, rfl⟩) (Or.inr ⟨_, rfl⟩) hf
theorem bX9_name (G : Gh) (d : Nat) (h : AH) (Q : Outcome → AH → Prop) (p1 : Int32) (s4 : So 4 (gW G) h) (hf : ∀ x1 : Int32, x1 = (fI h (gW G 4) 83) - 1 → (X G mX9_name (d + 1) none [] 7 [(0, .ref (gW G 4)), (1, .int (p1)), (2, .int (x1))] [] h Q)) : C G mX9_name (d + 1) [.ref (gW G 4), .int (p1)] h Q := by
  refine C.of_X (by decide +kernel) (Nat.le_of_ble_eq_true rfl) wX9_name ?_
  show X G mX9_name (d + 1) none [] 0 [(0, .ref (gW G 4)), (1, .int (p1))] [] h Q
  refine x_aload_n (pc' := 1) 0 (dX9_name 0 rfl rfl) rfl rfl rfl ?_
  refine x_getI (pc' := 4) (dX9_name 1 rfl rfl) g83 q690 (Or.inl rfl) rfl (hf_of 7 s4.1 rfl (by decide) m7_83) ?_
  refine x_iconst (pc' := 5) (v := 1) (dX9_name 2 rfl rfl) (by decide) rfl ?_
  refine x_isub (pc' := 6) (dX9_name 3 rfl rfl) rfl ?_
  replace hf := hf _ rfl
  refine x_istore_n (pc' := 7) (dX9_name 4 rfl rfl) rfl (by decide) rfl rfl ?_
  exact X.sub [1, 2, 0] rfl (by simp) hf
theorem bX9_name_7 (G : Gh) (d : Nat) (h : AH) (Q : Outcome → AH → Prop) (l1 : Int32) (l2 : Int32) (s4 : So 4 (gW G) h) (hf : (l2 < 0 → (∀ x2 : Int32, x2 = (fI h (gW G 1087) 78) - 1 → (X G mX9_name (d + 1) none [] 60 [(0, .ref (gW G 4)), (1, .int (l1)), (2, .int (x2))] [] h Q))) ∧ (¬ (l2 < 0) → (∃ b3, fR h (gW G 4) 82 = some b3 ∧ (hK h b3 = 1007 ∧ vp_in l2 (hL h b3) ∧ ∃ b7, aR h b3 l2.toNatClampNeg = some b7 ∧ (hK h b7 = 13 ∧ (∃ b10, fR h (gW G 4) 82 = some b10 ∧ (hK h b10 = 1007 ∧ vp_in l2 (hL h b10) ∧ ∃ b14, aR h b10 l2.toNatClampNeg = some b14 ∧ (hK h b14 = 13 ∧ (C G mX9_is d [.ref (gW G 4), .long (fJ h b7 125), .long (fJ h b14 126), .int (l1)] h (KI Q (fun x19 h17 => (x19 = 0 → (∀ x21 : Int32, x21 = l2 + (-1) → (X G mX9_name (d + 1) none [] 7 [(0, .ref (gW G 4)), (1, .int (l1)), (2, .int (x21))] [] h17 Q))) ∧ (¬ x19 = 0 → (∃ b22, fR h17 (gW G 4) 82 = some b22 ∧ (hK h17 b22 = 1007 ∧ vp_in l2 (hL h17 b22) ∧ ∃ b26, aR h17 b22 l2.toNatClampNeg = some b26 ∧ (Q (.returned (some (.ref (b26)))) h17))))))))))))))) : X G mX9_name (d + 1) none [] 7 [(0, .ref (gW G 4)), (1, .int (l1)), (2, .int (l2))] [] h Q := by
  refine x_iload_n (pc' := 8) 2 (dX9_name 5 rfl rfl) rfl rfl rfl ?_
  refine x_if_lt (pc' := 11) (tgt := 50) (dX9_name 6 rfl rfl) (by decide) rfl (fun c1 => ?_) (fun c1 => ?_)
  · replace hf := hf.1 c1
    refine x_aload_n (pc' := 51) 0 (dX9_name 28 rfl rfl) rfl rfl rfl ?_
    refine x_getR (pc' := 54) (dX9_name 29 rfl rfl) g87 q697 (Or.inl rfl) rfl (hf_of 7 s4.1 rfl (by decide) m7_87) (s4.2 4 _ rfl rfl).1 ?_
    refine x_getI (pc' := 57) (dX9_name 30 rfl rfl) g78 q575 (Or.inl rfl) rfl (hf_of 5 (s4.2 4 _ rfl rfl).2.1 rfl (by decide) m5_78) ?_
    refine x_iconst (pc' := 58) (v := 1) (dX9_name 31 rfl rfl) (by decide) rfl ?_
    refine x_isub (pc' := 59) (dX9_name 32 rfl rfl) rfl ?_
    replace hf := hf _ rfl
    refine x_istore_n (pc' := 60) (dX9_name 33 rfl rfl) rfl (by decide) rfl rfl ?_
    exact X.sub [1, 2, 0] rfl (by simp) hf
  · replace hf := hf.2 c1
    refine x_aload_n (pc' := 12) 0 (dX9_name 7 rfl rfl) rfl rfl rfl ?_
    refine x_aload_n (pc' := 13) 0 (dX9_name 8 rfl rfl) rfl rfl rfl ?_
    obtain ⟨b3, e4, hf⟩ := hf
    refine x_getR (pc' := 16) (dX9_name 9 rfl rfl) g82 q686 (Or.inl rfl) rfl (hf_of 7 s4.1 rfl (by decide) m7_82) e4 ?_
    refine x_iload_n (pc' := 17) 2 (dX9_name 10 rfl rfl) rfl rfl rfl ?_
    obtain ⟨k5, hf⟩ := hf
    obtain ⟨i6, hf⟩ := hf
    obtain ⟨b7, e8, hf⟩ := hf
    refine x_aald (pc' := 18) (t := 7) (C := "LetMill$Binding") (dX9_name 11 rfl rfl) rfl (by decide) rfl k5 i6 e8 ?_
    obtain ⟨k9, hf⟩ := hf
    refine x_getJ (pc' := 21) (dX9_name 12 rfl rfl) g125 q918 (Or.inl rfl) rfl (hf_of 12 k9 rfl (by decide) m12_125) ?_
    refine x_aload_n (pc' := 22) 0 (dX9_name 13 rfl rfl) rfl rfl rfl ?_
    obtain ⟨b10, e11, hf⟩ := hf
    refine x_getR (pc' := 25) (dX9_name 14 rfl rfl) g82 q686 (Or.inl rfl) rfl (hf_of 7 s4.1 rfl (by decide) m7_82) e11 ?_
    refine x_iload_n (pc' := 26) 2 (dX9_name 15 rfl rfl) rfl rfl rfl ?_
    obtain ⟨k12, hf⟩ := hf
    obtain ⟨i13, hf⟩ := hf
    obtain ⟨b14, e15, hf⟩ := hf
    refine x_aald (pc' := 27) (t := 7) (C := "LetMill$Binding") (dX9_name 16 rfl rfl) rfl (by decide) rfl k12 i13 e15 ?_
    obtain ⟨k16, hf⟩ := hf
    refine x_getJ (pc' := 30) (dX9_name 17 rfl rfl) g126 q921 (Or.inl rfl) rfl (hf_of 12 k16 rfl (by decide) m12_126) ?_
    refine x_iload_n (pc' := 31) 1 (dX9_name 18 rfl rfl) rfl rfl rfl ?_
    refine x_inv (pc' := 34) (ν := mX9_is) (av := [_, _, _, _]) (st := []) rfl rfl (dX9_name 19 rfl rfl) (Nat.le_of_ble_eq_true rfl) wX9_is q223 (inv_V (k := 7) (dX9_name 19 rfl rfl) q2056 q2058 qs36 wX9_is (by decide) lX9_is (by decide) s4.1) (exN (by decide)) rfl ?_
    refine C.mono hf (fun _ _ => KI.g (fun x19 h17 hf le18 => ?_))
    have k5 := leK le18 k5 (by decide)
    have k9 := leK le18 k9 (by decide)
    have k12 := leK le18 k12 (by decide)
    have k16 := leK le18 k16 (by decide)
    replace s4 := s4.le sc4 (le18)
    refine x_if_eq (pc' := 37) (tgt := 44) (dX9_name 20 rfl rfl) (by decide) rfl (fun c20 => ?_) (fun c20 => ?_)
    · replace hf := hf.1 c20
      replace hf := hf _ rfl
      refine x_iinc (pc' := 47) 2 (dX9_name 26 rfl rfl) rfl (by rfl) (by decide) rfl rfl ?_
      refine x_goto (tgt := 7) (dX9_name 27 rfl rfl) (by decide) ?_
      exact X.sub [1, 2, 0] rfl (by simp) hf
    · replace hf := hf.2 c20
      refine x_aload_n (pc' := 38) 0 (dX9_name 21 rfl rfl) rfl rfl rfl ?_
      obtain ⟨b22, e23, hf⟩ := hf
      refine x_getR (pc' := 41) (dX9_name 22 rfl rfl) g82 q686 (Or.inl rfl) rfl (hf_of 7 s4.1 rfl (by decide) m7_82) e23 ?_
      refine x_iload_n (pc' := 42) 2 (dX9_name 23 rfl rfl) rfl rfl rfl ?_
      obtain ⟨k24, hf⟩ := hf
      obtain ⟨i25, hf⟩ := hf
      obtain ⟨b26, e27, hf⟩ := hf
      refine x_aald (pc' := 43) (t := 7) (C := "LetMill$Binding") (dX9_name 24 rfl rfl) rfl (by decide) rfl k24 i25 e27 ?_
      exact x_aret (dX9_name 25 rfl rfl) rfl (Or.inl ⟨_, rfl⟩) (Or.inr ⟨_, rfl⟩) hf
theorem bX9_name_60 (G : Gh) (d : Nat) (h : AH) (Q : Outcome → AH → Prop) (l1 : Int32) (l2 : Int32) (s4 : So 4 (gW G) h) (hf : (l2 < 0 → (X G mX9_name (d + 1) none [] 120 [(0, .ref (gW G 4)), (1, .int (l1)), (2, .int (0))] [] h Q)) ∧ (¬ (l2 < 0) → (C G mX7_get d [.ref (gW G 1087), .int (l2)] h (KR Q (fun b4 h2 => hK h2 b4 = 13 ∧ (C G mX7_get d [.ref (gW G 1087), .int (l2)] h2 (KR Q (fun b8 h6 => hK h6 b8 = 13 ∧ (C G mX9_is d [.ref (gW G 4), .long (fJ h2 b4 125), .long (fJ h6 b8 126), .int (l1)] h6 (KI Q (fun x12 h10 => (x12 = 0 → (∀ x14 : Int32, x14 = l2 + (-1) → (X G mX9_name (d + 1) none [] 60 [(0, .ref (gW G 4)), (1, .int (l1)), (2, .int (x14))] [] h10 Q))) ∧ (¬ x12 = 0 → (C G mX7_get d [.ref (gW G 1087), .int (l2)] h10 (KR Q (fun b17 h15 => hK h15 b17 = 13 ∧ (Q (.returned (some (.ref (b17)))) h15)))))))))))))))) : X G mX9_name (d + 1) none [] 60 [(0, .ref (gW G 4)), (1, .int (l1)), (2, .int (l2))] [] h Q := by
  refine x_iload_n (pc' := 61) 2 (dX9_name 34 rfl rfl) rfl rfl rfl ?_
  refine x_if_lt (pc' := 64) (tgt := 118) (dX9_name 35 rfl rfl) (by decide) rfl (fun c1 => ?_) (fun c1 => ?_)
  · replace hf := hf.1 c1
    refine x_iconst (pc' := 119) (v := 0) (dX9_name 60 rfl rfl) (by decide) rfl ?_
    refine x_istore_n (pc' := 120) (dX9_name 61 rfl rfl) rfl (by decide) rfl rfl ?_
    exact X.sub [1, 2, 0] rfl (by simp) hf
  · replace hf := hf.2 c1
    refine x_aload_n (pc' := 65) 0 (dX9_name 36 rfl rfl) rfl rfl rfl ?_
    refine x_aload_n (pc' := 66) 0 (dX9_name 37 rfl rfl) rfl rfl rfl ?_
    refine x_getR (pc' := 69) (dX9_name 38 rfl rfl) g87 q697 (Or.inl rfl) rfl (hf_of 7 s4.1 rfl (by decide) m7_87) (s4.2 4 _ rfl rfl).1 ?_
    refine x_iload_n (pc' := 70) 2 (dX9_name 39 rfl rfl) rfl rfl rfl ?_
    refine x_inv (pc' := 73) (ν := mX7_get) (av := [_, _]) (st := [_]) rfl rfl (dX9_name 40 rfl rfl) (Nat.le_of_ble_eq_true rfl) wX7_get q221 (inv_V (k := 5) (dX9_name 40 rfl rfl) q2105 q1414 q1415 wX7_get (by decide) lX7_get (by decide) (s4.2 4 _ rfl rfl).2.1) (exN (by decide)) rfl ?_
    refine C.mono hf (fun _ _ => KR.g (fun b4 h2 hf le3 => ?_))
    replace s4 := s4.le sc4 (le3)
    obtain ⟨k5, hf⟩ := hf
    refine x_castS (pc' := 76) (k := 12) (dX9_name 41 rfl rfl) q680 (by decide) k5 rfl ?_
    refine x_getJ (pc' := 79) (dX9_name 42 rfl rfl) g125 q918 (Or.inl rfl) rfl (hf_of 12 k5 rfl (by decide) m12_125) ?_
    refine x_aload_n (pc' := 80) 0 (dX9_name 43 rfl rfl) rfl rfl rfl ?_
    refine x_getR (pc' := 83) (dX9_name 44 rfl rfl) g87 q697 (Or.inl rfl) rfl (hf_of 7 s4.1 rfl (by decide) m7_87) (s4.2 4 _ rfl rfl).1 ?_
    refine x_iload_n (pc' := 84) 2 (dX9_name 45 rfl rfl) rfl rfl rfl ?_
    refine x_inv (pc' := 87) (ν := mX7_get) (av := [_, _]) (st := [_, _]) rfl rfl (dX9_name 46 rfl rfl) (Nat.le_of_ble_eq_true rfl) wX7_get q221 (inv_V (k := 5) (dX9_name 46 rfl rfl) q2105 q1414 q1415 wX7_get (by decide) lX7_get (by decide) (s4.2 4 _ rfl rfl).2.1) (exN (by decide)) rfl ?_
    refine C.mono hf (fun _ _ => KR.g (fun b8 h6 hf le7 => ?_))
    have k5 := leK le7 k5 (by decide)
    replace s4 := s4.le sc4 (le7)
    obtain ⟨k9, hf⟩ := hf
    refine x_castS (pc' := 90) (k := 12) (dX9_name 47 rfl rfl) q680 (by decide) k9 rfl ?_
    refine x_getJ (pc' := 93) (dX9_name 48 rfl rfl) g126 q921 (Or.inl rfl) rfl (hf_of 12 k9 rfl (by decide) m12_126) ?_
    refine x_iload_n (pc' := 94) 1 (dX9_name 49 rfl rfl) rfl rfl rfl ?_
    refine x_inv (pc' := 97) (ν := mX9_is) (av := [_, _, _, _]) (st := []) rfl rfl (dX9_name 50 rfl rfl) (Nat.le_of_ble_eq_true rfl) wX9_is q223 (inv_V (k := 7) (dX9_name 50 rfl rfl) q2056 q2058 qs36 wX9_is (by decide) lX9_is (by decide) s4.1) (exN (by decide)) rfl ?_
    refine C.mono hf (fun _ _ => KI.g (fun x12 h10 hf le11 => ?_))
    have k5 := leK le11 k5 (by decide)
    have k9 := leK le11 k9 (by decide)
    replace s4 := s4.le sc4 (le11)
    refine x_if_eq (pc' := 100) (tgt := 112) (dX9_name 51 rfl rfl) (by decide) rfl (fun c13 => ?_) (fun c13 => ?_)
    · replace hf := hf.1 c13
      replace hf := hf _ rfl
      refine x_iinc (pc' := 115) 2 (dX9_name 58 rfl rfl) rfl (by rfl) (by decide) rfl rfl ?_
      refine x_goto (tgt := 60) (dX9_name 59 rfl rfl) (by decide) ?_
      exact X.sub [1, 2, 0] rfl (by simp) hf
    · replace hf := hf.2 c13
      refine x_aload_n (pc' := 101) 0 (dX9_name 52 rfl rfl) rfl rfl rfl ?_
      refine x_getR (pc' := 104) (dX9_name 53 rfl rfl) g87 q697 (Or.inl rfl) rfl (hf_of 7 s4.1 rfl (by decide) m7_87) (s4.2 4 _ rfl rfl).1 ?_
      refine x_iload_n (pc' := 105) 2 (dX9_name 54 rfl rfl) rfl rfl rfl ?_
      refine x_inv (pc' := 108) (ν := mX7_get) (av := [_, _]) (st := []) rfl rfl (dX9_name 55 rfl rfl) (Nat.le_of_ble_eq_true rfl) wX7_get q221 (inv_V (k := 5) (dX9_name 55 rfl rfl) q2105 q1414 q1415 wX7_get (by decide) lX7_get (by decide) (s4.2 4 _ rfl rfl).2.1) (exN (by decide)) rfl ?_
      refine C.mono hf (fun _ _ => KR.g (fun b17 h15 hf le16 => ?_))
      have k5 := leK le16 k5 (by decide)
      have k9 := leK le16 k9 (by decide)
      replace s4 := s4.le sc4 (le16)
      obtain ⟨k18, hf⟩ := hf
      refine x_castS (pc' := 111) (k := 12) (dX9_name 56 rfl rfl) q680 (by decide) k18 rfl ?_
      exact x_aret (dX9_name 57 rfl rfl) rfl (Or.inl ⟨_, rfl⟩) (Or.inr ⟨_, rfl⟩) hf
theorem bX9_name_120 (G : Gh) (d : Nat) (h : AH) (Q : Outcome → AH → Prop) (l1 : Int32) (l2 : Int32) (s4 : So 4 (gW G) h) (hf : ((fI h (gW G 1088) 78) ≤ l2 → (C G mX9_found d [.ref (gW G 4), .int (2), .int (l1)] h (KV Q (fun h2 => Q (.returned (some (.null))) h2)))) ∧ (¬ ((fI h (gW G 1088) 78) ≤ l2) → (C G mX7_get d [.ref (gW G 1088), .int (l2)] h (KR Q (fun b6 h4 => hK h4 b6 = 13 ∧ (C G mX7_get d [.ref (gW G 1088), .int (l2)] h4 (KR Q (fun b10 h8 => hK h8 b10 = 13 ∧ (C G mX9_is d [.ref (gW G 4), .long (fJ h4 b6 125), .long (fJ h8 b10 126), .int (l1)] h8 (KI Q (fun x14 h12 => (x14 = 0 → (∀ x16 : Int32, x16 = l2 + 1 → (X G mX9_name (d + 1) none [] 120 [(0, .ref (gW G 4)), (1, .int (l1)), (2, .int (x16))] [] h12 Q))) ∧ (¬ x14 = 0 → (C G mX7_get d [.ref (gW G 1088), .int (l2)] h12 (KR Q (fun b19 h17 => hK h17 b19 = 13 ∧ (Q (.returned (some (.ref (b19)))) h17)))))))))))))))) : X G mX9_name (d + 1) none [] 120 [(0, .ref (gW G 4)), (1, .int (l1)), (2, .int (l2))] [] h Q := by
  refine x_iload_n (pc' := 121) 2 (dX9_name 62 rfl rfl) rfl rfl rfl ?_
  refine x_aload_n (pc' := 122) 0 (dX9_name 63 rfl rfl) rfl rfl rfl ?_
  refine x_getR (pc' := 125) (dX9_name 64 rfl rfl) g88 q699 (Or.inl rfl) rfl (hf_of 7 s4.1 rfl (by decide) m7_88) (s4.2 5 _ rfl rfl).1 ?_
  refine x_getI (pc' := 128) (dX9_name 65 rfl rfl) g78 q575 (Or.inl rfl) rfl (hf_of 5 (s4.2 5 _ rfl rfl).2.1 rfl (by decide) m5_78) ?_
  refine x_icmp_ge (pc' := 131) (tgt := 185) (dX9_name 66 rfl rfl) (by decide) rfl (fun c1 => ?_) (fun c1 => ?_)
  · replace hf := hf.1 c1
    refine x_aload_n (pc' := 186) 0 (dX9_name 91 rfl rfl) rfl rfl rfl ?_
    refine x_iconst (pc' := 187) (v := 2) (dX9_name 92 rfl rfl) (by decide) rfl ?_
    refine x_iload_n (pc' := 188) 1 (dX9_name 93 rfl rfl) rfl rfl rfl ?_
    refine x_inv (pc' := 191) (ν := mX9_found) (av := [_, _, _]) (st := []) rfl rfl (dX9_name 94 rfl rfl) (Nat.le_of_ble_eq_true rfl) wX9_found q223 (inv_V (k := 7) (dX9_name 94 rfl rfl) q2110 q2061 q2062 wX9_found (by decide) lX9_found (by decide) s4.1) (exN (by decide)) rfl ?_
    refine C.mono hf (fun _ _ => KV.g (fun h2 hf le3 => ?_))
    replace s4 := s4.le sc4 (le3)
    refine x_null (pc' := 192) (dX9_name 95 rfl rfl) rfl ?_
    exact x_aret (dX9_name 96 rfl rfl) rfl (Or.inl ⟨_, rfl⟩) (Or.inl rfl) hf
  · replace hf := hf.2 c1
    refine x_aload_n (pc' := 132) 0 (dX9_name 67 rfl rfl) rfl rfl rfl ?_
    refine x_aload_n (pc' := 133) 0 (dX9_name 68 rfl rfl) rfl rfl rfl ?_
    refine x_getR (pc' := 136) (dX9_name 69 rfl rfl) g88 q699 (Or.inl rfl) rfl (hf_of 7 s4.1 rfl (by decide) m7_88) (s4.2 5 _ rfl rfl).1 ?_
    refine x_iload_n (pc' := 137) 2 (dX9_name 70 rfl rfl) rfl rfl rfl ?_
    refine x_inv (pc' := 140) (ν := mX7_get) (av := [_, _]) (st := [_]) rfl rfl (dX9_name 71 rfl rfl) (Nat.le_of_ble_eq_true rfl) wX7_get q221 (inv_V (k := 5) (dX9_name 71 rfl rfl) q2105 q1414 q1415 wX7_get (by decide) lX7_get (by decide) (s4.2 5 _ rfl rfl).2.1) (exN (by decide)) rfl ?_
    refine C.mono hf (fun _ _ => KR.g (fun b6 h4 hf le5 => ?_))
    replace s4 := s4.le sc4 (le5)
    obtain ⟨k7, hf⟩ := hf
    refine x_castS (pc' := 143) (k := 12) (dX9_name 72 rfl rfl) q680 (by decide) k7 rfl ?_
    refine x_getJ (pc' := 146) (dX9_name 73 rfl rfl) g125 q918 (Or.inl rfl) rfl (hf_of 12 k7 rfl (by decide) m12_125) ?_
    refine x_aload_n (pc' := 147) 0 (dX9_name 74 rfl rfl) rfl rfl rfl ?_
    refine x_getR (pc' := 150) (dX9_name 75 rfl rfl) g88 q699 (Or.inl rfl) rfl (hf_of 7 s4.1 rfl (by decide) m7_88) (s4.2 5 _ rfl rfl).1 ?_
    refine x_iload_n (pc' := 151) 2 (dX9_name 76 rfl rfl) rfl rfl rfl ?_
    refine x_inv (pc' := 154) (ν := mX7_get) (av := [_, _]) (st := [_, _]) rfl rfl (dX9_name 77 rfl rfl) (Nat.le_of_ble_eq_true rfl) wX7_get q221 (inv_V (k := 5) (dX9_name 77 rfl rfl) q2105 q1414 q1415 wX7_get (by decide) lX7_get (by decide) (s4.2 5 _ rfl rfl).2.1) (exN (by decide)) rfl ?_
    refine C.mono hf (fun _ _ => KR.g (fun b10 h8 hf le9 => ?_))
    have k7 := leK le9 k7 (by decide)
    replace s4 := s4.le sc4 (le9)
    obtain ⟨k11, hf⟩ := hf
    refine x_castS (pc' := 157) (k := 12) (dX9_name 78 rfl rfl) q680 (by decide) k11 rfl ?_
    refine x_getJ (pc' := 160) (dX9_name 79 rfl rfl) g126 q921 (Or.inl rfl) rfl (hf_of 12 k11 rfl (by decide) m12_126) ?_
    refine x_iload_n (pc' := 161) 1 (dX9_name 80 rfl rfl) rfl rfl rfl ?_
    refine x_inv (pc' := 164) (ν := mX9_is) (av := [_, _, _, _]) (st := []) rfl rfl (dX9_name 81 rfl rfl) (Nat.le_of_ble_eq_true rfl) wX9_is q223 (inv_V (k := 7) (dX9_name 81 rfl rfl) q2056 q2058 qs36 wX9_is (by decide) lX9_is (by decide) s4.1) (exN (by decide)) rfl ?_
    refine C.mono hf (fun _ _ => KI.g (fun x14 h12 hf le13 => ?_))
    have k7 := leK le13 k7 (by decide)
    have k11 := leK le13 k11 (by decide)
    replace s4 := s4.le sc4 (le13)
    refine x_if_eq (pc' := 167) (tgt := 179) (dX9_name 82 rfl rfl) (by decide) rfl (fun c15 => ?_) (fun c15 => ?_)
    · replace hf := hf.1 c15
      replace hf := hf _ rfl
      refine x_iinc (pc' := 182) 2 (dX9_name 89 rfl rfl) rfl (by rfl) (by decide) rfl rfl ?_
      refine x_goto (tgt := 120) (dX9_name 90 rfl rfl) (by decide) ?_
      exact X.sub [1, 2, 0] rfl (by simp) hf
    · replace hf := hf.2 c15
      refine x_aload_n (pc' := 168) 0 (dX9_name 83 rfl rfl) rfl rfl rfl ?_
      refine x_getR (pc' := 171) (dX9_name 84 rfl rfl) g88 q699 (Or.inl rfl) rfl (hf_of 7 s4.1 rfl (by decide) m7_88) (s4.2 5 _ rfl rfl).1 ?_
      refine x_iload_n (pc' := 172) 2 (dX9_name 85 rfl rfl) rfl rfl rfl ?_
      refine x_inv (pc' := 175) (ν := mX7_get) (av := [_, _]) (st := []) rfl rfl (dX9_name 86 rfl rfl) (Nat.le_of_ble_eq_true rfl) wX7_get q221 (inv_V (k := 5) (dX9_name 86 rfl rfl) q2105 q1414 q1415 wX7_get (by decide) lX7_get (by decide) (s4.2 5 _ rfl rfl).2.1) (exN (by decide)) rfl ?_
      refine C.mono hf (fun _ _ => KR.g (fun b19 h17 hf le18 => ?_))
      have k7 := leK le18 k7 (by decide)
      have k11 := leK le18 k11 (by decide)
      replace s4 := s4.le sc4 (le18)
      obtain ⟨k20, hf⟩ := hf
      refine x_castS (pc' := 178) (k := 12) (dX9_name 87 rfl rfl) q680 (by decide) k20 rfl ?_
      exact x_aret (dX9_name 88 rfl rfl) rfl (Or.inl ⟨_, rfl⟩) (Or.inr ⟨_, rfl⟩) hf
theorem bX9_back (G : Gh) (d : Nat) (h : AH) (Q : Outcome → AH → Prop) (p1 : Int32) (s4 : So 4 (gW G) h) (hf : ∀ h1, h1 = pI h (gW G 4) 84 ((fI h (gW G 4) 84) - ((fI h (gW G 4) 83) - p1)) → (∀ h2, h2 = pI h1 (gW G 4) 83 p1 → (Q (.returned none) h2))) : C G mX9_back d [.ref (gW G 4), .int (p1)] h Q := by
  refine C.of_X (by decide +kernel) (Nat.le_of_ble_eq_true rfl) wX9_back ?_
  show X G mX9_back d none [] 0 [(0, .ref (gW G 4)), (1, .int (p1))] [] h Q
  refine x_aload_n (pc' := 1) 0 (dX9_back 0 rfl rfl) rfl rfl rfl ?_
  refine x_dup (pc' := 2) (dX9_back 1 rfl rfl) rfl rfl ?_
  refine x_getI (pc' := 5) (dX9_back 2 rfl rfl) g84 q693 (Or.inl rfl) rfl (hf_of 7 s4.1 rfl (by decide) m7_84) ?_
  refine x_aload_n (pc' := 6) 0 (dX9_back 3 rfl rfl) rfl rfl rfl ?_
  refine x_getI (pc' := 9) (dX9_back 4 rfl rfl) g83 q690 (Or.inl rfl) rfl (hf_of 7 s4.1 rfl (by decide) m7_83) ?_
  refine x_iload_n (pc' := 10) 1 (dX9_back 5 rfl rfl) rfl rfl rfl ?_
  refine x_isub (pc' := 11) (dX9_back 6 rfl rfl) rfl ?_
  refine x_isub (pc' := 12) (dX9_back 7 rfl rfl) rfl ?_
  refine x_putI (pc' := 15) (dX9_back 8 rfl rfl) g84 q693 (Or.inl rfl) (Or.inl rfl) (Or.inl (by decide)) rfl (hf_of 7 s4.1 rfl (by decide) m7_84) (fun h1 e4 => ?_)
  replace hf := hf h1 e4
  replace s4 : So 4 (gW G) h1 := by rw [e4]; exact s4.le sc4 (pI_le (Or.inl rfl))
  refine x_aload_n (pc' := 16) 0 (dX9_back 9 rfl rfl) rfl rfl rfl ?_
  refine x_iload_n (pc' := 17) 1 (dX9_back 10 rfl rfl) rfl rfl rfl ?_
  refine x_putI (pc' := 20) (dX9_back 11 rfl rfl) g83 q690 (Or.inl rfl) (Or.inl rfl) (Or.inl (by decide)) rfl (hf_of 7 s4.1 rfl (by decide) m7_83) (fun h2 e3 => ?_)
  replace hf := hf h2 e3
  replace s4 : So 4 (gW G) h2 := by rw [e3]; exact s4.le sc4 (pI_le (Or.inl rfl))
  exact x_vret (dX9_back 12 rfl rfl) rfl hf
theorem bX9_backTypes (G : Gh) (d : Nat) (h : AH) (Q : Outcome → AH → Prop) (p1 : Int32) (p2 : Int32) (s4 : So 4 (gW G) h) (hf : ∀ h1, h1 = pI h (gW G 1085) 78 p1 → (∀ h2, h2 = pI h1 (gW G 1086) 78 p2 → (Q (.returned none) h2))) : C G mX9_backTypes d [.ref (gW G 4), .int (p1), .int (p2)] h Q := by
  refine C.of_X (by decide +kernel) (Nat.le_of_ble_eq_true rfl) wX9_backTypes ?_
  show X G mX9_backTypes d none [] 0 [(0, .ref (gW G 4)), (1, .int (p1)), (2, .int (p2))] [] h Q
  refine x_aload_n (pc' := 1) 0 (dX9_backTypes 0 rfl rfl) rfl rfl rfl ?_
  refine x_getR (pc' := 4) (dX9_backTypes 1 rfl rfl) g85 q695 (Or.inl rfl) rfl (hf_of 7 s4.1 rfl (by decide) m7_85) (s4.2 2 _ rfl rfl).1 ?_
  refine x_iload_n (pc' := 5) 1 (dX9_backTypes 2 rfl rfl) rfl rfl rfl ?_
  refine x_putI (pc' := 8) (dX9_backTypes 3 rfl rfl) g78 q575 (Or.inl rfl) (Or.inl rfl) (Or.inl (by decide)) rfl (hf_of 5 (s4.2 2 _ rfl rfl).2.1 rfl (by decide) m5_78) (fun h1 e4 => ?_)
  replace hf := hf h1 e4
  replace s4 : So 4 (gW G) h1 := by rw [e4]; exact s4.le sc4 (pI_le (Or.inl rfl))
  refine x_aload_n (pc' := 9) 0 (dX9_backTypes 4 rfl rfl) rfl rfl rfl ?_
  refine x_getR (pc' := 12) (dX9_backTypes 5 rfl rfl) g86 q696 (Or.inl rfl) rfl (hf_of 7 s4.1 rfl (by decide) m7_86) (s4.2 3 _ rfl rfl).1 ?_
  refine x_iload_n (pc' := 13) 2 (dX9_backTypes 6 rfl rfl) rfl rfl rfl ?_
  refine x_putI (pc' := 16) (dX9_backTypes 7 rfl rfl) g78 q575 (Or.inl rfl) (Or.inl rfl) (Or.inl (by decide)) rfl (hf_of 5 (s4.2 3 _ rfl rfl).2.1 rfl (by decide) m5_78) (fun h2 e3 => ?_)
  replace hf := hf h2 e3
  replace s4 : So 4 (gW G) h2 := by rw [e3]; exact s4.le sc4 (pI_le (Or.inl rfl))
  exact x_vret (dX9_backTypes 8 rfl rfl) rfl hf
theorem bX9_bound (G : Gh) (d : Nat) (h : AH) (Q : Outcome → AH → Prop) (p1 : Int32) (s4 : So 4 (gW G) h) (hf : ∃ b1, fR h (gW G 4) 82 = some b1 ∧ (hK h b1 = 1007 ∧ vp_in p1 (hL h b1) ∧ ∃ b5, aR h b1 p1.toNatClampNeg = some b5 ∧ (Q (.returned (some (.ref (b5)))) h))) : C G mX9_bound d [.ref (gW G 4), .int (p1)] h Q := by
  refine C.of_X (by decide +kernel) (Nat.le_of_ble_eq_true rfl) wX9_bound ?_
  show X G mX9_bound d none [] 0 [(0, .ref (gW G 4)), (1, .int (p1))] [] h Q
  refine x_aload_n (pc' := 1) 0 (dX9_bound 0 rfl rfl) rfl rfl rfl ?_
  obtain ⟨b1, e2, hf⟩ := hf
  refine x_getR (pc' := 4) (dX9_bound 1 rfl rfl) g82 q686 (Or.inl rfl) rfl (hf_of 7 s4.1 rfl (by decide) m7_82) e2 ?_
  refine x_iload_n (pc' := 5) 1 (dX9_bound 2 rfl rfl) rfl rfl rfl ?_
  obtain ⟨k3, hf⟩ := hf
  obtain ⟨i4, hf⟩ := hf
  obtain ⟨b5, e6, hf⟩ := hf
  refine x_aald (pc' := 6) (t := 7) (C := "LetMill$Binding") (dX9_bound 3 rfl rfl) rfl (by decide) rfl k3 i4 e6 ?_
  exact x_aret (dX9_bound 4 rfl rfl) rfl (Or.inl ⟨_, rfl⟩) (Or.inr ⟨_, rfl⟩) hf
theorem bX9_typeAt (G : Gh) (d : Nat) (h : AH) (Q : Outcome → AH → Prop) (p1 : Int32) (s4 : So 4 (gW G) h) (hf : C G mX7_get d [.ref (gW G 1085), .int (p1)] h (KR Q (fun b3 h1 => hK h1 b3 = 4 ∧ (Q (.returned (some (.ref (b3)))) h1)))) : C G mX9_typeAt (d + 1) [.ref (gW G 4), .int (p1)] h Q := by
  refine C.of_X (by decide +kernel) (Nat.le_of_ble_eq_true rfl) wX9_typeAt ?_
  show X G mX9_typeAt (d + 1) none [] 0 [(0, .ref (gW G 4)), (1, .int (p1))] [] h Q
  refine x_aload_n (pc' := 1) 0 (dX9_typeAt 0 rfl rfl) rfl rfl rfl ?_
  refine x_getR (pc' := 4) (dX9_typeAt 1 rfl rfl) g85 q695 (Or.inl rfl) rfl (hf_of 7 s4.1 rfl (by decide) m7_85) (s4.2 2 _ rfl rfl).1 ?_
  refine x_iload_n (pc' := 5) 1 (dX9_typeAt 2 rfl rfl) rfl rfl rfl ?_
  refine x_inv (pc' := 8) (ν := mX7_get) (av := [_, _]) (st := []) rfl rfl (dX9_typeAt 3 rfl rfl) (Nat.le_of_ble_eq_true rfl) wX7_get q221 (inv_V (k := 5) (dX9_typeAt 3 rfl rfl) q2105 q1414 q1415 wX7_get (by decide) lX7_get (by decide) (s4.2 2 _ rfl rfl).2.1) (exN (by decide)) rfl ?_
  refine C.mono hf (fun _ _ => KR.g (fun b3 h1 hf le2 => ?_))
  replace s4 := s4.le sc4 (le2)
  obtain ⟨k4, hf⟩ := hf
  refine x_castS (pc' := 11) (k := 3) (dX9_typeAt 4 rfl rfl) q2072 (by decide) k4 rfl ?_
  exact x_aret (dX9_typeAt 5 rfl rfl) rfl (Or.inl ⟨_, rfl⟩) (Or.inr ⟨_, rfl⟩) hf
theorem bX9_conAt (G : Gh) (d : Nat) (h : AH) (Q : Outcome → AH → Prop) (p1 : Int32) (s4 : So 4 (gW G) h) (hf : C G mX7_get d [.ref (gW G 1086), .int (p1)] h (KR Q (fun b3 h1 => hK h1 b3 = 54 ∧ (Q (.returned (some (.ref (b3)))) h1)))) : C G mX9_conAt (d + 1) [.ref (gW G 4), .int (p1)] h Q := by
  refine C.of_X (by decide +kernel) (Nat.le_of_ble_eq_true rfl) wX9_conAt ?_
  show X G mX9_conAt (d + 1) none [] 0 [(0, .ref (gW G 4)), (1, .int (p1))] [] h Q
  refine x_aload_n (pc' := 1) 0 (dX9_conAt 0 rfl rfl) rfl rfl rfl ?_
  refine x_getR (pc' := 4) (dX9_conAt 1 rfl rfl) g86 q696 (Or.inl rfl) rfl (hf_of 7 s4.1 rfl (by decide) m7_86) (s4.2 3 _ rfl rfl).1 ?_
  refine x_iload_n (pc' := 5) 1 (dX9_conAt 2 rfl rfl) rfl rfl rfl ?_
  refine x_inv (pc' := 8) (ν := mX7_get) (av := [_, _]) (st := []) rfl rfl (dX9_conAt 3 rfl rfl) (Nat.le_of_ble_eq_true rfl) wX7_get q221 (inv_V (k := 5) (dX9_conAt 3 rfl rfl) q2105 q1414 q1415 wX7_get (by decide) lX7_get (by decide) (s4.2 3 _ rfl rfl).2.1) (exN (by decide)) rfl ?_
  refine C.mono hf (fun _ _ => KR.g (fun b3 h1 hf le2 => ?_))
  replace s4 := s4.le sc4 (le2)
  obtain ⟨k4, hf⟩ := hf
  refine x_castS (pc' := 11) (k := 53) (dX9_conAt 4 rfl rfl) q2220 (by decide) k4 rfl ?_
  exact x_aret (dX9_conAt 5 rfl rfl) rfl (Or.inl ⟨_, rfl⟩) (Or.inr ⟨_, rfl⟩) hf
theorem bX9_forget (G : Gh) (d : Nat) (h : AH) (Q : Outcome → AH → Prop)  (s4 : So 4 (gW G) h) (hf : ∀ h1, h1 = pI h (gW G 1085) 78 (fI h (gW G 4) 94) → (∀ h2, h2 = pI h1 (gW G 1086) 78 (fI h1 (gW G 4) 93) → (Q (.returned none) h2))) : C G mX9_forget d [.ref (gW G 4)] h Q := by
  refine C.of_X (by decide +kernel) (Nat.le_of_ble_eq_true rfl) wX9_forget ?_
  show X G mX9_forget d none [] 0 [(0, .ref (gW G 4))] [] h Q
  refine x_aload_n (pc' := 1) 0 (dX9_forget 0 rfl rfl) rfl rfl rfl ?_
  refine x_getR (pc' := 4) (dX9_forget 1 rfl rfl) g85 q695 (Or.inl rfl) rfl (hf_of 7 s4.1 rfl (by decide) m7_85) (s4.2 2 _ rfl rfl).1 ?_
  refine x_aload_n (pc' := 5) 0 (dX9_forget 2 rfl rfl) rfl rfl rfl ?_
  refine x_getI (pc' := 8) (dX9_forget 3 rfl rfl) g94 q708 (Or.inl rfl) rfl (hf_of 7 s4.1 rfl (by decide) m7_94) ?_
  refine x_putI (pc' := 11) (dX9_forget 4 rfl rfl) g78 q575 (Or.inl rfl) (Or.inl rfl) (Or.inl (by decide)) rfl (hf_of 5 (s4.2 2 _ rfl rfl).2.1 rfl (by decide) m5_78) (fun h1 e4 => ?_)
  replace hf := hf h1 e4
  replace s4 : So 4 (gW G) h1 := by rw [e4]; exact s4.le sc4 (pI_le (Or.inl rfl))
  refine x_aload_n (pc' := 12) 0 (dX9_forget 5 rfl rfl) rfl rfl rfl ?_
  refine x_getR (pc' := 15) (dX9_forget 6 rfl rfl) g86 q696 (Or.inl rfl) rfl (hf_of 7 s4.1 rfl (by decide) m7_86) (s4.2 3 _ rfl rfl).1 ?_
  refine x_aload_n (pc' := 16) 0 (dX9_forget 7 rfl rfl) rfl rfl rfl ?_
  refine x_getI (pc' := 19) (dX9_forget 8 rfl rfl) g93 q706 (Or.inl rfl) rfl (hf_of 7 s4.1 rfl (by decide) m7_93) ?_
  refine x_putI (pc' := 22) (dX9_forget 9 rfl rfl) g78 q575 (Or.inl rfl) (Or.inl rfl) (Or.inl (by decide)) rfl (hf_of 5 (s4.2 3 _ rfl rfl).2.1 rfl (by decide) m5_78) (fun h2 e3 => ?_)
  replace hf := hf h2 e3
  replace s4 : So 4 (gW G) h2 := by rw [e3]; exact s4.le sc4 (pI_le (Or.inl rfl))
  exact x_vret (dX9_forget 10 rfl rfl) rfl hf
theorem bX9_drop (G : Gh) (d : Nat) (h : AH) (Q : Outcome → AH → Prop)  (s3 : So 3 (gW G) h) (s4 : So 4 (gW G) h) (hf : C G mX9_forget d [.ref (gW G 4)] h (KV Q (fun h1 => ∀ h3, h3 = pI h1 (gW G 1059) 78 (fI h1 (gW G 4) 90) → (Q (.returned none) h3)))) : C G mX9_drop (d + 1) [.ref (gW G 4)] h Q := by
  refine C.of_X (by decide +kernel) (Nat.le_of_ble_eq_true rfl) wX9_drop ?_
  show X G mX9_drop (d + 1) none [] 0 [(0, .ref (gW G 4))] [] h Q
  refine x_aload_n (pc' := 1) 0 (dX9_drop 0 rfl rfl) rfl rfl rfl ?_
  refine x_inv (pc' := 4) (ν := mX9_forget) (av := [_]) (st := []) rfl rfl (dX9_drop 1 rfl rfl) (Nat.le_of_ble_eq_true rfl) wX9_forget q223 (inv_V (k := 7) (dX9_drop 1 rfl rfl) q2852 q2837 q2838 wX9_forget (by decide) lX9_forget (by decide) s4.1) (exN (by decide)) rfl ?_
  refine C.mono hf (fun _ _ => KV.g (fun h1 hf le2 => ?_))
  replace s3 := s3.le sc3 (le2)
  replace s4 := s4.le sc4 (le2)
  refine x_aload_n (pc' := 5) 0 (dX9_drop 2 rfl rfl) rfl rfl rfl ?_
  refine x_getR (pc' := 8) (dX9_drop 3 rfl rfl) g89 q700 (Or.inl rfl) rfl (hf_of 7 s4.1 rfl (by decide) m7_89) (s4.2 6 _ rfl rfl).1 ?_
  refine x_aload_n (pc' := 9) 0 (dX9_drop 4 rfl rfl) rfl rfl rfl ?_
  refine x_getI (pc' := 12) (dX9_drop 5 rfl rfl) g90 q701 (Or.inl rfl) rfl (hf_of 7 s4.1 rfl (by decide) m7_90) ?_
  refine x_putI (pc' := 15) (dX9_drop 6 rfl rfl) g78 q575 (Or.inl rfl) (Or.inl rfl) (Or.inl (by decide)) rfl (hf_of 5 (s3.2 3 _ rfl rfl).2.1 rfl (by decide) m5_78) (fun h3 e4 => ?_)
  replace hf := hf h3 e4
  replace s3 : So 3 (gW G) h3 := by rw [e4]; exact s3.le sc3 (pI_le (Or.inl rfl))
  replace s4 : So 4 (gW G) h3 := by rw [e4]; exact s4.le sc4 (pI_le (Or.inl rfl))
  exact x_vret (dX9_drop 7 rfl rfl) rfl hf
theorem bX9_keep (G : Gh) (d : Nat) (h : AH) (Q : Outcome → AH → Prop) (p1 : Nat) (hf : X G mX9_keep (d + 1) none [] 4 [(0, .ref (gW G 4)), (1, .ref (p1)), (2, .int (0)), (3, .int (0))] [] h Q) : C G mX9_keep (d + 1) [.ref (gW G 4), .ref (p1)] h Q := by
  refine C.of_X (by decide +kernel) (Nat.le_of_ble_eq_true rfl) wX9_keep ?_
  show X G mX9_keep (d + 1) none [] 0 [(0, .ref (gW G 4)), (1, .ref (p1))] [] h Q
  refine x_iconst (pc' := 1) (v := 0) (dX9_keep 0 rfl rfl) (by decide) rfl ?_
  refine x_istore_n (pc' := 2) (dX9_keep 1 rfl rfl) rfl (by decide) rfl rfl ?_
  refine x_iconst (pc' := 3) (v := 0) (dX9_keep 2 rfl rfl) (by decide) rfl ?_
  refine x_istore_n (pc' := 4) (dX9_keep 3 rfl rfl) rfl (by decide) rfl rfl ?_
  exact X.sub [2, 3, 1, 0] rfl (by simp) hf
theorem bX9_keep_4 (G : Gh) (d : Nat) (h : AH) (Q : Outcome → AH → Prop) (l1 : Nat) (l2 : Int32) (l3 : Int32) (s4 : So 4 (gW G) h) (hf : ((fI h (gW G 1087) 78) ≤ l3 → (∀ h2, h2 = pI h (gW G 1087) 78 l2 → (hK h2 l1 = 13 ∧ (∀ h4, h4 = pI h2 l1 129 ((-1)) → (C G mX7_add d [.ref (gW G 1087), .ref (l1)] h4 (KV Q (fun h5 => Q (.returned none) h5))))))) ∧ (¬ ((fI h (gW G 1087) 78) ≤ l3) → (C G mX7_get d [.ref (gW G 1087), .int (l3)] h (KR Q (fun b11 h9 => hK h9 b11 = 13 ∧ (hK h9 l1 = 13 ∧ (((lg_cmp (fJ h9 b11 125) (fJ h9 l1 125)) = 0 → (((lg_cmp (fJ h9 b11 126) (fJ h9 l1 126)) = 0 → (∀ x24 : Int32, x24 = l3 + 1 → (X G mX9_keep (d + 1) none [] 4 [(0, .ref (gW G 4)), (1, .ref (l1)), (2, .int (l2)), (3, .int (x24))] [] h9 Q))) ∧ (¬ ((lg_cmp (fJ h9 b11 126) (fJ h9 l1 126)) = 0) → (C G mX7_set d [.ref (gW G 1087), .int (l2), .ref (b11)] h9 (KV Q (fun h20 => ∀ x22 : Int32, x22 = l2 + 1 → (∀ x23 : Int32, x23 = l3 + 1 → (X G mX9_keep (d + 1) none [] 4 [(0, .ref (gW G 4)), (1, .ref (l1)), (2, .int (x22)), (3, .int (x23))] [] h20 Q)))))))) ∧ (¬ ((lg_cmp (fJ h9 b11 125) (fJ h9 l1 125)) = 0) → (C G mX7_set d [.ref (gW G 1087), .int (l2), .ref (b11)] h9 (KV Q (fun h15 => ∀ x17 : Int32, x17 = l2 + 1 → (∀ x18 : Int32, x18 = l3 + 1 → (X G mX9_keep (d + 1) none [] 4 [(0, .ref (gW G 4)), (1, .ref (l1)), (2, .int (x17)), (3, .int (x18))] [] h15 Q))))))))))))) : X G mX9_keep (d + 1) none [] 4 [(0, .ref (gW G 4)), (1, .ref (l1)), (2, .int (l2)), (3, .int (l3))] [] h Q := by
  refine x_iload_n (pc' := 5) 3 (dX9_keep 4 rfl rfl) rfl rfl rfl ?_
  refine x_aload_n (pc' := 6) 0 (dX9_keep 5 rfl rfl) rfl rfl rfl ?_
  refine x_getR (pc' := 9) (dX9_keep 6 rfl rfl) g87 q697 (Or.inl rfl) rfl (hf_of 7 s4.1 rfl (by decide) m7_87) (s4.2 4 _ rfl rfl).1 ?_
  refine x_getI (pc' := 12) (dX9_keep 7 rfl rfl) g78 q575 (Or.inl rfl) rfl (hf_of 5 (s4.2 4 _ rfl rfl).2.1 rfl (by decide) m5_78) ?_
  refine x_icmp_ge (pc' := 15) (tgt := 76) (dX9_keep 8 rfl rfl) (by decide) rfl (fun c1 => ?_) (fun c1 => ?_)
  · replace hf := hf.1 c1
    refine x_aload_n (pc' := 77) 0 (dX9_keep 36 rfl rfl) rfl rfl rfl ?_
    refine x_getR (pc' := 80) (dX9_keep 37 rfl rfl) g87 q697 (Or.inl rfl) rfl (hf_of 7 s4.1 rfl (by decide) m7_87) (s4.2 4 _ rfl rfl).1 ?_
    refine x_iload_n (pc' := 81) 2 (dX9_keep 38 rfl rfl) rfl rfl rfl ?_
    refine x_putI (pc' := 84) (dX9_keep 39 rfl rfl) g78 q575 (Or.inl rfl) (Or.inl rfl) (Or.inl (by decide)) rfl (hf_of 5 (s4.2 4 _ rfl rfl).2.1 rfl (by decide) m5_78) (fun h2 e8 => ?_)
    replace hf := hf h2 e8
    replace s4 : So 4 (gW G) h2 := by rw [e8]; exact s4.le sc4 (pI_le (Or.inl rfl))
    refine x_aload_n (pc' := 85) 1 (dX9_keep 40 rfl rfl) rfl rfl rfl ?_
    refine x_iconst (pc' := 86) (v := -1) (dX9_keep 41 rfl rfl) (by decide) rfl ?_
    obtain ⟨k3, hf⟩ := hf
    refine x_putI (pc' := 89) (dX9_keep 42 rfl rfl) g129 q928 (Or.inl rfl) (Or.inl rfl) (Or.inl (by decide)) rfl (hf_of 12 k3 rfl (by decide) m12_129) (fun h4 e7 => ?_)
    replace hf := hf h4 e7
    replace k3 : hK h4 l1 = 13 := by rw [e7]; exact k3
    replace s4 : So 4 (gW G) h4 := by rw [e7]; exact s4.le sc4 (pI_le (Or.inl rfl))
    refine x_aload_n (pc' := 90) 0 (dX9_keep 43 rfl rfl) rfl rfl rfl ?_
    refine x_getR (pc' := 93) (dX9_keep 44 rfl rfl) g87 q697 (Or.inl rfl) rfl (hf_of 7 s4.1 rfl (by decide) m7_87) (s4.2 4 _ rfl rfl).1 ?_
    refine x_aload_n (pc' := 94) 1 (dX9_keep 45 rfl rfl) rfl rfl rfl ?_
    refine x_inv (pc' := 97) (ν := mX7_add) (av := [_, _]) (st := []) rfl rfl (dX9_keep 46 rfl rfl) (Nat.le_of_ble_eq_true rfl) wX7_add q221 (inv_V (k := 5) (dX9_keep 46 rfl rfl) q953 q590 q591 wX7_add (by decide) lX7_add (by decide) (s4.2 4 _ rfl rfl).2.1) (exN (by decide)) rfl ?_
    refine C.mono hf (fun _ _ => KV.g (fun h5 hf le6 => ?_))
    have k3 := leK le6 k3 (by decide)
    replace s4 := s4.le sc4 (le6)
    exact x_vret (dX9_keep 47 rfl rfl) rfl hf
  · replace hf := hf.2 c1
    refine x_aload_n (pc' := 16) 0 (dX9_keep 9 rfl rfl) rfl rfl rfl ?_
    refine x_getR (pc' := 19) (dX9_keep 10 rfl rfl) g87 q697 (Or.inl rfl) rfl (hf_of 7 s4.1 rfl (by decide) m7_87) (s4.2 4 _ rfl rfl).1 ?_
    refine x_iload_n (pc' := 20) 3 (dX9_keep 11 rfl rfl) rfl rfl rfl ?_
    refine x_inv (pc' := 23) (ν := mX7_get) (av := [_, _]) (st := []) rfl rfl (dX9_keep 12 rfl rfl) (Nat.le_of_ble_eq_true rfl) wX7_get q221 (inv_V (k := 5) (dX9_keep 12 rfl rfl) q2105 q1414 q1415 wX7_get (by decide) lX7_get (by decide) (s4.2 4 _ rfl rfl).2.1) (exN (by decide)) rfl ?_
    refine C.mono hf (fun _ _ => KR.g (fun b11 h9 hf le10 => ?_))
    replace s4 := s4.le sc4 (le10)
    obtain ⟨k12, hf⟩ := hf
    refine x_castS (pc' := 26) (k := 12) (dX9_keep 13 rfl rfl) q680 (by decide) k12 rfl ?_
    refine x_astore (pc' := 28) (dX9_keep 14 rfl rfl) (by decide) rfl rfl ?_
    refine x_aload (pc' := 30) 0 (dX9_keep 15 rfl rfl) rfl rfl ?_
    refine x_getJ (pc' := 33) (dX9_keep 16 rfl rfl) g125 q918 (Or.inl rfl) rfl (hf_of 12 k12 rfl (by decide) m12_125) ?_
    refine x_aload_n (pc' := 34) 2 (dX9_keep 17 rfl rfl) rfl rfl rfl ?_
    obtain ⟨k13, hf⟩ := hf
    refine x_getJ (pc' := 37) (dX9_keep 18 rfl rfl) g125 q918 (Or.inl rfl) rfl (hf_of 12 k13 rfl (by decide) m12_125) ?_
    refine x_lcmp (pc' := 38) (dX9_keep 19 rfl rfl) rfl ?_
    refine x_if_ne (pc' := 41) (tgt := 57) (dX9_keep 20 rfl rfl) (by decide) rfl (fun c14 => ?_) (fun c14 => ?_)
    · replace hf := hf.2 c14
      refine x_aload_n (pc' := 58) 1 (dX9_keep 28 rfl rfl) rfl rfl rfl ?_
      refine x_getR (pc' := 61) (dX9_keep 29 rfl rfl) g87 q697 (Or.inl rfl) rfl (hf_of 7 s4.1 rfl (by decide) m7_87) (s4.2 4 _ rfl rfl).1 ?_
      refine x_iload_n (pc' := 62) 3 (dX9_keep 30 rfl rfl) rfl rfl rfl ?_
      refine x_aload (pc' := 64) 0 (dX9_keep 31 rfl rfl) rfl rfl ?_
      refine x_inv (pc' := 67) (ν := mX7_set) (av := [_, _, _]) (st := []) rfl rfl (dX9_keep 32 rfl rfl) (Nat.le_of_ble_eq_true rfl) wX7_set q221 (inv_V (k := 5) (dX9_keep 32 rfl rfl) q3297 q3298 q3299 wX7_set (by decide) lX7_set (by decide) (s4.2 4 _ rfl rfl).2.1) (exN (by decide)) rfl ?_
      refine C.mono hf (fun _ _ => KV.g (fun h15 hf le16 => ?_))
      have k12 := leK le16 k12 (by decide)
      have k13 := leK le16 k13 (by decide)
      replace s4 := s4.le sc4 (le16)
      replace hf := hf _ rfl
      refine x_iinc (pc' := 70) 3 (dX9_keep 33 rfl rfl) rfl (by rfl) (by decide) rfl rfl ?_
      replace hf := hf _ rfl
      refine x_iinc (pc' := 73) 4 (dX9_keep 34 rfl rfl) rfl (by rfl) (by decide) rfl rfl ?_
      refine x_goto (tgt := 4) (dX9_keep 35 rfl rfl) (by decide) ?_
      exact X.sub [3, 4, 1, 0] rfl (by simp) hf
    · replace hf := hf.1 (Classical.not_not.mp c14)
      replace c14 := Classical.not_not.mp c14
      refine x_aload (pc' := 43) 0 (dX9_keep 21 rfl rfl) rfl rfl ?_
      refine x_getJ (pc' := 46) (dX9_keep 22 rfl rfl) g126 q921 (Or.inl rfl) rfl (hf_of 12 k12 rfl (by decide) m12_126) ?_
      refine x_aload_n (pc' := 47) 2 (dX9_keep 23 rfl rfl) rfl rfl rfl ?_
      refine x_getJ (pc' := 50) (dX9_keep 24 rfl rfl) g126 q921 (Or.inl rfl) rfl (hf_of 12 k13 rfl (by decide) m12_126) ?_
      refine x_lcmp (pc' := 51) (dX9_keep 25 rfl rfl) rfl ?_
      refine x_if_ne (pc' := 54) (tgt := 57) (dX9_keep 26 rfl rfl) (by decide) rfl (fun c19 => ?_) (fun c19 => ?_)
      · replace hf := hf.2 c19
        refine x_aload_n (pc' := 58) 1 (dX9_keep 28 rfl rfl) rfl rfl rfl ?_
        refine x_getR (pc' := 61) (dX9_keep 29 rfl rfl) g87 q697 (Or.inl rfl) rfl (hf_of 7 s4.1 rfl (by decide) m7_87) (s4.2 4 _ rfl rfl).1 ?_
        refine x_iload_n (pc' := 62) 3 (dX9_keep 30 rfl rfl) rfl rfl rfl ?_
        refine x_aload (pc' := 64) 0 (dX9_keep 31 rfl rfl) rfl rfl ?_
        refine x_inv (pc' := 67) (ν := mX7_set) (av := [_, _, _]) (st := []) rfl rfl (dX9_keep 32 rfl rfl) (Nat.le_of_ble_eq_true rfl) wX7_set q221 (inv_V (k := 5) (dX9_keep 32 rfl rfl) q3297 q3298 q3299 wX7_set (by decide) lX7_set (by decide) (s4.2 4 _ rfl rfl).2.1) (exN (by decide)) rfl ?_
        refine C.mono hf (fun _ _ => KV.g (fun h20 hf le21 => ?_))
        have k12 := leK le21 k12 (by decide)
        have k13 := leK le21 k13 (by decide)
        replace s4 := s4.le sc4 (le21)
        replace hf := hf _ rfl
        refine x_iinc (pc' := 70) 3 (dX9_keep 33 rfl rfl) rfl (by rfl) (by decide) rfl rfl ?_
        replace hf := hf _ rfl
        refine x_iinc (pc' := 73) 4 (dX9_keep 34 rfl rfl) rfl (by rfl) (by decide) rfl rfl ?_
        refine x_goto (tgt := 4) (dX9_keep 35 rfl rfl) (by decide) ?_
        exact X.sub [3, 4, 1, 0] rfl (by simp) hf
      · replace hf := hf.1 (Classical.not_not.mp c19)
        replace c19 := Classical.not_not.mp c19
        refine x_goto (tgt := 70) (dX9_keep 27 rfl rfl) (by decide) ?_
        replace hf := hf _ rfl
        refine x_iinc (pc' := 73) 4 (dX9_keep 34 rfl rfl) rfl (by rfl) (by decide) rfl rfl ?_
        refine x_goto (tgt := 4) (dX9_keep 35 rfl rfl) (by decide) ?_
        exact X.sub [2, 3, 4, 0] rfl (by simp) hf
theorem bX10_init (G : Gh) (d : Nat) (hd1 : 1 ≤ d) (h : AH) (Q : Outcome → AH → Prop) (a0 : Nat) (hf : (¬ (1000 : Int32) < 0) ∧ (hc h + 1 ≤ MC) ∧ (hs h + (1000 : Int32).toNatClampNeg ≤ MS) ∧ ∀ q1, hK h q1 = 0 → ∀ h3, h3 = nA h q1 0 (1000 : Int32).toNatClampNeg → (hK h3 a0 = 9 ∧ (∀ h8, h8 = pR h3 a0 96 (some q1) → ((¬ (1000 : Int32) < 0) ∧ (hc h8 + 1 ≤ MC) ∧ (hs h8 + (1000 : Int32).toNatClampNeg ≤ MS) ∧ ∀ q9, hK h8 q9 = 0 → ∀ h11, h11 = nA h8 q9 0 (1000 : Int32).toNatClampNeg → (∀ h15, h15 = pR h11 a0 97 (some q9) → ((¬ (1000 : Int32) < 0) ∧ (hc h15 + 1 ≤ MC) ∧ (hs h15 + (1000 : Int32).toNatClampNeg ≤ MS) ∧ ∀ q16, hK h15 q16 = 0 → ∀ h18, h18 = nA h15 q16 0 (1000 : Int32).toNatClampNeg → (∀ h22, h22 = pR h18 a0 98 (some q16) → ((¬ (1000 : Int32) < 0) ∧ (hc h22 + 1 ≤ MC) ∧ (hs h22 + (1000 : Int32).toNatClampNeg ≤ MS) ∧ ∀ q23, hK h22 q23 = 0 → ∀ h25, h25 = nA h22 q23 0 (1000 : Int32).toNatClampNeg → (∀ h29, h29 = pR h25 a0 99 (some q23) → ((¬ (1000 : Int32) < 0) ∧ (hc h29 + 1 ≤ MC) ∧ (hs h29 + (1000 : Int32).toNatClampNeg ≤ MS) ∧ ∀ q30, hK h29 q30 = 0 → ∀ h32, h32 = nA h29 q30 0 (1000 : Int32).toNatClampNeg → (∀ h36, h36 = pR h32 a0 100 (some q30) → ((¬ (220000 : Int32) < 0) ∧ (hc h36 + 1 ≤ MC) ∧ (hs h36 + (220000 : Int32).toNatClampNeg ≤ MS) ∧ ∀ q37, hK h36 q37 = 0 → ∀ h39, h39 = nA h36 q37 0 (220000 : Int32).toNatClampNeg → (∀ h43, h43 = pR h39 a0 103 (some q37) → ((¬ (2000 : Int32) < 0) ∧ (hc h43 + 1 ≤ MC) ∧ (hs h43 + (2000 : Int32).toNatClampNeg ≤ MS) ∧ ∀ q44, hK h43 q44 = 0 → ∀ h46, h46 = nA h43 q44 0 (2000 : Int32).toNatClampNeg → (∀ h50, h50 = pR h46 a0 104 (some q44) → ((¬ (2000 : Int32) < 0) ∧ (hc h50 + 1 ≤ MC) ∧ (hs h50 + (2000 : Int32).toNatClampNeg ≤ MS) ∧ ∀ q51, hK h50 q51 = 0 → ∀ h53, h53 = nA h50 q51 0 (2000 : Int32).toNatClampNeg → (∀ h57, h57 = pR h53 a0 105 (some q51) → ((¬ (200 : Int32) < 0) ∧ (hc h57 + 1 ≤ MC) ∧ (hs h57 + (200 : Int32).toNatClampNeg ≤ MS) ∧ ∀ q58, hK h57 q58 = 0 → ∀ h60, h60 = nA h57 q58 0 (200 : Int32).toNatClampNeg → (∀ h64, h64 = pR h60 a0 107 (some q58) → (Q (.returned none) h64)))))))))))))))))))) : C G mX10_init d [.ref (a0)] h Q := by
  refine C.of_X (by decide +kernel) (Nat.le_of_ble_eq_true rfl) wX10_init ?_
  show X G mX10_init d (some a0) [] 0 [(0, .ref (a0))] [] h Q
  refine x_aload_n (pc' := 1) 0 (dX10_init 0 rfl rfl) rfl rfl rfl ?_
  refine x_objInit (pc' := 4) (dX10_init 1 rfl rfl) q749 q288 q289 (by decide) (by omega) rfl ?_
  refine x_aload_n (pc' := 5) 0 (dX10_init 2 rfl rfl) rfl rfl rfl ?_
  refine x_sipush (pc' := 8) (v := 1000) (dX10_init 3 rfl rfl) (by decide) rfl ?_
  obtain ⟨z5, n1, n2, hf⟩ := hf
  refine x_newa0 (pc' := 10) (dX10_init 4 rfl rfl) rfl z5 (by decide) n1 n2 (fun q1 h3 k2 e4 => ?_)
  replace hf := hf q1 k2 h3 e4
  have k6 : hK h3 q1 = 1000 := by rw [e4]; exact kNAs
  obtain ⟨k7, hf⟩ := hf
  refine x_putR (pc' := 13) (dX10_init 5 rfl rfl) g96 q751 (Or.inl rfl) (Or.inr ⟨rfl, rfl, rfl, rfl⟩) (Or.inr rfl) rfl (hf_of 8 k7 rfl (by decide) m8_96) (fun h8 e73 => ?_)
  replace hf := hf h8 e73
  replace k6 : hK h8 q1 = 1000 := by rw [e73]; exact k6
  replace k7 : hK h8 a0 = 9 := by rw [e73]; exact k7
  refine x_aload_n (pc' := 14) 0 (dX10_init 6 rfl rfl) rfl rfl rfl ?_
  refine x_sipush (pc' := 17) (v := 1000) (dX10_init 7 rfl rfl) (by decide) rfl ?_
  obtain ⟨z13, n1, n2, hf⟩ := hf
  refine x_newa0 (pc' := 19) (dX10_init 8 rfl rfl) rfl z13 (by decide) n1 n2 (fun q9 h11 k10 e12 => ?_)
  replace hf := hf q9 k10 h11 e12
  replace k6 : hK h11 q1 = 1000 := by rw [e12]; exact kNA k6 (by decide) k10
  replace k7 : hK h11 a0 = 9 := by rw [e12]; exact kNA k7 (by decide) k10
  have k14 : hK h11 q9 = 1000 := by rw [e12]; exact kNAs
  refine x_putR (pc' := 22) (dX10_init 9 rfl rfl) g97 q752 (Or.inl rfl) (Or.inr ⟨rfl, rfl, rfl, rfl⟩) (Or.inr rfl) rfl (hf_of 8 k7 rfl (by decide) m8_97) (fun h15 e72 => ?_)
  replace hf := hf h15 e72
  replace k6 : hK h15 q1 = 1000 := by rw [e72]; exact k6
  replace k7 : hK h15 a0 = 9 := by rw [e72]; exact k7
  replace k14 : hK h15 q9 = 1000 := by rw [e72]; exact k14
  refine x_aload_n (pc' := 23) 0 (dX10_init 10 rfl rfl) rfl rfl rfl ?_
  refine x_sipush (pc' := 26) (v := 1000) (dX10_init 11 rfl rfl) (by decide) rfl ?_
  obtain ⟨z20, n1, n2, hf⟩ := hf
  refine x_newa0 (pc' := 28) (dX10_init 12 rfl rfl) rfl z20 (by decide) n1 n2 (fun q16 h18 k17 e19 => ?_)
  replace hf := hf q16 k17 h18 e19
  replace k6 : hK h18 q1 = 1000 := by rw [e19]; exact kNA k6 (by decide) k17
  replace k7 : hK h18 a0 = 9 := by rw [e19]; exact kNA k7 (by decide) k17
  replace k14 : hK h18 q9 = 1000 := by rw [e19]; exact kNA k14 (by decide) k17
  have k21 : hK h18 q16 = 1000 := by rw [e19]; exact kNAs
  refine x_putR (pc' := 31) (dX10_init 13 rfl rfl) g98 q753 (Or.inl rfl) (Or.inr ⟨rfl, rfl, rfl, rfl⟩) (Or.inr rfl) rfl (hf_of 8 k7 rfl (by decide) m8_98) (fun h22 e71 => ?_)
  replace hf := hf h22 e71
  replace k6 : hK h22 q1 = 1000 := by rw [e71]; exact k6
  replace k7 : hK h22 a0 = 9 := by rw [e71]; exact k7
  replace k14 : hK h22 q9 = 1000 := by rw [e71]; exact k14
  replace k21 : hK h22 q16 = 1000 := by rw [e71]; exact k21
  refine x_aload_n (pc' := 32) 0 (dX10_init 14 rfl rfl) rfl rfl rfl ?_
  refine x_sipush (pc' := 35) (v := 1000) (dX10_init 15 rfl rfl) (by decide) rfl ?_
  obtain ⟨z27, n1, n2, hf⟩ := hf
  refine x_newa0 (pc' := 37) (dX10_init 16 rfl rfl) rfl z27 (by decide) n1 n2 (fun q23 h25 k24 e26 => ?_)
  replace hf := hf q23 k24 h25 e26
  replace k6 : hK h25 q1 = 1000 := by rw [e26]; exact kNA k6 (by decide) k24
  replace k7 : hK h25 a0 = 9 := by rw [e26]; exact kNA k7 (by decide) k24
  replace k14 : hK h25 q9 = 1000 := by rw [e26]; exact kNA k14 (by decide) k24
  replace k21 : hK h25 q16 = 1000 := by rw [e26]; exact kNA k21 (by decide) k24
  have k28 : hK h25 q23 = 1000 := by rw [e26]; exact kNAs
  refine x_putR (pc' := 40) (dX10_init 17 rfl rfl) g99 q754 (Or.inl rfl) (Or.inr ⟨rfl, rfl, rfl, rfl⟩) (Or.inr rfl) rfl (hf_of 8 k7 rfl (by decide) m8_99) (fun h29 e70 => ?_)
  replace hf := hf h29 e70
  replace k6 : hK h29 q1 = 1000 := by rw [e70]; exact k6
  replace k7 : hK h29 a0 = 9 := by rw [e70]; exact k7
  replace k14 : hK h29 q9 = 1000 := by rw [e70]; exact k14
  replace k21 : hK h29 q16 = 1000 := by rw [e70]; exact k21
  replace k28 : hK h29 q23 = 1000 := by rw [e70]; exact k28
  refine x_aload_n (pc' := 41) 0 (dX10_init 18 rfl rfl) rfl rfl rfl ?_
  refine x_sipush (pc' := 44) (v := 1000) (dX10_init 19 rfl rfl) (by decide) rfl ?_
  obtain ⟨z34, n1, n2, hf⟩ := hf
  refine x_newa0 (pc' := 46) (dX10_init 20 rfl rfl) rfl z34 (by decide) n1 n2 (fun q30 h32 k31 e33 => ?_)
  replace hf := hf q30 k31 h32 e33
  replace k6 : hK h32 q1 = 1000 := by rw [e33]; exact kNA k6 (by decide) k31
  replace k7 : hK h32 a0 = 9 := by rw [e33]; exact kNA k7 (by decide) k31
  replace k14 : hK h32 q9 = 1000 := by rw [e33]; exact kNA k14 (by decide) k31
  replace k21 : hK h32 q16 = 1000 := by rw [e33]; exact kNA k21 (by decide) k31
  replace k28 : hK h32 q23 = 1000 := by rw [e33]; exact kNA k28 (by decide) k31
  have k35 : hK h32 q30 = 1000 := by rw [e33]; exact kNAs
  refine x_putR (pc' := 49) (dX10_init 21 rfl rfl) g100 q755 (Or.inl rfl) (Or.inr ⟨rfl, rfl, rfl, rfl⟩) (Or.inr rfl) rfl (hf_of 8 k7 rfl (by decide) m8_100) (fun h36 e69 => ?_)
  replace hf := hf h36 e69
  replace k6 : hK h36 q1 = 1000 := by rw [e69]; exact k6
  replace k7 : hK h36 a0 = 9 := by rw [e69]; exact k7
  replace k14 : hK h36 q9 = 1000 := by rw [e69]; exact k14
  replace k21 : hK h36 q16 = 1000 := by rw [e69]; exact k21
  replace k28 : hK h36 q23 = 1000 := by rw [e69]; exact k28
  replace k35 : hK h36 q30 = 1000 := by rw [e69]; exact k35
  refine x_aload_n (pc' := 50) 0 (dX10_init 22 rfl rfl) rfl rfl rfl ?_
  refine x_ldc (pc' := 52) (dX10_init 23 rfl rfl) q750 rfl ?_
  obtain ⟨z41, n1, n2, hf⟩ := hf
  refine x_newa0 (pc' := 54) (dX10_init 24 rfl rfl) rfl z41 (by decide) n1 n2 (fun q37 h39 k38 e40 => ?_)
  replace hf := hf q37 k38 h39 e40
  replace k6 : hK h39 q1 = 1000 := by rw [e40]; exact kNA k6 (by decide) k38
  replace k7 : hK h39 a0 = 9 := by rw [e40]; exact kNA k7 (by decide) k38
  replace k14 : hK h39 q9 = 1000 := by rw [e40]; exact kNA k14 (by decide) k38
  replace k21 : hK h39 q16 = 1000 := by rw [e40]; exact kNA k21 (by decide) k38
  replace k28 : hK h39 q23 = 1000 := by rw [e40]; exact kNA k28 (by decide) k38
  replace k35 : hK h39 q30 = 1000 := by rw [e40]; exact kNA k35 (by decide) k38
  have k42 : hK h39 q37 = 1000 := by rw [e40]; exact kNAs
  refine x_putR (pc' := 57) (dX10_init 25 rfl rfl) g103 q758 (Or.inl rfl) (Or.inl rfl) (Or.inr rfl) rfl (hf_of 8 k7 rfl (by decide) m8_103) (fun h43 e68 => ?_)
  replace hf := hf h43 e68
  replace k6 : hK h43 q1 = 1000 := by rw [e68]; exact k6
  replace k7 : hK h43 a0 = 9 := by rw [e68]; exact k7
  replace k14 : hK h43 q9 = 1000 := by rw [e68]; exact k14
  replace k21 : hK h43 q16 = 1000 := by rw [e68]; exact k21
  replace k28 : hK h43 q23 = 1000 := by rw [e68]; exact k28
  replace k35 : hK h43 q30 = 1000 := by rw [e68]; exact k35
  replace k42 : hK h43 q37 = 1000 := by rw [e68]; exact k42
  refine x_aload_n (pc' := 58) 0 (dX10_init 26 rfl rfl) rfl rfl rfl ?_
  refine x_sipush (pc' := 61) (v := 2000) (dX10_init 27 rfl rfl) (by decide) rfl ?_
  obtain ⟨z48, n1, n2, hf⟩ := hf
  refine x_newa0 (pc' := 63) (dX10_init 28 rfl rfl) rfl z48 (by decide) n1 n2 (fun q44 h46 k45 e47 => ?_)
  replace hf := hf q44 k45 h46 e47
  replace k6 : hK h46 q1 = 1000 := by rw [e47]; exact kNA k6 (by decide) k45
  replace k7 : hK h46 a0 = 9 := by rw [e47]; exact kNA k7 (by decide) k45
  replace k14 : hK h46 q9 = 1000 := by rw [e47]; exact kNA k14 (by decide) k45
  replace k21 : hK h46 q16 = 1000 := by rw [e47]; exact kNA k21 (by decide) k45
  replace k28 : hK h46 q23 = 1000 := by rw [e47]; exact kNA k28 (by decide) k45
  replace k35 : hK h46 q30 = 1000 := by rw [e47]; exact kNA k35 (by decide) k45
  replace k42 : hK h46 q37 = 1000 := by rw [e47]; exact kNA k42 (by decide) k45
  have k49 : hK h46 q44 = 1000 := by rw [e47]; exact kNAs
  refine x_putR (pc' := 66) (dX10_init 29 rfl rfl) g104 q759 (Or.inl rfl) (Or.inr ⟨rfl, rfl, rfl, rfl⟩) (Or.inr rfl) rfl (hf_of 8 k7 rfl (by decide) m8_104) (fun h50 e67 => ?_)
  replace hf := hf h50 e67
  replace k6 : hK h50 q1 = 1000 := by rw [e67]; exact k6
  replace k7 : hK h50 a0 = 9 := by rw [e67]; exact k7
  replace k14 : hK h50 q9 = 1000 := by rw [e67]; exact k14
  replace k21 : hK h50 q16 = 1000 := by rw [e67]; exact k21
  replace k28 : hK h50 q23 = 1000 := by rw [e67]; exact k28
  replace k35 : hK h50 q30 = 1000 := by rw [e67]; exact k35
  replace k42 : hK h50 q37 = 1000 := by rw [e67]; exact k42
  replace k49 : hK h50 q44 = 1000 := by rw [e67]; exact k49
  refine x_aload_n (pc' := 67) 0 (dX10_init 30 rfl rfl) rfl rfl rfl ?_
  refine x_sipush (pc' := 70) (v := 2000) (dX10_init 31 rfl rfl) (by decide) rfl ?_
  obtain ⟨z55, n1, n2, hf⟩ := hf
  refine x_newa0 (pc' := 72) (dX10_init 32 rfl rfl) rfl z55 (by decide) n1 n2 (fun q51 h53 k52 e54 => ?_)
  replace hf := hf q51 k52 h53 e54
  replace k6 : hK h53 q1 = 1000 := by rw [e54]; exact kNA k6 (by decide) k52
  replace k7 : hK h53 a0 = 9 := by rw [e54]; exact kNA k7 (by decide) k52
  replace k14 : hK h53 q9 = 1000 := by rw [e54]; exact kNA k14 (by decide) k52
  replace k21 : hK h53 q16 = 1000 := by rw [e54]; exact kNA k21 (by decide) k52
  replace k28 : hK h53 q23 = 1000 := by rw [e54]; exact kNA k28 (by decide) k52
  replace k35 : hK h53 q30 = 1000 := by rw [e54]; exact kNA k35 (by decide) k52
  replace k42 : hK h53 q37 = 1000 := by rw [e54]; exact kNA k42 (by decide) k52
  replace k49 : hK h53 q44 = 1000 := by rw [e54]; exact kNA k49 (by decide) k52
  have k56 : hK h53 q51 = 1000 := by rw [e54]; exact kNAs
  refine x_putR (pc' := 75) (dX10_init 33 rfl rfl) g105 q760 (Or.inl rfl) (Or.inr ⟨rfl, rfl, rfl, rfl⟩) (Or.inr rfl) rfl (hf_of 8 k7 rfl (by decide) m8_105) (fun h57 e66 => ?_)
  replace hf := hf h57 e66
  replace k6 : hK h57 q1 = 1000 := by rw [e66]; exact k6
  replace k7 : hK h57 a0 = 9 := by rw [e66]; exact k7
  replace k14 : hK h57 q9 = 1000 := by rw [e66]; exact k14
  replace k21 : hK h57 q16 = 1000 := by rw [e66]; exact k21
  replace k28 : hK h57 q23 = 1000 := by rw [e66]; exact k28
  replace k35 : hK h57 q30 = 1000 := by rw [e66]; exact k35
  replace k42 : hK h57 q37 = 1000 := by rw [e66]; exact k42
  replace k49 : hK h57 q44 = 1000 := by rw [e66]; exact k49
  replace k56 : hK h57 q51 = 1000 := by rw [e66]; exact k56
  refine x_aload_n (pc' := 76) 0 (dX10_init 34 rfl rfl) rfl rfl rfl ?_
  refine x_sipush (pc' := 79) (v := 200) (dX10_init 35 rfl rfl) (by decide) rfl ?_
  obtain ⟨z62, n1, n2, hf⟩ := hf
  refine x_newa0 (pc' := 81) (dX10_init 36 rfl rfl) rfl z62 (by decide) n1 n2 (fun q58 h60 k59 e61 => ?_)
  replace hf := hf q58 k59 h60 e61
  replace k6 : hK h60 q1 = 1000 := by rw [e61]; exact kNA k6 (by decide) k59
  replace k7 : hK h60 a0 = 9 := by rw [e61]; exact kNA k7 (by decide) k59
  replace k14 : hK h60 q9 = 1000 := by rw [e61]; exact kNA k14 (by decide) k59
  replace k21 : hK h60 q16 = 1000 := by rw [e61]; exact kNA k21 (by decide) k59
  replace k28 : hK h60 q23 = 1000 := by rw [e61]; exact kNA k28 (by decide) k59
  replace k35 : hK h60 q30 = 1000 := by rw [e61]; exact kNA k35 (by decide) k59
  replace k42 : hK h60 q37 = 1000 := by rw [e61]; exact kNA k42 (by decide) k59
  replace k49 : hK h60 q44 = 1000 := by rw [e61]; exact kNA k49 (by decide) k59
  replace k56 : hK h60 q51 = 1000 := by rw [e61]; exact kNA k56 (by decide) k59
  have k63 : hK h60 q58 = 1000 := by rw [e61]; exact kNAs
  refine x_putR (pc' := 84) (dX10_init 37 rfl rfl) g107 q763 (Or.inl rfl) (Or.inr ⟨rfl, rfl, rfl, rfl⟩) (Or.inr rfl) rfl (hf_of 8 k7 rfl (by decide) m8_107) (fun h64 e65 => ?_)
  replace hf := hf h64 e65
  replace k6 : hK h64 q1 = 1000 := by rw [e65]; exact k6
  replace k7 : hK h64 a0 = 9 := by rw [e65]; exact k7
  replace k14 : hK h64 q9 = 1000 := by rw [e65]; exact k14
  replace k21 : hK h64 q16 = 1000 := by rw [e65]; exact k21
  replace k28 : hK h64 q23 = 1000 := by rw [e65]; exact k28
  replace k35 : hK h64 q30 = 1000 := by rw [e65]; exact k35
  replace k42 : hK h64 q37 = 1000 := by rw [e65]; exact k42
  replace k49 : hK h64 q44 = 1000 := by rw [e65]; exact k49
  replace k56 : hK h64 q51 = 1000 := by rw [e65]; exact k56
  replace k63 : hK h64 q58 = 1000 := by rw [e65]; exact k63
  exact x_vret (dX10_init 38 rfl rfl) rfl hf
theorem bX10_begin (G : Gh) (d : Nat) (h : AH) (Q : Outcome → AH → Prop)  (s5 : So 5 (gW G) h) (hf : ∀ h1, h1 = pI h (gW G 5) 106 0 → (Q (.returned none) h1)) : C G mX10_begin d [.ref (gW G 5)] h Q := by
  refine C.of_X (by decide +kernel) (Nat.le_of_ble_eq_true rfl) wX10_begin ?_
  show X G mX10_begin d none [] 0 [(0, .ref (gW G 5))] [] h Q
  refine x_aload_n (pc' := 1) 0 (dX10_begin 0 rfl rfl) rfl rfl rfl ?_
  refine x_iconst (pc' := 2) (v := 0) (dX10_begin 1 rfl rfl) (by decide) rfl ?_
  refine x_putI (pc' := 5) (dX10_begin 2 rfl rfl) g106 q761 (Or.inl rfl) (Or.inl rfl) (Or.inl (by decide)) rfl (hf_of 8 s5.1 rfl (by decide) m8_106) (fun h1 e2 => ?_)
  replace hf := hf h1 e2
  replace s5 : So 5 (gW G) h1 := by rw [e2]; exact s5.le sc5 (pI_le (Or.inl rfl))
  exact x_vret (dX10_begin 3 rfl rfl) rfl hf
theorem bX10_check (G : Gh) (d : Nat) (h : AH) (Q : Outcome → AH → Prop) (p1 : Nat) (p3 : Int32) (s5 : So 5 (gW G) h) (hf : C G mX10_reset d [.ref (gW G 5)] h (KV Q (fun h1 => hK h1 p1 = 6 ∧ (C G mX7_clause d [.ref (p1), .int (0)] h1 (KR Q (fun b6 h3 => hK h3 b6 = 29 ∧ (∃ b8, fR h3 b6 317 = some b8 ∧ (hK h3 b8 = 1008 ∧ (∀ x11 : Int32, x11 = Int32.ofNat (hL h3 b8) → (X G mX10_check (d + 1) none [] 21 [(0, .ref (gW G 5)), (1, .ref (p1)), (2, .ref (gW G 1)), (3, .int (p3)), (4, .int (x11)), (5, .int (0)), (6, .int (0))] [] h3 Q)))))))))) : C G mX10_check (d + 1) [.ref (gW G 5), .ref (p1), .ref (gW G 1), .int (p3)] h Q := by
  refine C.of_X (by decide +kernel) (Nat.le_of_ble_eq_true rfl) wX10_check ?_
  show X G mX10_check (d + 1) none [] 0 [(0, .ref (gW G 5)), (1, .ref (p1)), (2, .ref (gW G 1)), (3, .int (p3))] [] h Q
  refine x_aload_n (pc' := 1) 0 (dX10_check 0 rfl rfl) rfl rfl rfl ?_
  refine x_inv (pc' := 4) (ν := mX10_reset) (av := [_]) (st := []) rfl rfl (dX10_check 1 rfl rfl) (Nat.le_of_ble_eq_true rfl) wX10_reset q224 (inv_V (k := 8) (dX10_check 1 rfl rfl) q2537 q2539 qs43 wX10_reset (by decide) lX10_reset (by decide) s5.1) (exN (by decide)) rfl ?_
  refine C.mono hf (fun _ _ => KV.g (fun h1 hf le2 => ?_))
  replace s5 := s5.le sc5 (le2)
  refine x_aload_n (pc' := 5) 1 (dX10_check 2 rfl rfl) rfl rfl rfl ?_
  refine x_iconst (pc' := 6) (v := 0) (dX10_check 3 rfl rfl) (by decide) rfl ?_
  obtain ⟨k5, hf⟩ := hf
  refine x_inv (pc' := 9) (ν := mX7_clause) (av := [_, _]) (st := []) rfl rfl (dX10_check 4 rfl rfl) (Nat.le_of_ble_eq_true rfl) wX7_clause q221 (inv_V (k := 5) (dX10_check 4 rfl rfl) q2541 q2197 q2198 wX7_clause (by decide) lX7_clause (by decide) k5) (exN (by decide)) rfl ?_
  refine C.mono hf (fun _ _ => KR.g (fun b6 h3 hf le4 => ?_))
  have k5 := leK le4 k5 (by decide)
  replace s5 := s5.le sc5 (le4)
  obtain ⟨k7, hf⟩ := hf
  obtain ⟨b8, e9, hf⟩ := hf
  refine x_getR (pc' := 12) (dX10_check 5 rfl rfl) g317 q1497 (Or.inl rfl) rfl (hf_of 28 k7 rfl (by decide) m28_317) e9 ?_
  obtain ⟨k10, hf⟩ := hf
  refine x_alen (pc' := 13) (t := 8) (ty := .object "LetMill$Pat") (dX10_check 6 rfl rfl) rfl rfl k10 ?_
  replace hf := hf _ rfl
  refine x_istore (pc' := 15) (dX10_check 7 rfl rfl) (by decide) rfl rfl ?_
  refine x_iconst (pc' := 16) (v := 0) (dX10_check 8 rfl rfl) (by decide) rfl ?_
  refine x_istore (pc' := 18) (dX10_check 9 rfl rfl) (by decide) rfl rfl ?_
  refine x_iconst (pc' := 19) (v := 0) (dX10_check 10 rfl rfl) (by decide) rfl ?_
  refine x_istore (pc' := 21) (dX10_check 11 rfl rfl) (by decide) rfl rfl ?_
  exact X.sub [3, 4, 5, 6, 2, 1, 0] rfl (by simp) hf
theorem bX10_check_21 (G : Gh) (d : Nat) (h : AH) (Q : Outcome → AH → Prop) (l1 : Nat) (l3 : Int32) (l4 : Int32) (l5 : Int32) (l6 : Int32) (s1 : So 1 (gW G) h) (s5 : So 5 (gW G) h) (hf : hK h l1 = 6 ∧ (((fI h l1 78) ≤ l6 → (vp_in l3 4098 ∧ (C G mX10_open d [.ref (gW G 5), .int (l5), .int (l4), .int (aI h (gW G 1025) l3.toNatClampNeg)] h (KV Q (fun h4 => Q (.returned none) h4))))) ∧ (¬ ((fI h l1 78) ≤ l6) → (C G mX7_clause d [.ref (l1), .int (l6)] h (KR Q (fun b8 h6 => X G mX10_check (d + 1) none [] 41 [(0, .ref (gW G 5)), (1, .ref (l1)), (2, .ref (gW G 1)), (3, .int (l3)), (4, .int (l4)), (5, .int (l5)), (6, .int (l6)), (7, .ref (b8)), (8, .int (0))] [] h6 Q)))))) : X G mX10_check (d + 1) none [] 21 [(0, .ref (gW G 5)), (1, .ref (l1)), (2, .ref (gW G 1)), (3, .int (l3)), (4, .int (l4)), (5, .int (l5)), (6, .int (l6))] [] h Q := by
  refine x_iload (pc' := 23) 6 (dX10_check 12 rfl rfl) rfl rfl ?_
  refine x_aload_n (pc' := 24) 1 (dX10_check 13 rfl rfl) rfl rfl rfl ?_
  obtain ⟨k1, hf⟩ := hf
  refine x_getI (pc' := 27) (dX10_check 14 rfl rfl) g78 q579 (Or.inl rfl) rfl (hf_of 5 k1 rfl (by decide) m5_78) ?_
  refine x_icmp_ge (pc' := 30) (tgt := 165) (dX10_check 15 rfl rfl) (by decide) rfl (fun c2 => ?_) (fun c2 => ?_)
  · replace hf := hf.1 c2
    refine x_aload_n (pc' := 166) 0 (dX10_check 86 rfl rfl) rfl rfl rfl ?_
    refine x_iload (pc' := 168) 5 (dX10_check 87 rfl rfl) rfl rfl ?_
    refine x_iload (pc' := 170) 4 (dX10_check 88 rfl rfl) rfl rfl ?_
    refine x_aload_n (pc' := 171) 2 (dX10_check 89 rfl rfl) rfl rfl rfl ?_
    refine x_getR (pc' := 174) (dX10_check 90 rfl rfl) g25 q331 (Or.inl rfl) rfl (hf_of 1 s1.1 rfl (by decide) m1_25) (s1.2 3 _ rfl rfl).1 ?_
    refine x_iload_n (pc' := 175) 3 (dX10_check 91 rfl rfl) rfl rfl rfl ?_
    obtain ⟨i3, hf⟩ := hf
    refine x_iald (pc' := 176) (dX10_check 92 rfl rfl) rfl (s1.2 3 _ rfl rfl).2.1 (by rw [(s1.2 3 _ rfl rfl).2.2.2 (by decide)]; exact i3) ?_
    refine x_inv (pc' := 179) (ν := mX10_open) (av := [_, _, _, _]) (st := []) rfl rfl (dX10_check 93 rfl rfl) (Nat.le_of_ble_eq_true rfl) wX10_open q224 (inv_V (k := 8) (dX10_check 93 rfl rfl) q2624 q2626 qs50 wX10_open (by decide) lX10_open (by decide) s5.1) (exN (by decide)) rfl ?_
    refine C.mono hf (fun _ _ => KV.g (fun h4 hf le5 => ?_))
    have k1 := leK le5 k1 (by decide)
    replace s1 := s1.le sc1 (le5)
    replace s5 := s5.le sc5 (le5)
    exact x_vret (dX10_check 94 rfl rfl) rfl hf
  · replace hf := hf.2 c2
    refine x_aload_n (pc' := 31) 1 (dX10_check 16 rfl rfl) rfl rfl rfl ?_
    refine x_iload (pc' := 33) 6 (dX10_check 17 rfl rfl) rfl rfl ?_
    refine x_inv (pc' := 36) (ν := mX7_clause) (av := [_, _]) (st := []) rfl rfl (dX10_check 18 rfl rfl) (Nat.le_of_ble_eq_true rfl) wX7_clause q221 (inv_V (k := 5) (dX10_check 18 rfl rfl) q2541 q2197 q2198 wX7_clause (by decide) lX7_clause (by decide) k1) (exN (by decide)) rfl ?_
    refine C.mono hf (fun _ _ => KR.g (fun b8 h6 hf le7 => ?_))
    have k1 := leK le7 k1 (by decide)
    replace s1 := s1.le sc1 (le7)
    replace s5 := s5.le sc5 (le7)
    refine x_astore (pc' := 38) (dX10_check 19 rfl rfl) (by decide) rfl rfl ?_
    refine x_iconst (pc' := 39) (v := 0) (dX10_check 20 rfl rfl) (by decide) rfl ?_
    refine x_istore (pc' := 41) (dX10_check 21 rfl rfl) (by decide) rfl rfl ?_
    exact X.sub [2, 3, 4, 5, 6, 7, 8, 1, 0] rfl (by simp) hf
theorem bX10_check_41 (G : Gh) (d : Nat) (h : AH) (Q : Outcome → AH → Prop) (l1 : Nat) (l3 : Int32) (l4 : Int32) (l5 : Int32) (l6 : Int32) (l7 : Nat) (l8 : Int32) (s5 : So 5 (gW G) h) (hf : (l4 ≤ l8 → (∀ x2 : Int32, x2 = (l5 + 1) * l4 → (X G mX10_check (d + 1) none [] 91 [(0, .ref (gW G 5)), (1, .ref (l1)), (2, .ref (gW G 1)), (3, .int (l3)), (4, .int (l4)), (5, .int (l5)), (6, .int (l6)), (7, .ref (l7)), (8, .int (x2)), (9, .int (0))] [] h Q))) ∧ (¬ (l4 ≤ l8) → (∃ b3, fR h (gW G 5) 103 = some b3 ∧ (hK h l7 = 29 ∧ (∃ b6, fR h l7 317 = some b6 ∧ (hK h b6 = 1008 ∧ vp_in l8 (hL h b6) ∧ ∃ b10, aR h b6 l8.toNatClampNeg = some b10 ∧ (∃ (k : Nat) (ν : Mu), VT ⟨"LetMill$Pat", "shape", "(LLetMill$Matches;)I"⟩ VMPat_shape k ν ∧ hK h b10 = k + 1 ∧ C G ν d [.ref (b10), .ref (gW G 5)] h (KI Q (fun x14 h12 => hK h12 b3 = 1000 ∧ Ns (gW G) b3 ∧ vp_in ((l5 * l4) + l8) (hL h12 b3) ∧ ∀ h17, h17 = sI h12 b3 ((l5 * l4) + l8).toNatClampNeg x14 → (∀ x20 : Int32, x20 = l8 + 1 → (X G mX10_check (d + 1) none [] 41 [(0, .ref (gW G 5)), (1, .ref (l1)), (2, .ref (gW G 1)), (3, .int (l3)), (4, .int (l4)), (5, .int (l5)), (6, .int (l6)), (7, .ref (l7)), (8, .int (x20))] [] h17 Q))))))))))) : X G mX10_check (d + 1) none [] 41 [(0, .ref (gW G 5)), (1, .ref (l1)), (2, .ref (gW G 1)), (3, .int (l3)), (4, .int (l4)), (5, .int (l5)), (6, .int (l6)), (7, .ref (l7)), (8, .int (l8))] [] h Q := by
  refine x_iload (pc' := 43) 8 (dX10_check 22 rfl rfl) rfl rfl ?_
  refine x_iload (pc' := 45) 4 (dX10_check 23 rfl rfl) rfl rfl ?_
  refine x_icmp_ge (pc' := 48) (tgt := 79) (dX10_check 24 rfl rfl) (by decide) rfl (fun c1 => ?_) (fun c1 => ?_)
  · replace hf := hf.1 c1
    refine x_iload (pc' := 81) 5 (dX10_check 41 rfl rfl) rfl rfl ?_
    refine x_iconst (pc' := 82) (v := 1) (dX10_check 42 rfl rfl) (by decide) rfl ?_
    refine x_iadd (pc' := 83) (dX10_check 43 rfl rfl) rfl ?_
    refine x_iload (pc' := 85) 4 (dX10_check 44 rfl rfl) rfl rfl ?_
    refine x_imul (pc' := 86) (dX10_check 45 rfl rfl) rfl ?_
    replace hf := hf _ rfl
    refine x_istore (pc' := 88) (dX10_check 46 rfl rfl) (by decide) rfl rfl ?_
    refine x_iconst (pc' := 89) (v := 0) (dX10_check 47 rfl rfl) (by decide) rfl ?_
    refine x_istore (pc' := 91) (dX10_check 48 rfl rfl) (by decide) rfl rfl ?_
    exact X.sub [2, 3, 4, 5, 6, 7, 8, 9, 1, 0] rfl (by simp) hf
  · replace hf := hf.2 c1
    refine x_aload_n (pc' := 49) 0 (dX10_check 25 rfl rfl) rfl rfl rfl ?_
    obtain ⟨b3, e4, hf⟩ := hf
    refine x_getR (pc' := 52) (dX10_check 26 rfl rfl) g103 q758 (Or.inl rfl) rfl (hf_of 8 s5.1 rfl (by decide) m8_103) e4 ?_
    refine x_iload (pc' := 54) 5 (dX10_check 27 rfl rfl) rfl rfl ?_
    refine x_iload (pc' := 56) 4 (dX10_check 28 rfl rfl) rfl rfl ?_
    refine x_imul (pc' := 57) (dX10_check 29 rfl rfl) rfl ?_
    refine x_iload (pc' := 59) 8 (dX10_check 30 rfl rfl) rfl rfl ?_
    refine x_iadd (pc' := 60) (dX10_check 31 rfl rfl) rfl ?_
    refine x_aload (pc' := 62) 7 (dX10_check 32 rfl rfl) rfl rfl ?_
    obtain ⟨k5, hf⟩ := hf
    obtain ⟨b6, e7, hf⟩ := hf
    refine x_getR (pc' := 65) (dX10_check 33 rfl rfl) g317 q1497 (Or.inl rfl) rfl (hf_of 28 k5 rfl (by decide) m28_317) e7 ?_
    refine x_iload (pc' := 67) 8 (dX10_check 34 rfl rfl) rfl rfl ?_
    obtain ⟨k8, hf⟩ := hf
    obtain ⟨i9, hf⟩ := hf
    obtain ⟨b10, e11, hf⟩ := hf
    refine x_aald (pc' := 68) (t := 8) (C := "LetMill$Pat") (dX10_check 35 rfl rfl) rfl (by decide) rfl k8 i9 e11 ?_
    refine x_aload_n (pc' := 69) 0 (dX10_check 36 rfl rfl) rfl rfl rfl ?_
    obtain ⟨k, ν, ⟨v0, v1, v2, v3, v4, v5, v6, v7⟩, k21, hf⟩ := hf
    refine x_inv (pc' := 72) (ν := ν) (st := [_, _]) rfl (sub_tr v7 rfl) (dX10_check 37 rfl rfl) (by have := v5; simp only [List.map, List.sum_cons, List.sum_nil, Value.category]; omega) v1 v2 (inv_U (k := k) (av := [_]) (dX10_check 37 rfl rfl) q2542 q2544 (by decide) v3 v4 (by decide) (show _ = some 1 by decide +kernel) v0 k21) (exN v6) rfl ?_
    refine C.mono hf (fun _ _ => KI.g (fun x14 h12 hf le13 => ?_))
    replace le13 := Le.nx v6 le13
    have k5 := leK le13 k5 (by decide)
    have k8 := leK le13 k8 (by decide)
    replace s5 := s5.le sc5 (le13)
    obtain ⟨k15, hf⟩ := hf
    obtain ⟨n19, hf⟩ := hf
    obtain ⟨i16, hf⟩ := hf
    refine x_iast (pc' := 73) (dX10_check 38 rfl rfl) rfl k15 (Or.inr ⟨n19, by decide⟩) i16 (fun h17 e18 => ?_)
    replace hf := hf h17 e18
    replace k5 : hK h17 l7 = 29 := by rw [e18]; exact k5
    replace k8 : hK h17 b6 = 1008 := by rw [e18]; exact k8
    replace k15 : hK h17 b3 = 1000 := by rw [e18]; exact k15
    replace s5 : So 5 (gW G) h17 := by rw [e18]; exact s5.le sc5 (sI_le )
    replace hf := hf _ rfl
    refine x_iinc (pc' := 76) 8 (dX10_check 39 rfl rfl) rfl (by rfl) (by decide) rfl rfl ?_
    refine x_goto (tgt := 41) (dX10_check 40 rfl rfl) (by decide) ?_
    exact X.sub [1, 2, 3, 4, 5, 6, 7, 8, 0] rfl (by simp) hf
theorem bX10_check_91 (G : Gh) (d : Nat) (h : AH) (Q : Outcome → AH → Prop) (l1 : Nat) (l3 : Int32) (l4 : Int32) (l5 : Int32) (l6 : Int32) (l7 : Nat) (l8 : Int32) (l9 : Int32) (s1 : So 1 (gW G) h) (s5 : So 5 (gW G) h) (hf : (l4 ≤ l9 → (C G mX10_isUseful d [.ref (gW G 5), .int (0), .int (l5), .int (l4), .int (l8)] h (KI Q (fun x4 h2 => (x4 = 0 → (hK h2 l7 = 29 ∧ (vp_in (fI h2 l7 316) 4098 ∧ (C G mX10_warn d [.ref (gW G 5), .int (aI h2 (gW G 1025) (fI h2 l7 316).toNatClampNeg), .int (1)] h2 (KV Q (fun h10 => ∀ x12 : Int32, x12 = l5 + 1 → (∀ x13 : Int32, x13 = l6 + 1 → (X G mX10_check (d + 1) none [] 21 [(0, .ref (gW G 5)), (1, .ref (l1)), (2, .ref (gW G 1)), (3, .int (l3)), (4, .int (l4)), (5, .int (x12)), (6, .int (x13))] [] h10 Q)))))))) ∧ (¬ x4 = 0 → (∀ x6 : Int32, x6 = l5 + 1 → (∀ x7 : Int32, x7 = l6 + 1 → (X G mX10_check (d + 1) none [] 21 [(0, .ref (gW G 5)), (1, .ref (l1)), (2, .ref (gW G 1)), (3, .int (l3)), (4, .int (l4)), (5, .int (x6)), (6, .int (x7))] [] h2 Q)))))))) ∧ (¬ (l4 ≤ l9) → (∃ b14, fR h (gW G 5) 103 = some b14 ∧ (∃ b16, fR h (gW G 5) 103 = some b16 ∧ (hK h b16 = 1000 ∧ vp_in ((l5 * l4) + l9) (hL h b16) ∧ (hK h b14 = 1000 ∧ Ns (gW G) b14 ∧ vp_in (l8 + l9) (hL h b14) ∧ ∀ h22, h22 = sI h b14 (l8 + l9).toNatClampNeg (aI h b16 ((l5 * l4) + l9).toNatClampNeg) → (∀ x25 : Int32, x25 = l9 + 1 → (X G mX10_check (d + 1) none [] 91 [(0, .ref (gW G 5)), (1, .ref (l1)), (2, .ref (gW G 1)), (3, .int (l3)), (4, .int (l4)), (5, .int (l5)), (6, .int (l6)), (7, .ref (l7)), (8, .int (l8)), (9, .int (x25))] [] h22 Q)))))))) : X G mX10_check (d + 1) none [] 91 [(0, .ref (gW G 5)), (1, .ref (l1)), (2, .ref (gW G 1)), (3, .int (l3)), (4, .int (l4)), (5, .int (l5)), (6, .int (l6)), (7, .ref (l7)), (8, .int (l8)), (9, .int (l9))] [] h Q := by
  refine x_iload (pc' := 93) 9 (dX10_check 49 rfl rfl) rfl rfl ?_
  refine x_iload (pc' := 95) 4 (dX10_check 50 rfl rfl) rfl rfl ?_
  refine x_icmp_ge (pc' := 98) (tgt := 127) (dX10_check 51 rfl rfl) (by decide) rfl (fun c1 => ?_) (fun c1 => ?_)
  · replace hf := hf.1 c1
    refine x_aload_n (pc' := 128) 0 (dX10_check 68 rfl rfl) rfl rfl rfl ?_
    refine x_iconst (pc' := 129) (v := 0) (dX10_check 69 rfl rfl) (by decide) rfl ?_
    refine x_iload (pc' := 131) 5 (dX10_check 70 rfl rfl) rfl rfl ?_
    refine x_iload (pc' := 133) 4 (dX10_check 71 rfl rfl) rfl rfl ?_
    refine x_iload (pc' := 135) 8 (dX10_check 72 rfl rfl) rfl rfl ?_
    refine x_inv (pc' := 138) (ν := mX10_isUseful) (av := [_, _, _, _, _]) (st := []) rfl rfl (dX10_check 73 rfl rfl) (Nat.le_of_ble_eq_true rfl) wX10_isUseful q224 (inv_V (k := 8) (dX10_check 73 rfl rfl) q2600 q2602 qs44 wX10_isUseful (by decide) lX10_isUseful (by decide) s5.1) (exN (by decide)) rfl ?_
    refine C.mono hf (fun _ _ => KI.g (fun x4 h2 hf le3 => ?_))
    replace s1 := s1.le sc1 (le3)
    replace s5 := s5.le sc5 (le3)
    refine x_if_ne (pc' := 141) (tgt := 156) (dX10_check 74 rfl rfl) (by decide) rfl (fun c5 => ?_) (fun c5 => ?_)
    · replace hf := hf.2 c5
      replace hf := hf _ rfl
      refine x_iinc (pc' := 159) 5 (dX10_check 83 rfl rfl) rfl (by rfl) (by decide) rfl rfl ?_
      replace hf := hf _ rfl
      refine x_iinc (pc' := 162) 6 (dX10_check 84 rfl rfl) rfl (by rfl) (by decide) rfl rfl ?_
      refine x_goto (tgt := 21) (dX10_check 85 rfl rfl) (by decide) ?_
      exact X.sub [2, 3, 4, 5, 6, 1, 0] rfl (by simp) hf
    · replace hf := hf.1 (Classical.not_not.mp c5)
      replace c5 := Classical.not_not.mp c5
      refine x_aload_n (pc' := 142) 0 (dX10_check 75 rfl rfl) rfl rfl rfl ?_
      refine x_aload_n (pc' := 143) 2 (dX10_check 76 rfl rfl) rfl rfl rfl ?_
      refine x_getR (pc' := 146) (dX10_check 77 rfl rfl) g25 q331 (Or.inl rfl) rfl (hf_of 1 s1.1 rfl (by decide) m1_25) (s1.2 3 _ rfl rfl).1 ?_
      refine x_aload (pc' := 148) 7 (dX10_check 78 rfl rfl) rfl rfl ?_
      obtain ⟨k8, hf⟩ := hf
      refine x_getI (pc' := 151) (dX10_check 79 rfl rfl) g316 q1493 (Or.inl rfl) rfl (hf_of 28 k8 rfl (by decide) m28_316) ?_
      obtain ⟨i9, hf⟩ := hf
      refine x_iald (pc' := 152) (dX10_check 80 rfl rfl) rfl (s1.2 3 _ rfl rfl).2.1 (by rw [(s1.2 3 _ rfl rfl).2.2.2 (by decide)]; exact i9) ?_
      refine x_iconst (pc' := 153) (v := 1) (dX10_check 81 rfl rfl) (by decide) rfl ?_
      refine x_inv (pc' := 156) (ν := mX10_warn) (av := [_, _, _]) (st := []) rfl rfl (dX10_check 82 rfl rfl) (Nat.le_of_ble_eq_true rfl) wX10_warn q224 (inv_V (k := 8) (dX10_check 82 rfl rfl) q2620 q2622 qs49 wX10_warn (by decide) lX10_warn (by decide) s5.1) (exN (by decide)) rfl ?_
      refine C.mono hf (fun _ _ => KV.g (fun h10 hf le11 => ?_))
      have k8 := leK le11 k8 (by decide)
      replace s1 := s1.le sc1 (le11)
      replace s5 := s5.le sc5 (le11)
      replace hf := hf _ rfl
      refine x_iinc (pc' := 159) 5 (dX10_check 83 rfl rfl) rfl (by rfl) (by decide) rfl rfl ?_
      replace hf := hf _ rfl
      refine x_iinc (pc' := 162) 6 (dX10_check 84 rfl rfl) rfl (by rfl) (by decide) rfl rfl ?_
      refine x_goto (tgt := 21) (dX10_check 85 rfl rfl) (by decide) ?_
      exact X.sub [2, 3, 4, 5, 6, 1, 0] rfl (by simp) hf
  · replace hf := hf.2 c1
    refine x_aload_n (pc' := 99) 0 (dX10_check 52 rfl rfl) rfl rfl rfl ?_
    obtain ⟨b14, e15, hf⟩ := hf
    refine x_getR (pc' := 102) (dX10_check 53 rfl rfl) g103 q758 (Or.inl rfl) rfl (hf_of 8 s5.1 rfl (by decide) m8_103) e15 ?_
    refine x_iload (pc' := 104) 8 (dX10_check 54 rfl rfl) rfl rfl ?_
    refine x_iload (pc' := 106) 9 (dX10_check 55 rfl rfl) rfl rfl ?_
    refine x_iadd (pc' := 107) (dX10_check 56 rfl rfl) rfl ?_
    refine x_aload_n (pc' := 108) 0 (dX10_check 57 rfl rfl) rfl rfl rfl ?_
    obtain ⟨b16, e17, hf⟩ := hf
    refine x_getR (pc' := 111) (dX10_check 58 rfl rfl) g103 q758 (Or.inl rfl) rfl (hf_of 8 s5.1 rfl (by decide) m8_103) e17 ?_
    refine x_iload (pc' := 113) 5 (dX10_check 59 rfl rfl) rfl rfl ?_
    refine x_iload (pc' := 115) 4 (dX10_check 60 rfl rfl) rfl rfl ?_
    refine x_imul (pc' := 116) (dX10_check 61 rfl rfl) rfl ?_
    refine x_iload (pc' := 118) 9 (dX10_check 62 rfl rfl) rfl rfl ?_
    refine x_iadd (pc' := 119) (dX10_check 63 rfl rfl) rfl ?_
    obtain ⟨k18, hf⟩ := hf
    obtain ⟨i19, hf⟩ := hf
    refine x_iald (pc' := 120) (dX10_check 64 rfl rfl) rfl k18 i19 ?_
    obtain ⟨k20, hf⟩ := hf
    obtain ⟨n24, hf⟩ := hf
    obtain ⟨i21, hf⟩ := hf
    refine x_iast (pc' := 121) (dX10_check 65 rfl rfl) rfl k20 (Or.inr ⟨n24, by decide⟩) i21 (fun h22 e23 => ?_)
    replace hf := hf h22 e23
    replace k18 : hK h22 b16 = 1000 := by rw [e23]; exact k18
    replace k20 : hK h22 b14 = 1000 := by rw [e23]; exact k20
    replace s1 : So 1 (gW G) h22 := by rw [e23]; exact s1.le sc1 (sI_le )
    replace s5 : So 5 (gW G) h22 := by rw [e23]; exact s5.le sc5 (sI_le )
    replace hf := hf _ rfl
    refine x_iinc (pc' := 124) 9 (dX10_check 66 rfl rfl) rfl (by rfl) (by decide) rfl rfl ?_
    refine x_goto (tgt := 91) (dX10_check 67 rfl rfl) (by decide) ?_
    exact X.sub [1, 2, 3, 4, 5, 6, 7, 8, 9, 0] rfl (by simp) hf
theorem bX10_reset (G : Gh) (d : Nat) (h : AH) (Q : Outcome → AH → Prop)  (s5 : So 5 (gW G) h) (hf : ∀ h1, h1 = pI h (gW G 5) 101 1 → (∀ h2, h2 = pI h1 (gW G 5) 102 0 → (vp_in 0 1000 ∧ ∀ h4, h4 = sI h2 (gW G 1097) (0 : Int32).toNatClampNeg ((-1)) → (Q (.returned none) h4)))) : C G mX10_reset d [.ref (gW G 5)] h Q := by
  refine C.of_X (by decide +kernel) (Nat.le_of_ble_eq_true rfl) wX10_reset ?_
  show X G mX10_reset d none [] 0 [(0, .ref (gW G 5))] [] h Q
  refine x_aload_n (pc' := 1) 0 (dX10_reset 0 rfl rfl) rfl rfl rfl ?_
  refine x_iconst (pc' := 2) (v := 1) (dX10_reset 1 rfl rfl) (by decide) rfl ?_
  refine x_putI (pc' := 5) (dX10_reset 2 rfl rfl) g101 q756 (Or.inl rfl) (Or.inl rfl) (Or.inl (by decide)) rfl (hf_of 8 s5.1 rfl (by decide) m8_101) (fun h1 e7 => ?_)
  replace hf := hf h1 e7
  replace s5 : So 5 (gW G) h1 := by rw [e7]; exact s5.le sc5 (pI_le (Or.inl rfl))
  refine x_aload_n (pc' := 6) 0 (dX10_reset 3 rfl rfl) rfl rfl rfl ?_
  refine x_iconst (pc' := 7) (v := 0) (dX10_reset 4 rfl rfl) (by decide) rfl ?_
  refine x_putI (pc' := 10) (dX10_reset 5 rfl rfl) g102 q757 (Or.inl rfl) (Or.inl rfl) (Or.inl (by decide)) rfl (hf_of 8 s5.1 rfl (by decide) m8_102) (fun h2 e6 => ?_)
  replace hf := hf h2 e6
  replace s5 : So 5 (gW G) h2 := by rw [e6]; exact s5.le sc5 (pI_le (Or.inl rfl))
  refine x_aload_n (pc' := 11) 0 (dX10_reset 6 rfl rfl) rfl rfl rfl ?_
  refine x_getR (pc' := 14) (dX10_reset 7 rfl rfl) g97 q752 (Or.inl rfl) rfl (hf_of 8 s5.1 rfl (by decide) m8_97) (s5.2 1 _ rfl rfl).1 ?_
  refine x_iconst (pc' := 15) (v := 0) (dX10_reset 8 rfl rfl) (by decide) rfl ?_
  refine x_iconst (pc' := 16) (v := -1) (dX10_reset 9 rfl rfl) (by decide) rfl ?_
  obtain ⟨i3, hf⟩ := hf
  refine x_iast (pc' := 17) (dX10_reset 10 rfl rfl) rfl (s5.2 1 _ rfl rfl).2.1 (Or.inl ⟨97, by decide, rfl, by decide⟩) (by rw [(s5.2 1 _ rfl rfl).2.2.2 (by decide)]; exact i3) (fun h4 e5 => ?_)
  replace hf := hf h4 e5
  replace s5 : So 5 (gW G) h4 := by rw [e5]; exact s5.le sc5 (sI_le )
  exact x_vret (dX10_reset 11 rfl rfl) rfl hf
theorem bX10_node (G : Gh) (d : Nat) (h : AH) (Q : Outcome → AH → Prop) (p1 : Int32) (p2 : Int32) (s5 : So 5 (gW G) h) (hf : C G mX10_node_2 d [.ref (gW G 5), .int (p1), .int (p2), .ref (gW G 1100), .int (0), .int (0)] h (KI Q (fun x3 h1 => Q (.returned (some (.int x3))) h1))) : C G mX10_node (d + 1) [.ref (gW G 5), .int (p1), .int (p2)] h Q := by
  refine C.of_X (by decide +kernel) (Nat.le_of_ble_eq_true rfl) wX10_node ?_
  show X G mX10_node (d + 1) none [] 0 [(0, .ref (gW G 5)), (1, .int (p1)), (2, .int (p2))] [] h Q
  refine x_aload_n (pc' := 1) 0 (dX10_node 0 rfl rfl) rfl rfl rfl ?_
  refine x_iload_n (pc' := 2) 1 (dX10_node 1 rfl rfl) rfl rfl rfl ?_
  refine x_iload_n (pc' := 3) 2 (dX10_node 2 rfl rfl) rfl rfl rfl ?_
  refine x_aload_n (pc' := 4) 0 (dX10_node 3 rfl rfl) rfl rfl rfl ?_
  refine x_getR (pc' := 7) (dX10_node 4 rfl rfl) g100 q755 (Or.inl rfl) rfl (hf_of 8 s5.1 rfl (by decide) m8_100) (s5.2 4 _ rfl rfl).1 ?_
  refine x_iconst (pc' := 8) (v := 0) (dX10_node 5 rfl rfl) (by decide) rfl ?_
  refine x_iconst (pc' := 9) (v := 0) (dX10_node 6 rfl rfl) (by decide) rfl ?_
  refine x_inv (pc' := 12) (ν := mX10_node_2) (av := [_, _, _, _, _, _]) (st := []) rfl rfl (dX10_node 7 rfl rfl) (Nat.le_of_ble_eq_true rfl) wX10_node_2 q224 (inv_V (k := 8) (dX10_node 7 rfl rfl) q2555 q2556 q2557 wX10_node_2 (by decide) lX10_node_2 (by decide) s5.1) (exN (by decide)) rfl ?_
  refine C.mono hf (fun _ _ => KI.g (fun x3 h1 hf le2 => ?_))
  replace s5 := s5.le sc5 (le2)
  exact x_iret (dX10_node 8 rfl rfl) rfl hf
theorem bX10_node_2 (G : Gh) (d : Nat) (h : AH) (Q : Outcome → AH → Prop) (p1 : Int32) (p2 : Int32) (p3 : Nat) (p4 : Int32) (p5 : Int32) (s5 : So 5 (gW G) h) (hf : vp_in (fI h (gW G 5) 101) 1000 ∧ ∀ h2, h2 = sI h (gW G 1096) (fI h (gW G 5) 101).toNatClampNeg p1 → (vp_in (fI h2 (gW G 5) 101) 1000 ∧ ∀ h5, h5 = sI h2 (gW G 1097) (fI h2 (gW G 5) 101).toNatClampNeg p2 → (vp_in (fI h5 (gW G 5) 101) 1000 ∧ ∀ h8, h8 = sI h5 (gW G 1098) (fI h5 (gW G 5) 101).toNatClampNeg (fI h5 (gW G 5) 102) → (vp_in (fI h8 (gW G 5) 101) 1000 ∧ ∀ h11, h11 = sI h8 (gW G 1099) (fI h8 (gW G 5) 101).toNatClampNeg p5 → (X G mX10_node_2 d none [] 47 [(0, .ref (gW G 5)), (3, .ref (p3)), (4, .int (p4)), (5, .int (p5)), (6, .int (0))] [] h11 Q))))) : C G mX10_node_2 d [.ref (gW G 5), .int (p1), .int (p2), .ref (p3), .int (p4), .int (p5)] h Q := by
  refine C.of_X (by decide +kernel) (Nat.le_of_ble_eq_true rfl) wX10_node_2 ?_
  show X G mX10_node_2 d none [] 0 [(0, .ref (gW G 5)), (1, .int (p1)), (2, .int (p2)), (3, .ref (p3)), (4, .int (p4)), (5, .int (p5))] [] h Q
  refine x_aload_n (pc' := 1) 0 (dX10_node_2 0 rfl rfl) rfl rfl rfl ?_
  refine x_getR (pc' := 4) (dX10_node_2 1 rfl rfl) g96 q751 (Or.inl rfl) rfl (hf_of 8 s5.1 rfl (by decide) m8_96) (s5.2 0 _ rfl rfl).1 ?_
  refine x_aload_n (pc' := 5) 0 (dX10_node_2 2 rfl rfl) rfl rfl rfl ?_
  refine x_getI (pc' := 8) (dX10_node_2 3 rfl rfl) g101 q756 (Or.inl rfl) rfl (hf_of 8 s5.1 rfl (by decide) m8_101) ?_
  refine x_iload_n (pc' := 9) 1 (dX10_node_2 4 rfl rfl) rfl rfl rfl ?_
  obtain ⟨i1, hf⟩ := hf
  refine x_iast (pc' := 10) (dX10_node_2 5 rfl rfl) rfl (s5.2 0 _ rfl rfl).2.1 (Or.inl ⟨96, by decide, rfl, by decide⟩) (by rw [(s5.2 0 _ rfl rfl).2.2.2 (by decide)]; exact i1) (fun h2 e3 => ?_)
  replace hf := hf h2 e3
  replace s5 : So 5 (gW G) h2 := by rw [e3]; exact s5.le sc5 (sI_le )
  refine x_aload_n (pc' := 11) 0 (dX10_node_2 6 rfl rfl) rfl rfl rfl ?_
  refine x_getR (pc' := 14) (dX10_node_2 7 rfl rfl) g97 q752 (Or.inl rfl) rfl (hf_of 8 s5.1 rfl (by decide) m8_97) (s5.2 1 _ rfl rfl).1 ?_
  refine x_aload_n (pc' := 15) 0 (dX10_node_2 8 rfl rfl) rfl rfl rfl ?_
  refine x_getI (pc' := 18) (dX10_node_2 9 rfl rfl) g101 q756 (Or.inl rfl) rfl (hf_of 8 s5.1 rfl (by decide) m8_101) ?_
  refine x_iload_n (pc' := 19) 2 (dX10_node_2 10 rfl rfl) rfl rfl rfl ?_
  obtain ⟨i4, hf⟩ := hf
  refine x_iast (pc' := 20) (dX10_node_2 11 rfl rfl) rfl (s5.2 1 _ rfl rfl).2.1 (Or.inl ⟨97, by decide, rfl, by decide⟩) (by rw [(s5.2 1 _ rfl rfl).2.2.2 (by decide)]; exact i4) (fun h5 e6 => ?_)
  replace hf := hf h5 e6
  replace s5 : So 5 (gW G) h5 := by rw [e6]; exact s5.le sc5 (sI_le )
  refine x_aload_n (pc' := 21) 0 (dX10_node_2 12 rfl rfl) rfl rfl rfl ?_
  refine x_getR (pc' := 24) (dX10_node_2 13 rfl rfl) g98 q753 (Or.inl rfl) rfl (hf_of 8 s5.1 rfl (by decide) m8_98) (s5.2 2 _ rfl rfl).1 ?_
  refine x_aload_n (pc' := 25) 0 (dX10_node_2 14 rfl rfl) rfl rfl rfl ?_
  refine x_getI (pc' := 28) (dX10_node_2 15 rfl rfl) g101 q756 (Or.inl rfl) rfl (hf_of 8 s5.1 rfl (by decide) m8_101) ?_
  refine x_aload_n (pc' := 29) 0 (dX10_node_2 16 rfl rfl) rfl rfl rfl ?_
  refine x_getI (pc' := 32) (dX10_node_2 17 rfl rfl) g102 q757 (Or.inl rfl) rfl (hf_of 8 s5.1 rfl (by decide) m8_102) ?_
  obtain ⟨i7, hf⟩ := hf
  refine x_iast (pc' := 33) (dX10_node_2 18 rfl rfl) rfl (s5.2 2 _ rfl rfl).2.1 (Or.inl ⟨98, by decide, rfl, by decide⟩) (by rw [(s5.2 2 _ rfl rfl).2.2.2 (by decide)]; exact i7) (fun h8 e9 => ?_)
  replace hf := hf h8 e9
  replace s5 : So 5 (gW G) h8 := by rw [e9]; exact s5.le sc5 (sI_le )
  refine x_aload_n (pc' := 34) 0 (dX10_node_2 19 rfl rfl) rfl rfl rfl ?_
  refine x_getR (pc' := 37) (dX10_node_2 20 rfl rfl) g99 q754 (Or.inl rfl) rfl (hf_of 8 s5.1 rfl (by decide) m8_99) (s5.2 3 _ rfl rfl).1 ?_
  refine x_aload_n (pc' := 38) 0 (dX10_node_2 21 rfl rfl) rfl rfl rfl ?_
  refine x_getI (pc' := 41) (dX10_node_2 22 rfl rfl) g101 q756 (Or.inl rfl) rfl (hf_of 8 s5.1 rfl (by decide) m8_101) ?_
  refine x_iload (pc' := 43) 5 (dX10_node_2 23 rfl rfl) rfl rfl ?_
  obtain ⟨i10, hf⟩ := hf
  refine x_iast (pc' := 44) (dX10_node_2 24 rfl rfl) rfl (s5.2 3 _ rfl rfl).2.1 (Or.inl ⟨99, by decide, rfl, by decide⟩) (by rw [(s5.2 3 _ rfl rfl).2.2.2 (by decide)]; exact i10) (fun h11 e12 => ?_)
  replace hf := hf h11 e12
  replace s5 : So 5 (gW G) h11 := by rw [e12]; exact s5.le sc5 (sI_le )
  refine x_iconst (pc' := 45) (v := 0) (dX10_node_2 25 rfl rfl) (by decide) rfl ?_
  refine x_istore (pc' := 47) (dX10_node_2 26 rfl rfl) (by decide) rfl rfl ?_
  exact X.sub [1, 4, 5, 6, 0] rfl (by simp) hf
theorem bX10_node_2_47 (G : Gh) (d : Nat) (h : AH) (Q : Outcome → AH → Prop) (l3 : Nat) (l4 : Int32) (l5 : Int32) (l6 : Int32) (s5 : So 5 (gW G) h) (hf : (l5 ≤ l6 → (∀ h2, h2 = pI h (gW G 5) 101 ((fI h (gW G 5) 101) + 1) → (Q (.returned (some (.int ((fI h2 (gW G 5) 101) - 1)))) h2))) ∧ (¬ (l5 ≤ l6) → (hK h l3 = 1000 ∧ vp_in (l4 + l6) (hL h l3) ∧ (vp_in (fI h (gW G 5) 102) 1000 ∧ ∀ h7, h7 = sI h (gW G 1100) (fI h (gW G 5) 102).toNatClampNeg (aI h l3 (l4 + l6).toNatClampNeg) → (∀ h9, h9 = pI h7 (gW G 5) 102 ((fI h7 (gW G 5) 102) + 1) → (∀ x10 : Int32, x10 = l6 + 1 → (X G mX10_node_2 d none [] 47 [(0, .ref (gW G 5)), (3, .ref (l3)), (4, .int (l4)), (5, .int (l5)), (6, .int (x10))] [] h9 Q))))))) : X G mX10_node_2 d none [] 47 [(0, .ref (gW G 5)), (3, .ref (l3)), (4, .int (l4)), (5, .int (l5)), (6, .int (l6))] [] h Q := by
  refine x_iload (pc' := 49) 4 (dX10_node_2 27 rfl rfl) rfl rfl ?_
  refine x_iload (pc' := 51) 3 (dX10_node_2 28 rfl rfl) rfl rfl ?_
  refine x_icmp_ge (pc' := 54) (tgt := 86) (dX10_node_2 29 rfl rfl) (by decide) rfl (fun c1 => ?_) (fun c1 => ?_)
  · replace hf := hf.1 c1
    refine x_aload_n (pc' := 87) 0 (dX10_node_2 48 rfl rfl) rfl rfl rfl ?_
    refine x_dup (pc' := 88) (dX10_node_2 49 rfl rfl) rfl rfl ?_
    refine x_getI (pc' := 91) (dX10_node_2 50 rfl rfl) g101 q756 (Or.inl rfl) rfl (hf_of 8 s5.1 rfl (by decide) m8_101) ?_
    refine x_iconst (pc' := 92) (v := 1) (dX10_node_2 51 rfl rfl) (by decide) rfl ?_
    refine x_iadd (pc' := 93) (dX10_node_2 52 rfl rfl) rfl ?_
    refine x_putI (pc' := 96) (dX10_node_2 53 rfl rfl) g101 q756 (Or.inl rfl) (Or.inl rfl) (Or.inl (by decide)) rfl (hf_of 8 s5.1 rfl (by decide) m8_101) (fun h2 e3 => ?_)
    replace hf := hf h2 e3
    replace s5 : So 5 (gW G) h2 := by rw [e3]; exact s5.le sc5 (pI_le (Or.inl rfl))
    refine x_aload_n (pc' := 97) 0 (dX10_node_2 54 rfl rfl) rfl rfl rfl ?_
    refine x_getI (pc' := 100) (dX10_node_2 55 rfl rfl) g101 q756 (Or.inl rfl) rfl (hf_of 8 s5.1 rfl (by decide) m8_101) ?_
    refine x_iconst (pc' := 101) (v := 1) (dX10_node_2 56 rfl rfl) (by decide) rfl ?_
    refine x_isub (pc' := 102) (dX10_node_2 57 rfl rfl) rfl ?_
    exact x_iret (dX10_node_2 58 rfl rfl) rfl hf
  · replace hf := hf.2 c1
    refine x_aload_n (pc' := 55) 0 (dX10_node_2 30 rfl rfl) rfl rfl rfl ?_
    refine x_getR (pc' := 58) (dX10_node_2 31 rfl rfl) g100 q755 (Or.inl rfl) rfl (hf_of 8 s5.1 rfl (by decide) m8_100) (s5.2 4 _ rfl rfl).1 ?_
    refine x_aload_n (pc' := 59) 0 (dX10_node_2 32 rfl rfl) rfl rfl rfl ?_
    refine x_getI (pc' := 62) (dX10_node_2 33 rfl rfl) g102 q757 (Or.inl rfl) rfl (hf_of 8 s5.1 rfl (by decide) m8_102) ?_
    refine x_aload_n (pc' := 63) 1 (dX10_node_2 34 rfl rfl) rfl rfl rfl ?_
    refine x_iload (pc' := 65) 2 (dX10_node_2 35 rfl rfl) rfl rfl ?_
    refine x_iload (pc' := 67) 4 (dX10_node_2 36 rfl rfl) rfl rfl ?_
    refine x_iadd (pc' := 68) (dX10_node_2 37 rfl rfl) rfl ?_
    obtain ⟨k4, hf⟩ := hf
    obtain ⟨i5, hf⟩ := hf
    refine x_iald (pc' := 69) (dX10_node_2 38 rfl rfl) rfl k4 i5 ?_
    obtain ⟨i6, hf⟩ := hf
    refine x_iast (pc' := 70) (dX10_node_2 39 rfl rfl) rfl (s5.2 4 _ rfl rfl).2.1 (Or.inl ⟨100, by decide, rfl, by decide⟩) (by rw [(s5.2 4 _ rfl rfl).2.2.2 (by decide)]; exact i6) (fun h7 e8 => ?_)
    replace hf := hf h7 e8
    replace k4 : hK h7 l3 = 1000 := by rw [e8]; exact k4
    replace s5 : So 5 (gW G) h7 := by rw [e8]; exact s5.le sc5 (sI_le )
    refine x_aload_n (pc' := 71) 0 (dX10_node_2 40 rfl rfl) rfl rfl rfl ?_
    refine x_dup (pc' := 72) (dX10_node_2 41 rfl rfl) rfl rfl ?_
    refine x_getI (pc' := 75) (dX10_node_2 42 rfl rfl) g102 q757 (Or.inl rfl) rfl (hf_of 8 s5.1 rfl (by decide) m8_102) ?_
    refine x_iconst (pc' := 76) (v := 1) (dX10_node_2 43 rfl rfl) (by decide) rfl ?_
    refine x_iadd (pc' := 77) (dX10_node_2 44 rfl rfl) rfl ?_
    refine x_putI (pc' := 80) (dX10_node_2 45 rfl rfl) g102 q757 (Or.inl rfl) (Or.inl rfl) (Or.inl (by decide)) rfl (hf_of 8 s5.1 rfl (by decide) m8_102) (fun h9 e11 => ?_)
    replace hf := hf h9 e11
    replace k4 : hK h9 l3 = 1000 := by rw [e11]; exact k4
    replace s5 : So 5 (gW G) h9 := by rw [e11]; exact s5.le sc5 (pI_le (Or.inl rfl))
    replace hf := hf _ rfl
    refine x_iinc (pc' := 83) 4 (dX10_node_2 46 rfl rfl) rfl (by rfl) (by decide) rfl rfl ?_
    refine x_goto (tgt := 47) (dX10_node_2 47 rfl rfl) (by decide) ?_
    exact X.sub [1, 2, 3, 4, 0] rfl (by simp) hf
theorem bX10_tuple (G : Gh) (d : Nat) (h : AH) (Q : Outcome → AH → Prop) (p1 : Nat) (hf : hK h p1 = 1008 ∧ ((¬ (Int32.ofNat (hL h p1) : Int32) < 0) ∧ (hc h + 1 ≤ MC) ∧ (hs h + (Int32.ofNat (hL h p1) : Int32).toNatClampNeg ≤ MS) ∧ ∀ q2, hK h q2 = 0 → ∀ h4, h4 = nA h q2 0 (Int32.ofNat (hL h p1) : Int32).toNatClampNeg → (X G mX10_tuple (d + 1) none [] 7 [(0, .ref (gW G 5)), (1, .ref (p1)), (2, .ref (q2)), (3, .int (0))] [] h4 Q))) : C G mX10_tuple (d + 1) [.ref (gW G 5), .ref (p1)] h Q := by
  refine C.of_X (by decide +kernel) (Nat.le_of_ble_eq_true rfl) wX10_tuple ?_
  show X G mX10_tuple (d + 1) none [] 0 [(0, .ref (gW G 5)), (1, .ref (p1))] [] h Q
  refine x_aload_n (pc' := 1) 1 (dX10_tuple 0 rfl rfl) rfl rfl rfl ?_
  obtain ⟨k1, hf⟩ := hf
  refine x_alen (pc' := 2) (t := 8) (ty := .object "LetMill$Pat") (dX10_tuple 1 rfl rfl) rfl rfl k1 ?_
  obtain ⟨z6, n1, n2, hf⟩ := hf
  refine x_newa0 (pc' := 4) (dX10_tuple 2 rfl rfl) rfl z6 (by decide) n1 n2 (fun q2 h4 k3 e5 => ?_)
  replace hf := hf q2 k3 h4 e5
  replace k1 : hK h4 p1 = 1008 := by rw [e5]; exact kNA k1 (by decide) k3
  have k7 : hK h4 q2 = 1000 := by rw [e5]; exact kNAs
  refine x_astore_n (pc' := 5) (dX10_tuple 3 rfl rfl) rfl (by decide) rfl rfl ?_
  refine x_iconst (pc' := 6) (v := 0) (dX10_tuple 4 rfl rfl) (by decide) rfl ?_
  refine x_istore_n (pc' := 7) (dX10_tuple 5 rfl rfl) rfl (by decide) rfl rfl ?_
  exact X.sub [2, 3, 1, 0] rfl (by simp) hf
theorem bX10_tuple_7 (G : Gh) (d : Nat) (h : AH) (Q : Outcome → AH → Prop) (l1 : Nat) (l2 : Nat) (l3 : Int32) (s5 : So 5 (gW G) h) (hf : hK h l1 = 1008 ∧ (((Int32.ofNat (hL h l1)) ≤ l3 → (hK h l2 = 1000 ∧ (C G mX10_node_2 d [.ref (gW G 5), .int (0), .int (1), .ref (l2), .int (0), .int (Int32.ofNat (hL h l2))] h (KI Q (fun x6 h4 => Q (.returned (some (.int x6))) h4))))) ∧ (¬ ((Int32.ofNat (hL h l1)) ≤ l3) → (vp_in l3 (hL h l1) ∧ ∃ b8, aR h l1 l3.toNatClampNeg = some b8 ∧ (∃ (k : Nat) (ν : Mu), VT ⟨"LetMill$Pat", "shape", "(LLetMill$Matches;)I"⟩ VMPat_shape k ν ∧ hK h b8 = k + 1 ∧ C G ν d [.ref (b8), .ref (gW G 5)] h (KI Q (fun x12 h10 => hK h10 l2 = 1000 ∧ Ns (gW G) l2 ∧ vp_in l3 (hL h10 l2) ∧ ∀ h15, h15 = sI h10 l2 l3.toNatClampNeg x12 → (∀ x18 : Int32, x18 = l3 + 1 → (X G mX10_tuple (d + 1) none [] 7 [(0, .ref (gW G 5)), (1, .ref (l1)), (2, .ref (l2)), (3, .int (x18))] [] h15 Q))))))))) : X G mX10_tuple (d + 1) none [] 7 [(0, .ref (gW G 5)), (1, .ref (l1)), (2, .ref (l2)), (3, .int (l3))] [] h Q := by
  refine x_iload_n (pc' := 8) 3 (dX10_tuple 6 rfl rfl) rfl rfl rfl ?_
  refine x_aload_n (pc' := 9) 1 (dX10_tuple 7 rfl rfl) rfl rfl rfl ?_
  obtain ⟨k1, hf⟩ := hf
  refine x_alen (pc' := 10) (t := 8) (ty := .object "LetMill$Pat") (dX10_tuple 8 rfl rfl) rfl rfl k1 ?_
  refine x_icmp_ge (pc' := 13) (tgt := 29) (dX10_tuple 9 rfl rfl) (by decide) rfl (fun c2 => ?_) (fun c2 => ?_)
  · replace hf := hf.1 c2
    refine x_aload_n (pc' := 30) 0 (dX10_tuple 20 rfl rfl) rfl rfl rfl ?_
    refine x_iconst (pc' := 31) (v := 0) (dX10_tuple 21 rfl rfl) (by decide) rfl ?_
    refine x_iconst (pc' := 32) (v := 1) (dX10_tuple 22 rfl rfl) (by decide) rfl ?_
    refine x_aload_n (pc' := 33) 2 (dX10_tuple 23 rfl rfl) rfl rfl rfl ?_
    refine x_iconst (pc' := 34) (v := 0) (dX10_tuple 24 rfl rfl) (by decide) rfl ?_
    refine x_aload_n (pc' := 35) 2 (dX10_tuple 25 rfl rfl) rfl rfl rfl ?_
    obtain ⟨k3, hf⟩ := hf
    refine x_alen (pc' := 36) (t := 0) (ty := .int) (dX10_tuple 26 rfl rfl) rfl rfl k3 ?_
    refine x_inv (pc' := 39) (ν := mX10_node_2) (av := [_, _, _, _, _, _]) (st := []) rfl rfl (dX10_tuple 27 rfl rfl) (Nat.le_of_ble_eq_true rfl) wX10_node_2 q224 (inv_V (k := 8) (dX10_tuple 27 rfl rfl) q2555 q2556 q2557 wX10_node_2 (by decide) lX10_node_2 (by decide) s5.1) (exN (by decide)) rfl ?_
    refine C.mono hf (fun _ _ => KI.g (fun x6 h4 hf le5 => ?_))
    have k1 := leK le5 k1 (by decide)
    have k3 := leK le5 k3 (by decide)
    replace s5 := s5.le sc5 (le5)
    exact x_iret (dX10_tuple 28 rfl rfl) rfl hf
  · replace hf := hf.2 c2
    refine x_aload_n (pc' := 14) 2 (dX10_tuple 10 rfl rfl) rfl rfl rfl ?_
    refine x_iload_n (pc' := 15) 3 (dX10_tuple 11 rfl rfl) rfl rfl rfl ?_
    refine x_aload_n (pc' := 16) 1 (dX10_tuple 12 rfl rfl) rfl rfl rfl ?_
    refine x_iload_n (pc' := 17) 3 (dX10_tuple 13 rfl rfl) rfl rfl rfl ?_
    obtain ⟨i7, hf⟩ := hf
    obtain ⟨b8, e9, hf⟩ := hf
    refine x_aald (pc' := 18) (t := 8) (C := "LetMill$Pat") (dX10_tuple 14 rfl rfl) rfl (by decide) rfl k1 i7 e9 ?_
    refine x_aload_n (pc' := 19) 0 (dX10_tuple 15 rfl rfl) rfl rfl rfl ?_
    obtain ⟨k, ν, ⟨v0, v1, v2, v3, v4, v5, v6, v7⟩, k19, hf⟩ := hf
    refine x_inv (pc' := 22) (ν := ν) (st := [_, _]) rfl (sub_tr v7 rfl) (dX10_tuple 16 rfl rfl) (by have := v5; simp only [List.map, List.sum_cons, List.sum_nil, Value.category]; omega) v1 v2 (inv_U (k := k) (av := [_]) (dX10_tuple 16 rfl rfl) q2542 q2544 (by decide) v3 v4 (by decide) (show _ = some 1 by decide +kernel) v0 k19) (exN v6) rfl ?_
    refine C.mono hf (fun _ _ => KI.g (fun x12 h10 hf le11 => ?_))
    replace le11 := Le.nx v6 le11
    have k1 := leK le11 k1 (by decide)
    replace s5 := s5.le sc5 (le11)
    obtain ⟨k13, hf⟩ := hf
    obtain ⟨n17, hf⟩ := hf
    obtain ⟨i14, hf⟩ := hf
    refine x_iast (pc' := 23) (dX10_tuple 17 rfl rfl) rfl k13 (Or.inr ⟨n17, by decide⟩) i14 (fun h15 e16 => ?_)
    replace hf := hf h15 e16
    replace k1 : hK h15 l1 = 1008 := by rw [e16]; exact k1
    replace k13 : hK h15 l2 = 1000 := by rw [e16]; exact k13
    replace s5 : So 5 (gW G) h15 := by rw [e16]; exact s5.le sc5 (sI_le )
    replace hf := hf _ rfl
    refine x_iinc (pc' := 26) 3 (dX10_tuple 18 rfl rfl) rfl (by rfl) (by decide) rfl rfl ?_
    refine x_goto (tgt := 7) (dX10_tuple 19 rfl rfl) (by decide) ?_
    exact X.sub [1, 2, 3, 0] rfl (by simp) hf
theorem bX10_pair (G : Gh) (d : Nat) (h : AH) (Q : Outcome → AH → Prop) (p1 : Int32) (p2 : Int32) (s5 : So 5 (gW G) h) (hf : vp_in 198 200 ∧ ∀ h2, h2 = sI h (gW G 1107) (198 : Int32).toNatClampNeg p1 → (vp_in 199 200 ∧ ∀ h5, h5 = sI h2 (gW G 1107) (199 : Int32).toNatClampNeg p2 → (C G mX10_node_2 d [.ref (gW G 5), .int (1), .int (2), .ref (gW G 1107), .int (198), .int (2)] h5 (KI Q (fun x9 h7 => Q (.returned (some (.int x9))) h7))))) : C G mX10_pair (d + 1) [.ref (gW G 5), .int (p1), .int (p2)] h Q := by
  refine C.of_X (by decide +kernel) (Nat.le_of_ble_eq_true rfl) wX10_pair ?_
  show X G mX10_pair (d + 1) none [] 0 [(0, .ref (gW G 5)), (1, .int (p1)), (2, .int (p2))] [] h Q
  refine x_aload_n (pc' := 1) 0 (dX10_pair 0 rfl rfl) rfl rfl rfl ?_
  refine x_getR (pc' := 4) (dX10_pair 1 rfl rfl) g107 q763 (Or.inl rfl) rfl (hf_of 8 s5.1 rfl (by decide) m8_107) (s5.2 7 _ rfl rfl).1 ?_
  refine x_sipush (pc' := 7) (v := 198) (dX10_pair 2 rfl rfl) (by decide) rfl ?_
  refine x_iload_n (pc' := 8) 1 (dX10_pair 3 rfl rfl) rfl rfl rfl ?_
  obtain ⟨i1, hf⟩ := hf
  refine x_iast (pc' := 9) (dX10_pair 4 rfl rfl) rfl (s5.2 7 _ rfl rfl).2.1 (Or.inl ⟨107, by decide, rfl, by decide⟩) (by rw [(s5.2 7 _ rfl rfl).2.2.2 (by decide)]; exact i1) (fun h2 e3 => ?_)
  replace hf := hf h2 e3
  replace s5 : So 5 (gW G) h2 := by rw [e3]; exact s5.le sc5 (sI_le )
  refine x_aload_n (pc' := 10) 0 (dX10_pair 5 rfl rfl) rfl rfl rfl ?_
  refine x_getR (pc' := 13) (dX10_pair 6 rfl rfl) g107 q763 (Or.inl rfl) rfl (hf_of 8 s5.1 rfl (by decide) m8_107) (s5.2 7 _ rfl rfl).1 ?_
  refine x_sipush (pc' := 16) (v := 199) (dX10_pair 7 rfl rfl) (by decide) rfl ?_
  refine x_iload_n (pc' := 17) 2 (dX10_pair 8 rfl rfl) rfl rfl rfl ?_
  obtain ⟨i4, hf⟩ := hf
  refine x_iast (pc' := 18) (dX10_pair 9 rfl rfl) rfl (s5.2 7 _ rfl rfl).2.1 (Or.inl ⟨107, by decide, rfl, by decide⟩) (by rw [(s5.2 7 _ rfl rfl).2.2.2 (by decide)]; exact i4) (fun h5 e6 => ?_)
  replace hf := hf h5 e6
  replace s5 : So 5 (gW G) h5 := by rw [e6]; exact s5.le sc5 (sI_le )
  refine x_aload_n (pc' := 19) 0 (dX10_pair 10 rfl rfl) rfl rfl rfl ?_
  refine x_iconst (pc' := 20) (v := 1) (dX10_pair 11 rfl rfl) (by decide) rfl ?_
  refine x_iconst (pc' := 21) (v := 2) (dX10_pair 12 rfl rfl) (by decide) rfl ?_
  refine x_aload_n (pc' := 22) 0 (dX10_pair 13 rfl rfl) rfl rfl rfl ?_
  refine x_getR (pc' := 25) (dX10_pair 14 rfl rfl) g107 q763 (Or.inl rfl) rfl (hf_of 8 s5.1 rfl (by decide) m8_107) (s5.2 7 _ rfl rfl).1 ?_
  refine x_sipush (pc' := 28) (v := 198) (dX10_pair 15 rfl rfl) (by decide) rfl ?_
  refine x_iconst (pc' := 29) (v := 2) (dX10_pair 16 rfl rfl) (by decide) rfl ?_
  refine x_inv (pc' := 32) (ν := mX10_node_2) (av := [_, _, _, _, _, _]) (st := []) rfl rfl (dX10_pair 17 rfl rfl) (Nat.le_of_ble_eq_true rfl) wX10_node_2 q224 (inv_V (k := 8) (dX10_pair 17 rfl rfl) q2555 q2556 q2557 wX10_node_2 (by decide) lX10_node_2 (by decide) s5.1) (exN (by decide)) rfl ?_
  refine C.mono hf (fun _ _ => KI.g (fun x9 h7 hf le8 => ?_))
  replace s5 := s5.le sc5 (le8)
  exact x_iret (dX10_pair 18 rfl rfl) rfl hf
theorem bX10_one (G : Gh) (d : Nat) (h : AH) (Q : Outcome → AH → Prop) (p1 : Int32) (p2 : Int32) (p3 : Int32) (s5 : So 5 (gW G) h) (hf : vp_in 197 200 ∧ ∀ h2, h2 = sI h (gW G 1107) (197 : Int32).toNatClampNeg p3 → (C G mX10_node_2 d [.ref (gW G 5), .int (p1), .int (p2), .ref (gW G 1107), .int (197), .int (1)] h2 (KI Q (fun x6 h4 => Q (.returned (some (.int x6))) h4)))) : C G mX10_one (d + 1) [.ref (gW G 5), .int (p1), .int (p2), .int (p3)] h Q := by
  refine C.of_X (by decide +kernel) (Nat.le_of_ble_eq_true rfl) wX10_one ?_
  show X G mX10_one (d + 1) none [] 0 [(0, .ref (gW G 5)), (1, .int (p1)), (2, .int (p2)), (3, .int (p3))] [] h Q
  refine x_aload_n (pc' := 1) 0 (dX10_one 0 rfl rfl) rfl rfl rfl ?_
  refine x_getR (pc' := 4) (dX10_one 1 rfl rfl) g107 q763 (Or.inl rfl) rfl (hf_of 8 s5.1 rfl (by decide) m8_107) (s5.2 7 _ rfl rfl).1 ?_
  refine x_sipush (pc' := 7) (v := 197) (dX10_one 2 rfl rfl) (by decide) rfl ?_
  refine x_iload_n (pc' := 8) 3 (dX10_one 3 rfl rfl) rfl rfl rfl ?_
  obtain ⟨i1, hf⟩ := hf
  refine x_iast (pc' := 9) (dX10_one 4 rfl rfl) rfl (s5.2 7 _ rfl rfl).2.1 (Or.inl ⟨107, by decide, rfl, by decide⟩) (by rw [(s5.2 7 _ rfl rfl).2.2.2 (by decide)]; exact i1) (fun h2 e3 => ?_)
  replace hf := hf h2 e3
  replace s5 : So 5 (gW G) h2 := by rw [e3]; exact s5.le sc5 (sI_le )
  refine x_aload_n (pc' := 10) 0 (dX10_one 5 rfl rfl) rfl rfl rfl ?_
  refine x_iload_n (pc' := 11) 1 (dX10_one 6 rfl rfl) rfl rfl rfl ?_
  refine x_iload_n (pc' := 12) 2 (dX10_one 7 rfl rfl) rfl rfl rfl ?_
  refine x_aload_n (pc' := 13) 0 (dX10_one 8 rfl rfl) rfl rfl rfl ?_
  refine x_getR (pc' := 16) (dX10_one 9 rfl rfl) g107 q763 (Or.inl rfl) rfl (hf_of 8 s5.1 rfl (by decide) m8_107) (s5.2 7 _ rfl rfl).1 ?_
  refine x_sipush (pc' := 19) (v := 197) (dX10_one 10 rfl rfl) (by decide) rfl ?_
  refine x_iconst (pc' := 20) (v := 1) (dX10_one 11 rfl rfl) (by decide) rfl ?_
  refine x_inv (pc' := 23) (ν := mX10_node_2) (av := [_, _, _, _, _, _]) (st := []) rfl rfl (dX10_one 12 rfl rfl) (Nat.le_of_ble_eq_true rfl) wX10_node_2 q224 (inv_V (k := 8) (dX10_one 12 rfl rfl) q2555 q2556 q2557 wX10_node_2 (by decide) lX10_node_2 (by decide) s5.1) (exN (by decide)) rfl ?_
  refine C.mono hf (fun _ _ => KI.g (fun x6 h4 hf le5 => ?_))
  replace s5 := s5.le sc5 (le5)
  exact x_iret (dX10_one 13 rfl rfl) rfl hf
theorem bX10_isUseful (G : Gh) (d : Nat) (h : AH) (Q : Outcome → AH → Prop) (p1 : Int32) (p2 : Int32) (p3 : Int32) (p4 : Int32) (s5 : So 5 (gW G) h) (hf : (p3 = 0 → ((p2 = 0 → (Q (.returned (some (.int 1))) h)) ∧ (¬ p2 = 0 → (Q (.returned (some (.int 0))) h)))) ∧ (¬ p3 = 0 → ((p2 = 0 → (Q (.returned (some (.int 1))) h)) ∧ (¬ p2 = 0 → (∀ x3 : Int32, x3 = p4 + p3 → (∃ b4, fR h (gW G 5) 103 = some b4 ∧ (hK h b4 = 1000 ∧ vp_in p4 (hL h b4) ∧ (∀ x8 : Int32, x8 = aI h b4 p4.toNatClampNeg → ((x8 = 0 → (∀ x10 : Int32, x10 = (-1) → (X G mX10_isUseful (d + 1) none [] 63 [(0, .ref (gW G 5)), (1, .int (p1)), (2, .int (p2)), (3, .int (p3)), (4, .int (p4)), (5, .int (x3)), (7, .int (0)), (8, .int (x10)), (9, .int (0))] [] h Q))) ∧ (¬ x8 = 0 → (C G mX10_isUsefulFor d [.ref (gW G 5), .int (p1), .int (p2), .int (p3), .int (p4), .int (x8), .int (x3)] h (KI Q (fun x13 h11 => (x13 = 0 ∨ x13 = 1) ∧ Q (.returned (some (.int x13))) h11))))))))))))) : C G mX10_isUseful (d + 1) [.ref (gW G 5), .int (p1), .int (p2), .int (p3), .int (p4)] h Q := by
  refine C.of_X (by decide +kernel) (Nat.le_of_ble_eq_true rfl) wX10_isUseful ?_
  show X G mX10_isUseful (d + 1) none [] 0 [(0, .ref (gW G 5)), (1, .int (p1)), (2, .int (p2)), (3, .int (p3)), (4, .int (p4))] [] h Q
  refine x_iload_n (pc' := 1) 3 (dX10_isUseful 0 rfl rfl) rfl rfl rfl ?_
  refine x_if_ne (pc' := 4) (tgt := 14) (dX10_isUseful 1 rfl rfl) (by decide) rfl (fun c1 => ?_) (fun c1 => ?_)
  · replace hf := hf.2 c1
    refine x_iload_n (pc' := 15) 2 (dX10_isUseful 8 rfl rfl) rfl rfl rfl ?_
    refine x_if_ne (pc' := 18) (tgt := 20) (dX10_isUseful 9 rfl rfl) (by decide) rfl (fun c2 => ?_) (fun c2 => ?_)
    · replace hf := hf.2 c2
      refine x_iload (pc' := 22) 4 (dX10_isUseful 12 rfl rfl) rfl rfl ?_
      refine x_iload_n (pc' := 23) 3 (dX10_isUseful 13 rfl rfl) rfl rfl rfl ?_
      refine x_iadd (pc' := 24) (dX10_isUseful 14 rfl rfl) rfl ?_
      replace hf := hf _ rfl
      refine x_istore (pc' := 26) (dX10_isUseful 15 rfl rfl) (by decide) rfl rfl ?_
      refine x_aload_n (pc' := 27) 1 (dX10_isUseful 16 rfl rfl) rfl rfl rfl ?_
      obtain ⟨b4, e5, hf⟩ := hf
      refine x_getR (pc' := 30) (dX10_isUseful 17 rfl rfl) g103 q758 (Or.inl rfl) rfl (hf_of 8 s5.1 rfl (by decide) m8_103) e5 ?_
      refine x_iload (pc' := 32) 5 (dX10_isUseful 18 rfl rfl) rfl rfl ?_
      obtain ⟨k6, hf⟩ := hf
      obtain ⟨i7, hf⟩ := hf
      refine x_iald (pc' := 33) (dX10_isUseful 19 rfl rfl) rfl k6 i7 ?_
      replace hf := hf _ rfl
      refine x_istore (pc' := 35) (dX10_isUseful 20 rfl rfl) (by decide) rfl rfl ?_
      refine x_iload (pc' := 37) 0 (dX10_isUseful 21 rfl rfl) rfl rfl ?_
      refine x_if_eq (pc' := 40) (tgt := 54) (dX10_isUseful 22 rfl rfl) (by decide) rfl (fun c9 => ?_) (fun c9 => ?_)
      · replace hf := hf.1 c9
        refine x_iconst (pc' := 55) (v := 0) (dX10_isUseful 32 rfl rfl) (by decide) rfl ?_
        refine x_istore (pc' := 57) (dX10_isUseful 33 rfl rfl) (by decide) rfl rfl ?_
        refine x_iconst (pc' := 58) (v := -1) (dX10_isUseful 34 rfl rfl) (by decide) rfl ?_
        replace hf := hf _ rfl
        refine x_istore (pc' := 60) (dX10_isUseful 35 rfl rfl) (by decide) rfl rfl ?_
        refine x_iconst (pc' := 61) (v := 0) (dX10_isUseful 36 rfl rfl) (by decide) rfl ?_
        refine x_istore (pc' := 63) (dX10_isUseful 37 rfl rfl) (by decide) rfl rfl ?_
        exact X.sub [5, 6, 7, 8, 9, 4, 2, 1, 0] rfl (by simp) hf
      · replace hf := hf.2 c9
        refine x_aload_n (pc' := 41) 2 (dX10_isUseful 23 rfl rfl) rfl rfl rfl ?_
        refine x_iload_n (pc' := 42) 3 (dX10_isUseful 24 rfl rfl) rfl rfl rfl ?_
        refine x_iload_n (pc' := 43) 4 (dX10_isUseful 25 rfl rfl) rfl rfl rfl ?_
        refine x_iload_n (pc' := 44) 5 (dX10_isUseful 26 rfl rfl) rfl rfl rfl ?_
        refine x_iload (pc' := 46) 6 (dX10_isUseful 27 rfl rfl) rfl rfl ?_
        refine x_iload (pc' := 48) 0 (dX10_isUseful 28 rfl rfl) rfl rfl ?_
        refine x_iload (pc' := 50) 1 (dX10_isUseful 29 rfl rfl) rfl rfl ?_
        refine x_inv (pc' := 53) (ν := mX10_isUsefulFor) (av := [_, _, _, _, _, _, _]) (st := []) rfl rfl (dX10_isUseful 30 rfl rfl) (Nat.le_of_ble_eq_true rfl) wX10_isUsefulFor q224 (inv_V (k := 8) (dX10_isUseful 30 rfl rfl) q2604 q2606 qs45 wX10_isUsefulFor (by decide) lX10_isUsefulFor (by decide) s5.1) (exN (by decide)) rfl ?_
        refine C.mono hf (fun _ _ => KI.g (fun x13 h11 hf le12 => ?_))
        have k6 := leK le12 k6 (by decide)
        replace s5 := s5.le sc5 (le12)
        obtain ⟨z0, hf⟩ := hf
        exact x_zret (ty := .boolean) (dX10_isUseful 31 rfl rfl) rfl (nar_z z0) hf
    · replace hf := hf.1 (Classical.not_not.mp c2)
      replace c2 := Classical.not_not.mp c2
      refine x_iconst (pc' := 19) (v := 1) (dX10_isUseful 10 rfl rfl) (by decide) rfl ?_
      exact x_zret (ty := .boolean) (dX10_isUseful 11 rfl rfl) rfl (by decide) hf
  · replace hf := hf.1 (Classical.not_not.mp c1)
    replace c1 := Classical.not_not.mp c1
    refine x_iload_n (pc' := 5) 2 (dX10_isUseful 2 rfl rfl) rfl rfl rfl ?_
    refine x_if_ne (pc' := 8) (tgt := 12) (dX10_isUseful 3 rfl rfl) (by decide) rfl (fun c14 => ?_) (fun c14 => ?_)
    · replace hf := hf.2 c14
      refine x_iconst (pc' := 13) (v := 0) (dX10_isUseful 6 rfl rfl) (by decide) rfl ?_
      exact x_zret (ty := .boolean) (dX10_isUseful 7 rfl rfl) rfl (by decide) hf
    · replace hf := hf.1 (Classical.not_not.mp c14)
      replace c14 := Classical.not_not.mp c14
      refine x_iconst (pc' := 9) (v := 1) (dX10_isUseful 4 rfl rfl) (by decide) rfl ?_
      refine x_goto (tgt := 13) (dX10_isUseful 5 rfl rfl) (by decide) ?_
      exact x_zret (ty := .boolean) (dX10_isUseful 7 rfl rfl) rfl (by decide) hf
theorem bX10_isUseful_63 (G : Gh) (d : Nat) (h : AH) (Q : Outcome → AH → Prop) (l1 : Int32) (l2 : Int32) (l3 : Int32) (l4 : Int32) (l5 : Int32) (l7 : Int32) (l8 : Int32) (l9 : Int32) (s5 : So 5 (gW G) h) (hf : (l2 ≤ l9 → ((l8 ≤ 0 → (C G mX10_isUsefulElse d [.ref (gW G 5), .int (l1), .int (l2), .int (l3), .int (l4), .int (l5)] h (KI Q (fun x5 h3 => (x5 = 0 ∨ x5 = 1) ∧ Q (.returned (some (.int x5))) h3)))) ∧ (¬ (l8 ≤ 0) → ((l8 ≤ l7 → (X G mX10_isUseful (d + 1) none [] 197 [(0, .ref (gW G 5)), (1, .int (l1)), (2, .int (l2)), (3, .int (l3)), (4, .int (l4)), (5, .int (l5)), (8, .int (l8)), (9, .int (0))] [] h Q)) ∧ (¬ (l8 ≤ l7) → (C G mX10_isUsefulElse d [.ref (gW G 5), .int (l1), .int (l2), .int (l3), .int (l4), .int (l5)] h (KI Q (fun x9 h7 => (x9 = 0 ∨ x9 = 1) ∧ Q (.returned (some (.int x9))) h7)))))))) ∧ (¬ (l2 ≤ l9) → (∃ b10, fR h (gW G 5) 103 = some b10 ∧ (hK h b10 = 1000 ∧ vp_in (l1 + (l9 * l3)) (hL h b10) ∧ (∀ x14 : Int32, x14 = aI h b10 (l1 + (l9 * l3)).toNatClampNeg → ((x14 = 0 → (∀ x18 : Int32, x18 = l9 + 1 → (X G mX10_isUseful (d + 1) none [] 63 [(0, .ref (gW G 5)), (1, .int (l1)), (2, .int (l2)), (3, .int (l3)), (4, .int (l4)), (5, .int (l5)), (7, .int (l7)), (8, .int (l8)), (9, .int (x18))] [] h Q))) ∧ (¬ x14 = 0 → (vp_in x14 1000 ∧ (∀ x17 : Int32, x17 = aI h (gW G 1097) x14.toNatClampNeg → (X G mX10_isUseful (d + 1) none [] 105 [(0, .ref (gW G 5)), (1, .int (l1)), (2, .int (l2)), (3, .int (l3)), (4, .int (l4)), (5, .int (l5)), (7, .int (l7)), (8, .int (x17)), (9, .int (l9)), (10, .int (x14)), (11, .int (1)), (12, .int (0))] [] h Q)))))))))) : X G mX10_isUseful (d + 1) none [] 63 [(0, .ref (gW G 5)), (1, .int (l1)), (2, .int (l2)), (3, .int (l3)), (4, .int (l4)), (5, .int (l5)), (7, .int (l7)), (8, .int (l8)), (9, .int (l9))] [] h Q := by
  refine x_iload (pc' := 65) 8 (dX10_isUseful 38 rfl rfl) rfl rfl ?_
  refine x_iload_n (pc' := 66) 2 (dX10_isUseful 39 rfl rfl) rfl rfl rfl ?_
  refine x_icmp_ge (pc' := 69) (tgt := 170) (dX10_isUseful 40 rfl rfl) (by decide) rfl (fun c1 => ?_) (fun c1 => ?_)
  · replace hf := hf.1 c1
    refine x_iload (pc' := 172) 7 (dX10_isUseful 94 rfl rfl) rfl rfl ?_
    refine x_if_le (pc' := 175) (tgt := 182) (dX10_isUseful 95 rfl rfl) (by decide) rfl (fun c2 => ?_) (fun c2 => ?_)
    · replace hf := hf.1 c2
      refine x_aload_n (pc' := 183) 0 (dX10_isUseful 99 rfl rfl) rfl rfl rfl ?_
      refine x_iload_n (pc' := 184) 1 (dX10_isUseful 100 rfl rfl) rfl rfl rfl ?_
      refine x_iload_n (pc' := 185) 2 (dX10_isUseful 101 rfl rfl) rfl rfl rfl ?_
      refine x_iload_n (pc' := 186) 3 (dX10_isUseful 102 rfl rfl) rfl rfl rfl ?_
      refine x_iload (pc' := 188) 4 (dX10_isUseful 103 rfl rfl) rfl rfl ?_
      refine x_iload (pc' := 190) 5 (dX10_isUseful 104 rfl rfl) rfl rfl ?_
      refine x_inv (pc' := 193) (ν := mX10_isUsefulElse) (av := [_, _, _, _, _, _]) (st := []) rfl rfl (dX10_isUseful 105 rfl rfl) (Nat.le_of_ble_eq_true rfl) wX10_isUsefulElse q224 (inv_V (k := 8) (dX10_isUseful 105 rfl rfl) q2612 q2614 qs47 wX10_isUsefulElse (by decide) lX10_isUsefulElse (by decide) s5.1) (exN (by decide)) rfl ?_
      refine C.mono hf (fun _ _ => KI.g (fun x5 h3 hf le4 => ?_))
      replace s5 := s5.le sc5 (le4)
      obtain ⟨z0, hf⟩ := hf
      exact x_zret (ty := .boolean) (dX10_isUseful 106 rfl rfl) rfl (nar_z z0) hf
    · replace hf := hf.2 c2
      refine x_iload (pc' := 177) 6 (dX10_isUseful 96 rfl rfl) rfl rfl ?_
      refine x_iload (pc' := 179) 7 (dX10_isUseful 97 rfl rfl) rfl rfl ?_
      refine x_icmp_ge (pc' := 182) (tgt := 194) (dX10_isUseful 98 rfl rfl) (by decide) rfl (fun c6 => ?_) (fun c6 => ?_)
      · replace hf := hf.1 c6
        refine x_iconst (pc' := 195) (v := 0) (dX10_isUseful 107 rfl rfl) (by decide) rfl ?_
        refine x_istore (pc' := 197) (dX10_isUseful 108 rfl rfl) (by decide) rfl rfl ?_
        exact X.sub [1, 2, 3, 4, 5, 6, 8, 0] rfl (by simp) hf
      · replace hf := hf.2 c6
        refine x_aload_n (pc' := 183) 0 (dX10_isUseful 99 rfl rfl) rfl rfl rfl ?_
        refine x_iload_n (pc' := 184) 1 (dX10_isUseful 100 rfl rfl) rfl rfl rfl ?_
        refine x_iload_n (pc' := 185) 2 (dX10_isUseful 101 rfl rfl) rfl rfl rfl ?_
        refine x_iload_n (pc' := 186) 3 (dX10_isUseful 102 rfl rfl) rfl rfl rfl ?_
        refine x_iload (pc' := 188) 4 (dX10_isUseful 103 rfl rfl) rfl rfl ?_
        refine x_iload (pc' := 190) 5 (dX10_isUseful 104 rfl rfl) rfl rfl ?_
        refine x_inv (pc' := 193) (ν := mX10_isUsefulElse) (av := [_, _, _, _, _, _]) (st := []) rfl rfl (dX10_isUseful 105 rfl rfl) (Nat.le_of_ble_eq_true rfl) wX10_isUsefulElse q224 (inv_V (k := 8) (dX10_isUseful 105 rfl rfl) q2612 q2614 qs47 wX10_isUsefulElse (by decide) lX10_isUsefulElse (by decide) s5.1) (exN (by decide)) rfl ?_
        refine C.mono hf (fun _ _ => KI.g (fun x9 h7 hf le8 => ?_))
        replace s5 := s5.le sc5 (le8)
        obtain ⟨z0, hf⟩ := hf
        exact x_zret (ty := .boolean) (dX10_isUseful 106 rfl rfl) rfl (nar_z z0) hf
  · replace hf := hf.2 c1
    refine x_aload_n (pc' := 70) 0 (dX10_isUseful 41 rfl rfl) rfl rfl rfl ?_
    obtain ⟨b10, e11, hf⟩ := hf
    refine x_getR (pc' := 73) (dX10_isUseful 42 rfl rfl) g103 q758 (Or.inl rfl) rfl (hf_of 8 s5.1 rfl (by decide) m8_103) e11 ?_
    refine x_iload_n (pc' := 74) 1 (dX10_isUseful 43 rfl rfl) rfl rfl rfl ?_
    refine x_iload (pc' := 76) 8 (dX10_isUseful 44 rfl rfl) rfl rfl ?_
    refine x_iload_n (pc' := 77) 3 (dX10_isUseful 45 rfl rfl) rfl rfl rfl ?_
    refine x_imul (pc' := 78) (dX10_isUseful 46 rfl rfl) rfl ?_
    refine x_iadd (pc' := 79) (dX10_isUseful 47 rfl rfl) rfl ?_
    obtain ⟨k12, hf⟩ := hf
    obtain ⟨i13, hf⟩ := hf
    refine x_iald (pc' := 80) (dX10_isUseful 48 rfl rfl) rfl k12 i13 ?_
    replace hf := hf _ rfl
    refine x_istore (pc' := 82) (dX10_isUseful 49 rfl rfl) (by decide) rfl rfl ?_
    refine x_iload (pc' := 84) 0 (dX10_isUseful 50 rfl rfl) rfl rfl ?_
    refine x_if_ne (pc' := 87) (tgt := 90) (dX10_isUseful 51 rfl rfl) (by decide) rfl (fun c15 => ?_) (fun c15 => ?_)
    · replace hf := hf.2 c15
      refine x_aload_n (pc' := 91) 1 (dX10_isUseful 53 rfl rfl) rfl rfl rfl ?_
      refine x_getR (pc' := 94) (dX10_isUseful 54 rfl rfl) g97 q752 (Or.inl rfl) rfl (hf_of 8 s5.1 rfl (by decide) m8_97) (s5.2 1 _ rfl rfl).1 ?_
      refine x_iload (pc' := 96) 0 (dX10_isUseful 55 rfl rfl) rfl rfl ?_
      obtain ⟨i16, hf⟩ := hf
      refine x_iald (pc' := 97) (dX10_isUseful 56 rfl rfl) rfl (s5.2 1 _ rfl rfl).2.1 (by rw [(s5.2 1 _ rfl rfl).2.2.2 (by decide)]; exact i16) ?_
      replace hf := hf _ rfl
      refine x_istore (pc' := 99) (dX10_isUseful 57 rfl rfl) (by decide) rfl rfl ?_
      refine x_iconst (pc' := 100) (v := 1) (dX10_isUseful 58 rfl rfl) (by decide) rfl ?_
      refine x_istore (pc' := 102) (dX10_isUseful 59 rfl rfl) (by decide) rfl rfl ?_
      refine x_iconst (pc' := 103) (v := 0) (dX10_isUseful 60 rfl rfl) (by decide) rfl ?_
      refine x_istore (pc' := 105) (dX10_isUseful 61 rfl rfl) (by decide) rfl rfl ?_
      exact X.sub [4, 5, 6, 7, 8, 9, 10, 2, 11, 3, 1, 0] rfl (by simp) hf
    · replace hf := hf.1 (Classical.not_not.mp c15)
      replace c15 := Classical.not_not.mp c15
      refine x_goto (tgt := 164) (dX10_isUseful 52 rfl rfl) (by decide) ?_
      replace hf := hf _ rfl
      refine x_iinc (pc' := 167) 9 (dX10_isUseful 92 rfl rfl) rfl (by rfl) (by decide) rfl rfl ?_
      refine x_goto (tgt := 63) (dX10_isUseful 93 rfl rfl) (by decide) ?_
      exact X.sub [2, 3, 4, 5, 6, 7, 8, 9, 0] rfl (by simp) hf
theorem bX10_isUseful_105 (G : Gh) (d : Nat) (h : AH) (Q : Outcome → AH → Prop) (l1 : Int32) (l2 : Int32) (l3 : Int32) (l4 : Int32) (l5 : Int32) (l7 : Int32) (l8 : Int32) (l9 : Int32) (l10 : Int32) (l11 : Int32) (l12 : Int32) (s5 : So 5 (gW G) h) (hf : (l9 ≤ l12 → ((l11 = 0 → (∀ x3 : Int32, x3 = l9 + 1 → (X G mX10_isUseful (d + 1) none [] 63 [(0, .ref (gW G 5)), (1, .int (l1)), (2, .int (l2)), (3, .int (l3)), (4, .int (l4)), (5, .int (l5)), (7, .int (l7)), (8, .int (l8)), (9, .int (x3))] [] h Q))) ∧ (¬ l11 = 0 → (∀ x4 : Int32, x4 = l7 + 1 → (∀ x5 : Int32, x5 = l9 + 1 → (X G mX10_isUseful (d + 1) none [] 63 [(0, .ref (gW G 5)), (1, .int (l1)), (2, .int (l2)), (3, .int (l3)), (4, .int (l4)), (5, .int (l5)), (7, .int (x4)), (8, .int (l8)), (9, .int (x5))] [] h Q)))))) ∧ (¬ (l9 ≤ l12) → (∃ b6, fR h (gW G 5) 103 = some b6 ∧ (hK h b6 = 1000 ∧ vp_in (l1 + (l12 * l3)) (hL h b6) ∧ (∀ x10 : Int32, x10 = aI h b6 (l1 + (l12 * l3)).toNatClampNeg → ((x10 = 0 → (∀ x12 : Int32, x12 = l12 + 1 → (X G mX10_isUseful (d + 1) none [] 105 [(0, .ref (gW G 5)), (1, .int (l1)), (2, .int (l2)), (3, .int (l3)), (4, .int (l4)), (5, .int (l5)), (7, .int (l7)), (8, .int (l8)), (9, .int (l9)), (10, .int (l10)), (11, .int (l11)), (12, .int (x12))] [] h Q))) ∧ (¬ x10 = 0 → (vp_in x10 1000 ∧ (vp_in l10 1000 ∧ (((aI h (gW G 1096) x10.toNatClampNeg) = (aI h (gW G 1096) l10.toNatClampNeg) → (∀ x17 : Int32, x17 = l12 + 1 → (X G mX10_isUseful (d + 1) none [] 105 [(0, .ref (gW G 5)), (1, .int (l1)), (2, .int (l2)), (3, .int (l3)), (4, .int (l4)), (5, .int (l5)), (7, .int (l7)), (8, .int (l8)), (9, .int (l9)), (10, .int (l10)), (11, .int (0)), (12, .int (x17))] [] h Q))) ∧ (¬ ((aI h (gW G 1096) x10.toNatClampNeg) = (aI h (gW G 1096) l10.toNatClampNeg)) → (∀ x16 : Int32, x16 = l12 + 1 → (X G mX10_isUseful (d + 1) none [] 105 [(0, .ref (gW G 5)), (1, .int (l1)), (2, .int (l2)), (3, .int (l3)), (4, .int (l4)), (5, .int (l5)), (7, .int (l7)), (8, .int (l8)), (9, .int (l9)), (10, .int (l10)), (11, .int (l11)), (12, .int (x16))] [] h Q))))))))))))) : X G mX10_isUseful (d + 1) none [] 105 [(0, .ref (gW G 5)), (1, .int (l1)), (2, .int (l2)), (3, .int (l3)), (4, .int (l4)), (5, .int (l5)), (7, .int (l7)), (8, .int (l8)), (9, .int (l9)), (10, .int (l10)), (11, .int (l11)), (12, .int (l12))] [] h Q := by
  refine x_iload (pc' := 107) 11 (dX10_isUseful 62 rfl rfl) rfl rfl ?_
  refine x_iload (pc' := 109) 8 (dX10_isUseful 63 rfl rfl) rfl rfl ?_
  refine x_icmp_ge (pc' := 112) (tgt := 156) (dX10_isUseful 64 rfl rfl) (by decide) rfl (fun c1 => ?_) (fun c1 => ?_)
  · replace hf := hf.1 c1
    refine x_iload (pc' := 158) 10 (dX10_isUseful 89 rfl rfl) rfl rfl ?_
    refine x_if_eq (pc' := 161) (tgt := 164) (dX10_isUseful 90 rfl rfl) (by decide) rfl (fun c2 => ?_) (fun c2 => ?_)
    · replace hf := hf.1 c2
      replace hf := hf _ rfl
      refine x_iinc (pc' := 167) 8 (dX10_isUseful 92 rfl rfl) rfl (by rfl) (by decide) rfl rfl ?_
      refine x_goto (tgt := 63) (dX10_isUseful 93 rfl rfl) (by decide) ?_
      exact X.sub [1, 2, 3, 4, 5, 6, 7, 8, 0] rfl (by simp) hf
    · replace hf := hf.2 c2
      replace hf := hf _ rfl
      refine x_iinc (pc' := 164) 6 (dX10_isUseful 91 rfl rfl) rfl (by rfl) (by decide) rfl rfl ?_
      replace hf := hf _ rfl
      refine x_iinc (pc' := 167) 8 (dX10_isUseful 92 rfl rfl) rfl (by rfl) (by decide) rfl rfl ?_
      refine x_goto (tgt := 63) (dX10_isUseful 93 rfl rfl) (by decide) ?_
      exact X.sub [2, 3, 4, 5, 6, 7, 1, 8, 0] rfl (by simp) hf
  · replace hf := hf.2 c1
    refine x_aload_n (pc' := 113) 0 (dX10_isUseful 65 rfl rfl) rfl rfl rfl ?_
    obtain ⟨b6, e7, hf⟩ := hf
    refine x_getR (pc' := 116) (dX10_isUseful 66 rfl rfl) g103 q758 (Or.inl rfl) rfl (hf_of 8 s5.1 rfl (by decide) m8_103) e7 ?_
    refine x_iload_n (pc' := 117) 1 (dX10_isUseful 67 rfl rfl) rfl rfl rfl ?_
    refine x_iload (pc' := 119) 11 (dX10_isUseful 68 rfl rfl) rfl rfl ?_
    refine x_iload_n (pc' := 120) 3 (dX10_isUseful 69 rfl rfl) rfl rfl rfl ?_
    refine x_imul (pc' := 121) (dX10_isUseful 70 rfl rfl) rfl ?_
    refine x_iadd (pc' := 122) (dX10_isUseful 71 rfl rfl) rfl ?_
    obtain ⟨k8, hf⟩ := hf
    obtain ⟨i9, hf⟩ := hf
    refine x_iald (pc' := 123) (dX10_isUseful 72 rfl rfl) rfl k8 i9 ?_
    replace hf := hf _ rfl
    refine x_istore (pc' := 125) (dX10_isUseful 73 rfl rfl) (by decide) rfl rfl ?_
    refine x_iload (pc' := 127) 0 (dX10_isUseful 74 rfl rfl) rfl rfl ?_
    refine x_if_eq (pc' := 130) (tgt := 150) (dX10_isUseful 75 rfl rfl) (by decide) rfl (fun c11 => ?_) (fun c11 => ?_)
    · replace hf := hf.1 c11
      replace hf := hf _ rfl
      refine x_iinc (pc' := 153) 12 (dX10_isUseful 87 rfl rfl) rfl (by rfl) (by decide) rfl rfl ?_
      refine x_goto (tgt := 105) (dX10_isUseful 88 rfl rfl) (by decide) ?_
      exact X.sub [2, 3, 4, 5, 6, 7, 8, 9, 10, 11, 12, 0] rfl (by simp) hf
    · replace hf := hf.2 c11
      refine x_aload_n (pc' := 131) 1 (dX10_isUseful 76 rfl rfl) rfl rfl rfl ?_
      refine x_getR (pc' := 134) (dX10_isUseful 77 rfl rfl) g96 q751 (Or.inl rfl) rfl (hf_of 8 s5.1 rfl (by decide) m8_96) (s5.2 0 _ rfl rfl).1 ?_
      refine x_iload (pc' := 136) 0 (dX10_isUseful 78 rfl rfl) rfl rfl ?_
      obtain ⟨i13, hf⟩ := hf
      refine x_iald (pc' := 137) (dX10_isUseful 79 rfl rfl) rfl (s5.2 0 _ rfl rfl).2.1 (by rw [(s5.2 0 _ rfl rfl).2.2.2 (by decide)]; exact i13) ?_
      refine x_aload_n (pc' := 138) 1 (dX10_isUseful 80 rfl rfl) rfl rfl rfl ?_
      refine x_getR (pc' := 141) (dX10_isUseful 81 rfl rfl) g96 q751 (Or.inl rfl) rfl (hf_of 8 s5.1 rfl (by decide) m8_96) (s5.2 0 _ rfl rfl).1 ?_
      refine x_iload (pc' := 143) 10 (dX10_isUseful 82 rfl rfl) rfl rfl ?_
      obtain ⟨i14, hf⟩ := hf
      refine x_iald (pc' := 144) (dX10_isUseful 83 rfl rfl) rfl (s5.2 0 _ rfl rfl).2.1 (by rw [(s5.2 0 _ rfl rfl).2.2.2 (by decide)]; exact i14) ?_
      refine x_icmp_ne (pc' := 147) (tgt := 150) (dX10_isUseful 84 rfl rfl) (by decide) rfl (fun c15 => ?_) (fun c15 => ?_)
      · replace hf := hf.2 c15
        replace hf := hf _ rfl
        refine x_iinc (pc' := 153) 12 (dX10_isUseful 87 rfl rfl) rfl (by rfl) (by decide) rfl rfl ?_
        refine x_goto (tgt := 105) (dX10_isUseful 88 rfl rfl) (by decide) ?_
        exact X.sub [2, 3, 4, 5, 6, 7, 8, 9, 10, 11, 12, 0] rfl (by simp) hf
      · replace hf := hf.1 (Classical.not_not.mp c15)
        replace c15 := Classical.not_not.mp c15
        refine x_iconst (pc' := 148) (v := 0) (dX10_isUseful 85 rfl rfl) (by decide) rfl ?_
        refine x_istore (pc' := 150) (dX10_isUseful 86 rfl rfl) (by decide) rfl rfl ?_
        replace hf := hf _ rfl
        refine x_iinc (pc' := 153) 12 (dX10_isUseful 87 rfl rfl) rfl (by rfl) (by decide) rfl rfl ?_
        refine x_goto (tgt := 105) (dX10_isUseful 88 rfl rfl) (by decide) ?_
        exact X.sub [3, 4, 5, 6, 7, 8, 9, 10, 11, 12, 1, 0] rfl (by simp) hf
theorem bX10_isUseful_197 (G : Gh) (d : Nat) (h : AH) (Q : Outcome → AH → Prop) (l1 : Int32) (l2 : Int32) (l3 : Int32) (l4 : Int32) (l5 : Int32) (l8 : Int32) (l9 : Int32) (s5 : So 5 (gW G) h) (hf : (l8 ≤ l9 → (Q (.returned (some (.int 0))) h)) ∧ (¬ (l8 ≤ l9) → (C G mX10_withHead d [.ref (gW G 5), .int (l1), .int (l2), .int (l3), .int (l9)] h (KI Q (fun x4 h2 => C G mX10_isUsefulFor d [.ref (gW G 5), .int (l1), .int (l2), .int (l3), .int (l4), .int (x4), .int (l5)] h2 (KI Q (fun x7 h5 => (x7 = 0 → (∀ x9 : Int32, x9 = l9 + 1 → (X G mX10_isUseful (d + 1) none [] 197 [(0, .ref (gW G 5)), (1, .int (l1)), (2, .int (l2)), (3, .int (l3)), (4, .int (l4)), (5, .int (l5)), (8, .int (l8)), (9, .int (x9))] [] h5 Q))) ∧ (¬ x7 = 0 → (Q (.returned (some (.int 1))) h5))))))))) : X G mX10_isUseful (d + 1) none [] 197 [(0, .ref (gW G 5)), (1, .int (l1)), (2, .int (l2)), (3, .int (l3)), (4, .int (l4)), (5, .int (l5)), (8, .int (l8)), (9, .int (l9))] [] h Q := by
  refine x_iload (pc' := 199) 7 (dX10_isUseful 109 rfl rfl) rfl rfl ?_
  refine x_iload (pc' := 201) 6 (dX10_isUseful 110 rfl rfl) rfl rfl ?_
  refine x_icmp_ge (pc' := 204) (tgt := 239) (dX10_isUseful 111 rfl rfl) (by decide) rfl (fun c1 => ?_) (fun c1 => ?_)
  · replace hf := hf.1 c1
    refine x_iconst (pc' := 240) (v := 0) (dX10_isUseful 132 rfl rfl) (by decide) rfl ?_
    exact x_zret (ty := .boolean) (dX10_isUseful 133 rfl rfl) rfl (by decide) hf
  · replace hf := hf.2 c1
    refine x_aload_n (pc' := 205) 0 (dX10_isUseful 112 rfl rfl) rfl rfl rfl ?_
    refine x_iload_n (pc' := 206) 1 (dX10_isUseful 113 rfl rfl) rfl rfl rfl ?_
    refine x_iload_n (pc' := 207) 2 (dX10_isUseful 114 rfl rfl) rfl rfl rfl ?_
    refine x_iload_n (pc' := 208) 3 (dX10_isUseful 115 rfl rfl) rfl rfl rfl ?_
    refine x_iload (pc' := 210) 7 (dX10_isUseful 116 rfl rfl) rfl rfl ?_
    refine x_inv (pc' := 213) (ν := mX10_withHead) (av := [_, _, _, _, _]) (st := []) rfl rfl (dX10_isUseful 117 rfl rfl) (Nat.le_of_ble_eq_true rfl) wX10_withHead q224 (inv_V (k := 8) (dX10_isUseful 117 rfl rfl) q2616 q2618 qs48 wX10_withHead (by decide) lX10_withHead (by decide) s5.1) (exN (by decide)) rfl ?_
    refine C.mono hf (fun _ _ => KI.g (fun x4 h2 hf le3 => ?_))
    replace s5 := s5.le sc5 (le3)
    refine x_istore (pc' := 215) (dX10_isUseful 118 rfl rfl) (by decide) rfl rfl ?_
    refine x_aload_n (pc' := 216) 1 (dX10_isUseful 119 rfl rfl) rfl rfl rfl ?_
    refine x_iload_n (pc' := 217) 2 (dX10_isUseful 120 rfl rfl) rfl rfl rfl ?_
    refine x_iload_n (pc' := 218) 3 (dX10_isUseful 121 rfl rfl) rfl rfl rfl ?_
    refine x_iload_n (pc' := 219) 4 (dX10_isUseful 122 rfl rfl) rfl rfl rfl ?_
    refine x_iload (pc' := 221) 5 (dX10_isUseful 123 rfl rfl) rfl rfl ?_
    refine x_iload (pc' := 223) 0 (dX10_isUseful 124 rfl rfl) rfl rfl ?_
    refine x_iload (pc' := 225) 6 (dX10_isUseful 125 rfl rfl) rfl rfl ?_
    refine x_inv (pc' := 228) (ν := mX10_isUsefulFor) (av := [_, _, _, _, _, _, _]) (st := []) rfl rfl (dX10_isUseful 126 rfl rfl) (Nat.le_of_ble_eq_true rfl) wX10_isUsefulFor q224 (inv_V (k := 8) (dX10_isUseful 126 rfl rfl) q2604 q2606 qs45 wX10_isUsefulFor (by decide) lX10_isUsefulFor (by decide) s5.1) (exN (by decide)) rfl ?_
    refine C.mono hf (fun _ _ => KI.g (fun x7 h5 hf le6 => ?_))
    replace s5 := s5.le sc5 (le6)
    refine x_if_eq (pc' := 231) (tgt := 233) (dX10_isUseful 127 rfl rfl) (by decide) rfl (fun c8 => ?_) (fun c8 => ?_)
    · replace hf := hf.1 c8
      replace hf := hf _ rfl
      refine x_iinc (pc' := 236) 8 (dX10_isUseful 130 rfl rfl) rfl (by rfl) (by decide) rfl rfl ?_
      refine x_goto (tgt := 197) (dX10_isUseful 131 rfl rfl) (by decide) ?_
      exact X.sub [2, 3, 4, 5, 6, 7, 8, 0] rfl (by simp) hf
    · replace hf := hf.2 c8
      refine x_iconst (pc' := 232) (v := 1) (dX10_isUseful 128 rfl rfl) (by decide) rfl ?_
      exact x_zret (ty := .boolean) (dX10_isUseful 129 rfl rfl) rfl (by decide) hf
theorem bX10_isUsefulFor (G : Gh) (d : Nat) (h : AH) (Q : Outcome → AH → Prop) (p1 : Int32) (p2 : Int32) (p3 : Int32) (p4 : Int32) (p5 : Int32) (p6 : Int32) (s5 : So 5 (gW G) h) (hf : vp_in p5 1000 ∧ (∀ x2 : Int32, x2 = aI h (gW G 1099) p5.toNatClampNeg → (X G mX10_isUsefulFor (d + 1) none [] 19 [(0, .ref (gW G 5)), (1, .int (p1)), (2, .int (p2)), (3, .int (p3)), (4, .int (p4)), (5, .int (p5)), (6, .int (p6)), (7, .int (x2)), (8, .int (p6)), (9, .int (0)), (10, .int (0))] [] h Q))) : C G mX10_isUsefulFor (d + 1) [.ref (gW G 5), .int (p1), .int (p2), .int (p3), .int (p4), .int (p5), .int (p6)] h Q := by
  refine C.of_X (by decide +kernel) (Nat.le_of_ble_eq_true rfl) wX10_isUsefulFor ?_
  show X G mX10_isUsefulFor (d + 1) none [] 0 [(0, .ref (gW G 5)), (1, .int (p1)), (2, .int (p2)), (3, .int (p3)), (4, .int (p4)), (5, .int (p5)), (6, .int (p6))] [] h Q
  refine x_aload_n (pc' := 1) 0 (dX10_isUsefulFor 0 rfl rfl) rfl rfl rfl ?_
  refine x_getR (pc' := 4) (dX10_isUsefulFor 1 rfl rfl) g99 q754 (Or.inl rfl) rfl (hf_of 8 s5.1 rfl (by decide) m8_99) (s5.2 3 _ rfl rfl).1 ?_
  refine x_iload (pc' := 6) 5 (dX10_isUsefulFor 2 rfl rfl) rfl rfl ?_
  obtain ⟨i1, hf⟩ := hf
  refine x_iald (pc' := 7) (dX10_isUsefulFor 3 rfl rfl) rfl (s5.2 3 _ rfl rfl).2.1 (by rw [(s5.2 3 _ rfl rfl).2.2.2 (by decide)]; exact i1) ?_
  replace hf := hf _ rfl
  refine x_istore (pc' := 9) (dX10_isUsefulFor 4 rfl rfl) (by decide) rfl rfl ?_
  refine x_iload (pc' := 11) 7 (dX10_isUsefulFor 5 rfl rfl) rfl rfl ?_
  refine x_istore (pc' := 13) (dX10_isUsefulFor 6 rfl rfl) (by decide) rfl rfl ?_
  refine x_iconst (pc' := 14) (v := 0) (dX10_isUsefulFor 7 rfl rfl) (by decide) rfl ?_
  refine x_istore (pc' := 16) (dX10_isUsefulFor 8 rfl rfl) (by decide) rfl rfl ?_
  refine x_iconst (pc' := 17) (v := 0) (dX10_isUsefulFor 9 rfl rfl) (by decide) rfl ?_
  refine x_istore (pc' := 19) (dX10_isUsefulFor 10 rfl rfl) (by decide) rfl rfl ?_
  exact X.sub [4, 5, 6, 7, 8, 9, 10, 3, 2, 1, 0] rfl (by simp) hf
theorem bX10_isUsefulFor_19 (G : Gh) (d : Nat) (h : AH) (Q : Outcome → AH → Prop) (l1 : Int32) (l2 : Int32) (l3 : Int32) (l4 : Int32) (l5 : Int32) (l6 : Int32) (l7 : Int32) (l8 : Int32) (l9 : Int32) (l10 : Int32) (s5 : So 5 (gW G) h) (hf : (l2 ≤ l10 → (∃ b2, fR h (gW G 5) 103 = some b2 ∧ (hK h b2 = 1000 ∧ vp_in l4 (hL h b2) ∧ (C G mX10_laid d [.ref (gW G 5), .int (aI h b2 l4.toNatClampNeg), .int (l7), .int (l4), .int (l3), .int (l8)] h (KI Q (fun x8 h6 => C G mX10_isUseful d [.ref (gW G 5), .int (l6), .int (l9), .int ((l3 - 1) + l7), .int (l8)] h6 (KI Q (fun x11 h9 => (x11 = 0 ∨ x11 = 1) ∧ Q (.returned (some (.int x11))) h9)))))))) ∧ (¬ (l2 ≤ l10) → (∃ b12, fR h (gW G 5) 103 = some b12 ∧ (hK h b12 = 1000 ∧ vp_in (l1 + (l10 * l3)) (hL h b12) ∧ (∀ x16 : Int32, x16 = aI h b12 (l1 + (l10 * l3)).toNatClampNeg → ((x16 = 0 → (C G mX10_laid d [.ref (gW G 5), .int (x16), .int (l7), .int (l1 + (l10 * l3)), .int (l3), .int (l8)] h (KI Q (fun x20 h18 => ∀ x21 : Int32, x21 = l9 + 1 → (∀ x22 : Int32, x22 = l10 + 1 → (X G mX10_isUsefulFor (d + 1) none [] 19 [(0, .ref (gW G 5)), (1, .int (l1)), (2, .int (l2)), (3, .int (l3)), (4, .int (l4)), (5, .int (l5)), (6, .int (l6)), (7, .int (l7)), (8, .int (x20)), (9, .int (x21)), (10, .int (x22))] [] h18 Q)))))) ∧ (¬ x16 = 0 → (vp_in x16 1000 ∧ (vp_in l5 1000 ∧ (((aI h (gW G 1096) x16.toNatClampNeg) = (aI h (gW G 1096) l5.toNatClampNeg) → (C G mX10_laid d [.ref (gW G 5), .int (x16), .int (l7), .int (l1 + (l10 * l3)), .int (l3), .int (l8)] h (KI Q (fun x28 h26 => ∀ x29 : Int32, x29 = l9 + 1 → (∀ x30 : Int32, x30 = l10 + 1 → (X G mX10_isUsefulFor (d + 1) none [] 19 [(0, .ref (gW G 5)), (1, .int (l1)), (2, .int (l2)), (3, .int (l3)), (4, .int (l4)), (5, .int (l5)), (6, .int (l6)), (7, .int (l7)), (8, .int (x28)), (9, .int (x29)), (10, .int (x30))] [] h26 Q)))))) ∧ (¬ ((aI h (gW G 1096) x16.toNatClampNeg) = (aI h (gW G 1096) l5.toNatClampNeg)) → (∀ x31 : Int32, x31 = l10 + 1 → (X G mX10_isUsefulFor (d + 1) none [] 19 [(0, .ref (gW G 5)), (1, .int (l1)), (2, .int (l2)), (3, .int (l3)), (4, .int (l4)), (5, .int (l5)), (6, .int (l6)), (7, .int (l7)), (8, .int (l8)), (9, .int (l9)), (10, .int (x31))] [] h Q))))))))))))) : X G mX10_isUsefulFor (d + 1) none [] 19 [(0, .ref (gW G 5)), (1, .int (l1)), (2, .int (l2)), (3, .int (l3)), (4, .int (l4)), (5, .int (l5)), (6, .int (l6)), (7, .int (l7)), (8, .int (l8)), (9, .int (l9)), (10, .int (l10))] [] h Q := by
  refine x_iload (pc' := 21) 10 (dX10_isUsefulFor 11 rfl rfl) rfl rfl ?_
  refine x_iload_n (pc' := 22) 2 (dX10_isUsefulFor 12 rfl rfl) rfl rfl rfl ?_
  refine x_icmp_ge (pc' := 25) (tgt := 91) (dX10_isUsefulFor 13 rfl rfl) (by decide) rfl (fun c1 => ?_) (fun c1 => ?_)
  · replace hf := hf.1 c1
    refine x_iload (pc' := 93) 8 (dX10_isUsefulFor 50 rfl rfl) rfl rfl ?_
    refine x_istore (pc' := 95) (dX10_isUsefulFor 51 rfl rfl) (by decide) rfl rfl ?_
    refine x_aload_n (pc' := 96) 1 (dX10_isUsefulFor 52 rfl rfl) rfl rfl rfl ?_
    refine x_aload_n (pc' := 97) 1 (dX10_isUsefulFor 53 rfl rfl) rfl rfl rfl ?_
    obtain ⟨b2, e3, hf⟩ := hf
    refine x_getR (pc' := 100) (dX10_isUsefulFor 54 rfl rfl) g103 q758 (Or.inl rfl) rfl (hf_of 8 s5.1 rfl (by decide) m8_103) e3 ?_
    refine x_iload (pc' := 102) 5 (dX10_isUsefulFor 55 rfl rfl) rfl rfl ?_
    obtain ⟨k4, hf⟩ := hf
    obtain ⟨i5, hf⟩ := hf
    refine x_iald (pc' := 103) (dX10_isUsefulFor 56 rfl rfl) rfl k4 i5 ?_
    refine x_iload (pc' := 105) 8 (dX10_isUsefulFor 57 rfl rfl) rfl rfl ?_
    refine x_iload (pc' := 107) 5 (dX10_isUsefulFor 58 rfl rfl) rfl rfl ?_
    refine x_iload_n (pc' := 108) 4 (dX10_isUsefulFor 59 rfl rfl) rfl rfl rfl ?_
    refine x_iload (pc' := 110) 9 (dX10_isUsefulFor 60 rfl rfl) rfl rfl ?_
    refine x_inv (pc' := 113) (ν := mX10_laid) (av := [_, _, _, _, _, _]) (st := []) rfl rfl (dX10_isUsefulFor 61 rfl rfl) (Nat.le_of_ble_eq_true rfl) wX10_laid q224 (inv_V (k := 8) (dX10_isUsefulFor 61 rfl rfl) q2608 q2610 qs46 wX10_laid (by decide) lX10_laid (by decide) s5.1) (exN (by decide)) rfl ?_
    refine C.mono hf (fun _ _ => KI.g (fun x8 h6 hf le7 => ?_))
    have k4 := leK le7 k4 (by decide)
    replace s5 := s5.le sc5 (le7)
    refine x_istore (pc' := 115) (dX10_isUsefulFor 62 rfl rfl) (by decide) rfl rfl ?_
    refine x_aload_n (pc' := 116) 2 (dX10_isUsefulFor 63 rfl rfl) rfl rfl rfl ?_
    refine x_iload (pc' := 118) 8 (dX10_isUsefulFor 64 rfl rfl) rfl rfl ?_
    refine x_iload (pc' := 120) 10 (dX10_isUsefulFor 65 rfl rfl) rfl rfl ?_
    refine x_iload_n (pc' := 121) 5 (dX10_isUsefulFor 66 rfl rfl) rfl rfl rfl ?_
    refine x_iconst (pc' := 122) (v := 1) (dX10_isUsefulFor 67 rfl rfl) (by decide) rfl ?_
    refine x_isub (pc' := 123) (dX10_isUsefulFor 68 rfl rfl) rfl ?_
    refine x_iload (pc' := 125) 9 (dX10_isUsefulFor 69 rfl rfl) rfl rfl ?_
    refine x_iadd (pc' := 126) (dX10_isUsefulFor 70 rfl rfl) rfl ?_
    refine x_iload (pc' := 128) 1 (dX10_isUsefulFor 71 rfl rfl) rfl rfl ?_
    refine x_inv (pc' := 131) (ν := mX10_isUseful) (av := [_, _, _, _, _]) (st := []) rfl rfl (dX10_isUsefulFor 72 rfl rfl) (Nat.le_of_ble_eq_true rfl) wX10_isUseful q224 (inv_V (k := 8) (dX10_isUsefulFor 72 rfl rfl) q2600 q2602 qs44 wX10_isUseful (by decide) lX10_isUseful (by decide) s5.1) (exN (by decide)) rfl ?_
    refine C.mono hf (fun _ _ => KI.g (fun x11 h9 hf le10 => ?_))
    have k4 := leK le10 k4 (by decide)
    replace s5 := s5.le sc5 (le10)
    obtain ⟨z0, hf⟩ := hf
    exact x_zret (ty := .boolean) (dX10_isUsefulFor 73 rfl rfl) rfl (nar_z z0) hf
  · replace hf := hf.2 c1
    refine x_aload_n (pc' := 26) 0 (dX10_isUsefulFor 14 rfl rfl) rfl rfl rfl ?_
    obtain ⟨b12, e13, hf⟩ := hf
    refine x_getR (pc' := 29) (dX10_isUsefulFor 15 rfl rfl) g103 q758 (Or.inl rfl) rfl (hf_of 8 s5.1 rfl (by decide) m8_103) e13 ?_
    refine x_iload_n (pc' := 30) 1 (dX10_isUsefulFor 16 rfl rfl) rfl rfl rfl ?_
    refine x_iload (pc' := 32) 10 (dX10_isUsefulFor 17 rfl rfl) rfl rfl ?_
    refine x_iload_n (pc' := 33) 3 (dX10_isUsefulFor 18 rfl rfl) rfl rfl rfl ?_
    refine x_imul (pc' := 34) (dX10_isUsefulFor 19 rfl rfl) rfl ?_
    refine x_iadd (pc' := 35) (dX10_isUsefulFor 20 rfl rfl) rfl ?_
    obtain ⟨k14, hf⟩ := hf
    obtain ⟨i15, hf⟩ := hf
    refine x_iald (pc' := 36) (dX10_isUsefulFor 21 rfl rfl) rfl k14 i15 ?_
    replace hf := hf _ rfl
    refine x_istore (pc' := 38) (dX10_isUsefulFor 22 rfl rfl) (by decide) rfl rfl ?_
    refine x_iload (pc' := 40) 0 (dX10_isUsefulFor 23 rfl rfl) rfl rfl ?_
    refine x_if_eq (pc' := 43) (tgt := 63) (dX10_isUsefulFor 24 rfl rfl) (by decide) rfl (fun c17 => ?_) (fun c17 => ?_)
    · replace hf := hf.1 c17
      refine x_aload_n (pc' := 64) 1 (dX10_isUsefulFor 35 rfl rfl) rfl rfl rfl ?_
      refine x_iload (pc' := 66) 0 (dX10_isUsefulFor 36 rfl rfl) rfl rfl ?_
      refine x_iload (pc' := 68) 8 (dX10_isUsefulFor 37 rfl rfl) rfl rfl ?_
      refine x_iload_n (pc' := 69) 2 (dX10_isUsefulFor 38 rfl rfl) rfl rfl rfl ?_
      refine x_iload (pc' := 71) 11 (dX10_isUsefulFor 39 rfl rfl) rfl rfl ?_
      refine x_iload_n (pc' := 72) 4 (dX10_isUsefulFor 40 rfl rfl) rfl rfl rfl ?_
      refine x_imul (pc' := 73) (dX10_isUsefulFor 41 rfl rfl) rfl ?_
      refine x_iadd (pc' := 74) (dX10_isUsefulFor 42 rfl rfl) rfl ?_
      refine x_iload_n (pc' := 75) 4 (dX10_isUsefulFor 43 rfl rfl) rfl rfl rfl ?_
      refine x_iload (pc' := 77) 9 (dX10_isUsefulFor 44 rfl rfl) rfl rfl ?_
      refine x_inv (pc' := 80) (ν := mX10_laid) (av := [_, _, _, _, _, _]) (st := []) rfl rfl (dX10_isUsefulFor 45 rfl rfl) (Nat.le_of_ble_eq_true rfl) wX10_laid q224 (inv_V (k := 8) (dX10_isUsefulFor 45 rfl rfl) q2608 q2610 qs46 wX10_laid (by decide) lX10_laid (by decide) s5.1) (exN (by decide)) rfl ?_
      refine C.mono hf (fun _ _ => KI.g (fun x20 h18 hf le19 => ?_))
      have k14 := leK le19 k14 (by decide)
      replace s5 := s5.le sc5 (le19)
      refine x_istore (pc' := 82) (dX10_isUsefulFor 46 rfl rfl) (by decide) rfl rfl ?_
      replace hf := hf _ rfl
      refine x_iinc (pc' := 85) 10 (dX10_isUsefulFor 47 rfl rfl) rfl (by rfl) (by decide) rfl rfl ?_
      replace hf := hf _ rfl
      refine x_iinc (pc' := 88) 11 (dX10_isUsefulFor 48 rfl rfl) rfl (by rfl) (by decide) rfl rfl ?_
      refine x_goto (tgt := 19) (dX10_isUsefulFor 49 rfl rfl) (by decide) ?_
      exact X.sub [4, 5, 6, 7, 8, 9, 10, 11, 2, 1, 0] rfl (by simp) hf
    · replace hf := hf.2 c17
      refine x_aload_n (pc' := 44) 1 (dX10_isUsefulFor 25 rfl rfl) rfl rfl rfl ?_
      refine x_getR (pc' := 47) (dX10_isUsefulFor 26 rfl rfl) g96 q751 (Or.inl rfl) rfl (hf_of 8 s5.1 rfl (by decide) m8_96) (s5.2 0 _ rfl rfl).1 ?_
      refine x_iload (pc' := 49) 0 (dX10_isUsefulFor 27 rfl rfl) rfl rfl ?_
      obtain ⟨i23, hf⟩ := hf
      refine x_iald (pc' := 50) (dX10_isUsefulFor 28 rfl rfl) rfl (s5.2 0 _ rfl rfl).2.1 (by rw [(s5.2 0 _ rfl rfl).2.2.2 (by decide)]; exact i23) ?_
      refine x_aload_n (pc' := 51) 1 (dX10_isUsefulFor 29 rfl rfl) rfl rfl rfl ?_
      refine x_getR (pc' := 54) (dX10_isUsefulFor 30 rfl rfl) g96 q751 (Or.inl rfl) rfl (hf_of 8 s5.1 rfl (by decide) m8_96) (s5.2 0 _ rfl rfl).1 ?_
      refine x_iload (pc' := 56) 6 (dX10_isUsefulFor 31 rfl rfl) rfl rfl ?_
      obtain ⟨i24, hf⟩ := hf
      refine x_iald (pc' := 57) (dX10_isUsefulFor 32 rfl rfl) rfl (s5.2 0 _ rfl rfl).2.1 (by rw [(s5.2 0 _ rfl rfl).2.2.2 (by decide)]; exact i24) ?_
      refine x_icmp_eq (pc' := 60) (tgt := 63) (dX10_isUsefulFor 33 rfl rfl) (by decide) rfl (fun c25 => ?_) (fun c25 => ?_)
      · replace hf := hf.1 c25
        refine x_aload_n (pc' := 64) 1 (dX10_isUsefulFor 35 rfl rfl) rfl rfl rfl ?_
        refine x_iload (pc' := 66) 0 (dX10_isUsefulFor 36 rfl rfl) rfl rfl ?_
        refine x_iload (pc' := 68) 8 (dX10_isUsefulFor 37 rfl rfl) rfl rfl ?_
        refine x_iload_n (pc' := 69) 2 (dX10_isUsefulFor 38 rfl rfl) rfl rfl rfl ?_
        refine x_iload (pc' := 71) 11 (dX10_isUsefulFor 39 rfl rfl) rfl rfl ?_
        refine x_iload_n (pc' := 72) 4 (dX10_isUsefulFor 40 rfl rfl) rfl rfl rfl ?_
        refine x_imul (pc' := 73) (dX10_isUsefulFor 41 rfl rfl) rfl ?_
        refine x_iadd (pc' := 74) (dX10_isUsefulFor 42 rfl rfl) rfl ?_
        refine x_iload_n (pc' := 75) 4 (dX10_isUsefulFor 43 rfl rfl) rfl rfl rfl ?_
        refine x_iload (pc' := 77) 9 (dX10_isUsefulFor 44 rfl rfl) rfl rfl ?_
        refine x_inv (pc' := 80) (ν := mX10_laid) (av := [_, _, _, _, _, _]) (st := []) rfl rfl (dX10_isUsefulFor 45 rfl rfl) (Nat.le_of_ble_eq_true rfl) wX10_laid q224 (inv_V (k := 8) (dX10_isUsefulFor 45 rfl rfl) q2608 q2610 qs46 wX10_laid (by decide) lX10_laid (by decide) s5.1) (exN (by decide)) rfl ?_
        refine C.mono hf (fun _ _ => KI.g (fun x28 h26 hf le27 => ?_))
        have k14 := leK le27 k14 (by decide)
        replace s5 := s5.le sc5 (le27)
        refine x_istore (pc' := 82) (dX10_isUsefulFor 46 rfl rfl) (by decide) rfl rfl ?_
        replace hf := hf _ rfl
        refine x_iinc (pc' := 85) 10 (dX10_isUsefulFor 47 rfl rfl) rfl (by rfl) (by decide) rfl rfl ?_
        replace hf := hf _ rfl
        refine x_iinc (pc' := 88) 11 (dX10_isUsefulFor 48 rfl rfl) rfl (by rfl) (by decide) rfl rfl ?_
        refine x_goto (tgt := 19) (dX10_isUsefulFor 49 rfl rfl) (by decide) ?_
        exact X.sub [4, 5, 6, 7, 8, 9, 10, 11, 2, 1, 0] rfl (by simp) hf
      · replace hf := hf.2 c25
        refine x_goto (tgt := 85) (dX10_isUsefulFor 34 rfl rfl) (by decide) ?_
        replace hf := hf _ rfl
        refine x_iinc (pc' := 88) 11 (dX10_isUsefulFor 48 rfl rfl) rfl (by rfl) (by decide) rfl rfl ?_
        refine x_goto (tgt := 19) (dX10_isUsefulFor 49 rfl rfl) (by decide) ?_
        exact X.sub [2, 3, 4, 5, 6, 7, 8, 9, 10, 11, 0] rfl (by simp) hf
theorem bX10_laid (G : Gh) (d : Nat) (h : AH) (Q : Outcome → AH → Prop) (p1 : Int32) (p2 : Int32) (p3 : Int32) (p4 : Int32) (p5 : Int32) (hf : X G mX10_laid d none [] 7 [(0, .ref (gW G 5)), (1, .int (p1)), (2, .int (p2)), (3, .int (p3)), (4, .int (p4)), (6, .int (p5)), (7, .int (0))] [] h Q) : C G mX10_laid d [.ref (gW G 5), .int (p1), .int (p2), .int (p3), .int (p4), .int (p5)] h Q := by
  refine C.of_X (by decide +kernel) (Nat.le_of_ble_eq_true rfl) wX10_laid ?_
  show X G mX10_laid d none [] 0 [(0, .ref (gW G 5)), (1, .int (p1)), (2, .int (p2)), (3, .int (p3)), (4, .int (p4)), (5, .int (p5))] [] h Q
  refine x_iload (pc' := 2) 5 (dX10_laid 0 rfl rfl) rfl rfl ?_
  refine x_istore (pc' := 4) (dX10_laid 1 rfl rfl) (by decide) rfl rfl ?_
  refine x_iconst (pc' := 5) (v := 0) (dX10_laid 2 rfl rfl) (by decide) rfl ?_
  refine x_istore (pc' := 7) (dX10_laid 3 rfl rfl) (by decide) rfl rfl ?_
  exact X.sub [2, 3, 4, 5, 6, 1, 0] rfl (by simp) hf
theorem bX10_laid_7 (G : Gh) (d : Nat) (h : AH) (Q : Outcome → AH → Prop) (l1 : Int32) (l2 : Int32) (l3 : Int32) (l4 : Int32) (l6 : Int32) (l7 : Int32) (s5 : So 5 (gW G) h) (hf : (l2 ≤ l7 → (X G mX10_laid d none [] 54 [(0, .ref (gW G 5)), (3, .int (l3)), (4, .int (l4)), (6, .int (l6)), (7, .int (1))] [] h Q)) ∧ (¬ (l2 ≤ l7) → (∃ b2, fR h (gW G 5) 103 = some b2 ∧ ((l1 = 0 → (hK h b2 = 1000 ∧ Ns (gW G) b2 ∧ vp_in l6 (hL h b2) ∧ ∀ h16, h16 = sI h b2 l6.toNatClampNeg 0 → (∀ x19 : Int32, x19 = l6 + 1 → (∀ x20 : Int32, x20 = l7 + 1 → (X G mX10_laid d none [] 7 [(0, .ref (gW G 5)), (1, .int (l1)), (2, .int (l2)), (3, .int (l3)), (4, .int (l4)), (6, .int (x19)), (7, .int (x20))] [] h16 Q))))) ∧ (¬ l1 = 0 → (vp_in l1 1000 ∧ (vp_in ((aI h (gW G 1098) l1.toNatClampNeg) + l7) 1000 ∧ (hK h b2 = 1000 ∧ Ns (gW G) b2 ∧ vp_in l6 (hL h b2) ∧ ∀ h9, h9 = sI h b2 l6.toNatClampNeg (aI h (gW G 1100) ((aI h (gW G 1098) l1.toNatClampNeg) + l7).toNatClampNeg) → (∀ x12 : Int32, x12 = l6 + 1 → (∀ x13 : Int32, x13 = l7 + 1 → (X G mX10_laid d none [] 7 [(0, .ref (gW G 5)), (1, .int (l1)), (2, .int (l2)), (3, .int (l3)), (4, .int (l4)), (6, .int (x12)), (7, .int (x13))] [] h9 Q))))))))))) : X G mX10_laid d none [] 7 [(0, .ref (gW G 5)), (1, .int (l1)), (2, .int (l2)), (3, .int (l3)), (4, .int (l4)), (6, .int (l6)), (7, .int (l7))] [] h Q := by
  refine x_iload (pc' := 9) 6 (dX10_laid 4 rfl rfl) rfl rfl ?_
  refine x_iload_n (pc' := 10) 2 (dX10_laid 5 rfl rfl) rfl rfl rfl ?_
  refine x_icmp_ge (pc' := 13) (tgt := 51) (dX10_laid 6 rfl rfl) (by decide) rfl (fun c1 => ?_) (fun c1 => ?_)
  · replace hf := hf.1 c1
    refine x_iconst (pc' := 52) (v := 1) (dX10_laid 27 rfl rfl) (by decide) rfl ?_
    refine x_istore (pc' := 54) (dX10_laid 28 rfl rfl) (by decide) rfl rfl ?_
    exact X.sub [1, 4, 5, 6, 0] rfl (by simp) hf
  · replace hf := hf.2 c1
    refine x_aload_n (pc' := 14) 0 (dX10_laid 7 rfl rfl) rfl rfl rfl ?_
    obtain ⟨b2, e3, hf⟩ := hf
    refine x_getR (pc' := 17) (dX10_laid 8 rfl rfl) g103 q758 (Or.inl rfl) rfl (hf_of 8 s5.1 rfl (by decide) m8_103) e3 ?_
    refine x_iload (pc' := 19) 5 (dX10_laid 9 rfl rfl) rfl rfl ?_
    refine x_iload_n (pc' := 20) 1 (dX10_laid 10 rfl rfl) rfl rfl rfl ?_
    refine x_if_ne (pc' := 23) (tgt := 27) (dX10_laid 11 rfl rfl) (by decide) rfl (fun c4 => ?_) (fun c4 => ?_)
    · replace hf := hf.2 c4
      refine x_aload_n (pc' := 28) 0 (dX10_laid 14 rfl rfl) rfl rfl rfl ?_
      refine x_getR (pc' := 31) (dX10_laid 15 rfl rfl) g100 q755 (Or.inl rfl) rfl (hf_of 8 s5.1 rfl (by decide) m8_100) (s5.2 4 _ rfl rfl).1 ?_
      refine x_aload_n (pc' := 32) 0 (dX10_laid 16 rfl rfl) rfl rfl rfl ?_
      refine x_getR (pc' := 35) (dX10_laid 17 rfl rfl) g98 q753 (Or.inl rfl) rfl (hf_of 8 s5.1 rfl (by decide) m8_98) (s5.2 2 _ rfl rfl).1 ?_
      refine x_iload_n (pc' := 36) 1 (dX10_laid 18 rfl rfl) rfl rfl rfl ?_
      obtain ⟨i5, hf⟩ := hf
      refine x_iald (pc' := 37) (dX10_laid 19 rfl rfl) rfl (s5.2 2 _ rfl rfl).2.1 (by rw [(s5.2 2 _ rfl rfl).2.2.2 (by decide)]; exact i5) ?_
      refine x_iload (pc' := 39) 6 (dX10_laid 20 rfl rfl) rfl rfl ?_
      refine x_iadd (pc' := 40) (dX10_laid 21 rfl rfl) rfl ?_
      obtain ⟨i6, hf⟩ := hf
      refine x_iald (pc' := 41) (dX10_laid 22 rfl rfl) rfl (s5.2 4 _ rfl rfl).2.1 (by rw [(s5.2 4 _ rfl rfl).2.2.2 (by decide)]; exact i6) ?_
      obtain ⟨k7, hf⟩ := hf
      obtain ⟨n11, hf⟩ := hf
      obtain ⟨i8, hf⟩ := hf
      refine x_iast (pc' := 42) (dX10_laid 23 rfl rfl) rfl k7 (Or.inr ⟨n11, by decide⟩) i8 (fun h9 e10 => ?_)
      replace hf := hf h9 e10
      replace k7 : hK h9 b2 = 1000 := by rw [e10]; exact k7
      replace s5 : So 5 (gW G) h9 := by rw [e10]; exact s5.le sc5 (sI_le )
      replace hf := hf _ rfl
      refine x_iinc (pc' := 45) 5 (dX10_laid 24 rfl rfl) rfl (by rfl) (by decide) rfl rfl ?_
      replace hf := hf _ rfl
      refine x_iinc (pc' := 48) 6 (dX10_laid 25 rfl rfl) rfl (by rfl) (by decide) rfl rfl ?_
      refine x_goto (tgt := 7) (dX10_laid 26 rfl rfl) (by decide) ?_
      exact X.sub [2, 3, 4, 5, 6, 1, 0] rfl (by simp) hf
    · replace hf := hf.1 (Classical.not_not.mp c4)
      replace c4 := Classical.not_not.mp c4
      refine x_iconst (pc' := 24) (v := 0) (dX10_laid 12 rfl rfl) (by decide) rfl ?_
      refine x_goto (tgt := 41) (dX10_laid 13 rfl rfl) (by decide) ?_
      obtain ⟨k14, hf⟩ := hf
      obtain ⟨n18, hf⟩ := hf
      obtain ⟨i15, hf⟩ := hf
      refine x_iast (pc' := 42) (dX10_laid 23 rfl rfl) rfl k14 (Or.inr ⟨n18, by decide⟩) i15 (fun h16 e17 => ?_)
      replace hf := hf h16 e17
      replace k14 : hK h16 b2 = 1000 := by rw [e17]; exact k14
      replace s5 : So 5 (gW G) h16 := by rw [e17]; exact s5.le sc5 (sI_le )
      replace hf := hf _ rfl
      refine x_iinc (pc' := 45) 5 (dX10_laid 24 rfl rfl) rfl (by rfl) (by decide) rfl rfl ?_
      replace hf := hf _ rfl
      refine x_iinc (pc' := 48) 6 (dX10_laid 25 rfl rfl) rfl (by rfl) (by decide) rfl rfl ?_
      refine x_goto (tgt := 7) (dX10_laid 26 rfl rfl) (by decide) ?_
      exact X.sub [2, 3, 4, 5, 6, 1, 0] rfl (by simp) hf
theorem bX10_laid_54 (G : Gh) (d : Nat) (h : AH) (Q : Outcome → AH → Prop) (l3 : Int32) (l4 : Int32) (l6 : Int32) (l7 : Int32) (s5 : So 5 (gW G) h) (hf : (l4 ≤ l7 → (Q (.returned (some (.int l6))) h)) ∧ (¬ (l4 ≤ l7) → (∃ b2, fR h (gW G 5) 103 = some b2 ∧ (∃ b4, fR h (gW G 5) 103 = some b4 ∧ (hK h b4 = 1000 ∧ vp_in (l3 + l7) (hL h b4) ∧ (hK h b2 = 1000 ∧ Ns (gW G) b2 ∧ vp_in l6 (hL h b2) ∧ ∀ h10, h10 = sI h b2 l6.toNatClampNeg (aI h b4 (l3 + l7).toNatClampNeg) → (∀ x13 : Int32, x13 = l6 + 1 → (∀ x14 : Int32, x14 = l7 + 1 → (X G mX10_laid d none [] 54 [(0, .ref (gW G 5)), (3, .int (l3)), (4, .int (l4)), (6, .int (x13)), (7, .int (x14))] [] h10 Q))))))))) : X G mX10_laid d none [] 54 [(0, .ref (gW G 5)), (3, .int (l3)), (4, .int (l4)), (6, .int (l6)), (7, .int (l7))] [] h Q := by
  refine x_iload (pc' := 56) 4 (dX10_laid 29 rfl rfl) rfl rfl ?_
  refine x_iload (pc' := 58) 2 (dX10_laid 30 rfl rfl) rfl rfl ?_
  refine x_icmp_ge (pc' := 61) (tgt := 86) (dX10_laid 31 rfl rfl) (by decide) rfl (fun c1 => ?_) (fun c1 => ?_)
  · replace hf := hf.1 c1
    refine x_iload (pc' := 88) 3 (dX10_laid 45 rfl rfl) rfl rfl ?_
    exact x_iret (dX10_laid 46 rfl rfl) rfl hf
  · replace hf := hf.2 c1
    refine x_aload_n (pc' := 62) 0 (dX10_laid 32 rfl rfl) rfl rfl rfl ?_
    obtain ⟨b2, e3, hf⟩ := hf
    refine x_getR (pc' := 65) (dX10_laid 33 rfl rfl) g103 q758 (Or.inl rfl) rfl (hf_of 8 s5.1 rfl (by decide) m8_103) e3 ?_
    refine x_iload (pc' := 67) 3 (dX10_laid 34 rfl rfl) rfl rfl ?_
    refine x_aload_n (pc' := 68) 0 (dX10_laid 35 rfl rfl) rfl rfl rfl ?_
    obtain ⟨b4, e5, hf⟩ := hf
    refine x_getR (pc' := 71) (dX10_laid 36 rfl rfl) g103 q758 (Or.inl rfl) rfl (hf_of 8 s5.1 rfl (by decide) m8_103) e5 ?_
    refine x_iload_n (pc' := 72) 1 (dX10_laid 37 rfl rfl) rfl rfl rfl ?_
    refine x_iload (pc' := 74) 4 (dX10_laid 38 rfl rfl) rfl rfl ?_
    refine x_iadd (pc' := 75) (dX10_laid 39 rfl rfl) rfl ?_
    obtain ⟨k6, hf⟩ := hf
    obtain ⟨i7, hf⟩ := hf
    refine x_iald (pc' := 76) (dX10_laid 40 rfl rfl) rfl k6 i7 ?_
    obtain ⟨k8, hf⟩ := hf
    obtain ⟨n12, hf⟩ := hf
    obtain ⟨i9, hf⟩ := hf
    refine x_iast (pc' := 77) (dX10_laid 41 rfl rfl) rfl k8 (Or.inr ⟨n12, by decide⟩) i9 (fun h10 e11 => ?_)
    replace hf := hf h10 e11
    replace k6 : hK h10 b4 = 1000 := by rw [e11]; exact k6
    replace k8 : hK h10 b2 = 1000 := by rw [e11]; exact k8
    replace s5 : So 5 (gW G) h10 := by rw [e11]; exact s5.le sc5 (sI_le )
    replace hf := hf _ rfl
    refine x_iinc (pc' := 80) 3 (dX10_laid 42 rfl rfl) rfl (by rfl) (by decide) rfl rfl ?_
    replace hf := hf _ rfl
    refine x_iinc (pc' := 83) 4 (dX10_laid 43 rfl rfl) rfl (by rfl) (by decide) rfl rfl ?_
    refine x_goto (tgt := 54) (dX10_laid 44 rfl rfl) (by decide) ?_
    exact X.sub [2, 3, 4, 1, 0] rfl (by simp) hf
theorem bX10_isUsefulElse (G : Gh) (d : Nat) (h : AH) (Q : Outcome → AH → Prop) (p1 : Int32) (p2 : Int32) (p3 : Int32) (p4 : Int32) (p5 : Int32) (hf : X G mX10_isUsefulElse (d + 1) none [] 10 [(0, .ref (gW G 5)), (1, .int (p1)), (2, .int (p2)), (3, .int (p3)), (4, .int (p4)), (5, .int (p5)), (6, .int (p5)), (7, .int (0)), (8, .int (0))] [] h Q) : C G mX10_isUsefulElse (d + 1) [.ref (gW G 5), .int (p1), .int (p2), .int (p3), .int (p4), .int (p5)] h Q := by
  refine C.of_X (by decide +kernel) (Nat.le_of_ble_eq_true rfl) wX10_isUsefulElse ?_
  show X G mX10_isUsefulElse (d + 1) none [] 0 [(0, .ref (gW G 5)), (1, .int (p1)), (2, .int (p2)), (3, .int (p3)), (4, .int (p4)), (5, .int (p5))] [] h Q
  refine x_iload (pc' := 2) 5 (dX10_isUsefulElse 0 rfl rfl) rfl rfl ?_
  refine x_istore (pc' := 4) (dX10_isUsefulElse 1 rfl rfl) (by decide) rfl rfl ?_
  refine x_iconst (pc' := 5) (v := 0) (dX10_isUsefulElse 2 rfl rfl) (by decide) rfl ?_
  refine x_istore (pc' := 7) (dX10_isUsefulElse 3 rfl rfl) (by decide) rfl rfl ?_
  refine x_iconst (pc' := 8) (v := 0) (dX10_isUsefulElse 4 rfl rfl) (by decide) rfl ?_
  refine x_istore (pc' := 10) (dX10_isUsefulElse 5 rfl rfl) (by decide) rfl rfl ?_
  exact X.sub [3, 4, 5, 6, 7, 8, 2, 1, 0] rfl (by simp) hf
theorem bX10_isUsefulElse_10 (G : Gh) (d : Nat) (h : AH) (Q : Outcome → AH → Prop) (l1 : Int32) (l2 : Int32) (l3 : Int32) (l4 : Int32) (l5 : Int32) (l6 : Int32) (l7 : Int32) (l8 : Int32) (s5 : So 5 (gW G) h) (hf : (l2 ≤ l8 → (C G mX10_laid d [.ref (gW G 5), .int (0), .int (0), .int (l4), .int (l3), .int (l6)] h (KI Q (fun x4 h2 => C G mX10_isUseful d [.ref (gW G 5), .int (l5), .int (l7), .int (l3 - 1), .int (l6)] h2 (KI Q (fun x7 h5 => (x7 = 0 ∨ x7 = 1) ∧ Q (.returned (some (.int x7))) h5)))))) ∧ (¬ (l2 ≤ l8) → (∃ b8, fR h (gW G 5) 103 = some b8 ∧ (hK h b8 = 1000 ∧ vp_in (l1 + (l8 * l3)) (hL h b8) ∧ (((aI h b8 (l1 + (l8 * l3)).toNatClampNeg) = 0 → (C G mX10_laid d [.ref (gW G 5), .int (0), .int (0), .int (l1 + (l8 * l3)), .int (l3), .int (l6)] h (KI Q (fun x15 h13 => ∀ x16 : Int32, x16 = l7 + 1 → (∀ x17 : Int32, x17 = l8 + 1 → (X G mX10_isUsefulElse (d + 1) none [] 10 [(0, .ref (gW G 5)), (1, .int (l1)), (2, .int (l2)), (3, .int (l3)), (4, .int (l4)), (5, .int (l5)), (6, .int (x15)), (7, .int (x16)), (8, .int (x17))] [] h13 Q)))))) ∧ (¬ ((aI h b8 (l1 + (l8 * l3)).toNatClampNeg) = 0) → (∀ x18 : Int32, x18 = l8 + 1 → (X G mX10_isUsefulElse (d + 1) none [] 10 [(0, .ref (gW G 5)), (1, .int (l1)), (2, .int (l2)), (3, .int (l3)), (4, .int (l4)), (5, .int (l5)), (6, .int (l6)), (7, .int (l7)), (8, .int (x18))] [] h Q)))))))) : X G mX10_isUsefulElse (d + 1) none [] 10 [(0, .ref (gW G 5)), (1, .int (l1)), (2, .int (l2)), (3, .int (l3)), (4, .int (l4)), (5, .int (l5)), (6, .int (l6)), (7, .int (l7)), (8, .int (l8))] [] h Q := by
  refine x_iload (pc' := 12) 8 (dX10_isUsefulElse 6 rfl rfl) rfl rfl ?_
  refine x_iload_n (pc' := 13) 2 (dX10_isUsefulElse 7 rfl rfl) rfl rfl rfl ?_
  refine x_icmp_ge (pc' := 16) (tgt := 59) (dX10_isUsefulElse 8 rfl rfl) (by decide) rfl (fun c1 => ?_) (fun c1 => ?_)
  · replace hf := hf.1 c1
    refine x_iload (pc' := 61) 6 (dX10_isUsefulElse 34 rfl rfl) rfl rfl ?_
    refine x_istore (pc' := 63) (dX10_isUsefulElse 35 rfl rfl) (by decide) rfl rfl ?_
    refine x_aload_n (pc' := 64) 1 (dX10_isUsefulElse 36 rfl rfl) rfl rfl rfl ?_
    refine x_iconst (pc' := 65) (v := 0) (dX10_isUsefulElse 37 rfl rfl) (by decide) rfl ?_
    refine x_iconst (pc' := 66) (v := 0) (dX10_isUsefulElse 38 rfl rfl) (by decide) rfl ?_
    refine x_iload (pc' := 68) 5 (dX10_isUsefulElse 39 rfl rfl) rfl rfl ?_
    refine x_iload_n (pc' := 69) 4 (dX10_isUsefulElse 40 rfl rfl) rfl rfl rfl ?_
    refine x_iload (pc' := 71) 7 (dX10_isUsefulElse 41 rfl rfl) rfl rfl ?_
    refine x_inv (pc' := 74) (ν := mX10_laid) (av := [_, _, _, _, _, _]) (st := []) rfl rfl (dX10_isUsefulElse 42 rfl rfl) (Nat.le_of_ble_eq_true rfl) wX10_laid q224 (inv_V (k := 8) (dX10_isUsefulElse 42 rfl rfl) q2608 q2610 qs46 wX10_laid (by decide) lX10_laid (by decide) s5.1) (exN (by decide)) rfl ?_
    refine C.mono hf (fun _ _ => KI.g (fun x4 h2 hf le3 => ?_))
    replace s5 := s5.le sc5 (le3)
    refine x_istore (pc' := 76) (dX10_isUsefulElse 43 rfl rfl) (by decide) rfl rfl ?_
    refine x_aload_n (pc' := 77) 2 (dX10_isUsefulElse 44 rfl rfl) rfl rfl rfl ?_
    refine x_iload (pc' := 79) 7 (dX10_isUsefulElse 45 rfl rfl) rfl rfl ?_
    refine x_iload (pc' := 81) 8 (dX10_isUsefulElse 46 rfl rfl) rfl rfl ?_
    refine x_iload_n (pc' := 82) 5 (dX10_isUsefulElse 47 rfl rfl) rfl rfl rfl ?_
    refine x_iconst (pc' := 83) (v := 1) (dX10_isUsefulElse 48 rfl rfl) (by decide) rfl ?_
    refine x_isub (pc' := 84) (dX10_isUsefulElse 49 rfl rfl) rfl ?_
    refine x_iload (pc' := 86) 1 (dX10_isUsefulElse 50 rfl rfl) rfl rfl ?_
    refine x_inv (pc' := 89) (ν := mX10_isUseful) (av := [_, _, _, _, _]) (st := []) rfl rfl (dX10_isUsefulElse 51 rfl rfl) (Nat.le_of_ble_eq_true rfl) wX10_isUseful q224 (inv_V (k := 8) (dX10_isUsefulElse 51 rfl rfl) q2600 q2602 qs44 wX10_isUseful (by decide) lX10_isUseful (by decide) s5.1) (exN (by decide)) rfl ?_
    refine C.mono hf (fun _ _ => KI.g (fun x7 h5 hf le6 => ?_))
    replace s5 := s5.le sc5 (le6)
    obtain ⟨z0, hf⟩ := hf
    exact x_zret (ty := .boolean) (dX10_isUsefulElse 52 rfl rfl) rfl (nar_z z0) hf
  · replace hf := hf.2 c1
    refine x_aload_n (pc' := 17) 0 (dX10_isUsefulElse 9 rfl rfl) rfl rfl rfl ?_
    obtain ⟨b8, e9, hf⟩ := hf
    refine x_getR (pc' := 20) (dX10_isUsefulElse 10 rfl rfl) g103 q758 (Or.inl rfl) rfl (hf_of 8 s5.1 rfl (by decide) m8_103) e9 ?_
    refine x_iload_n (pc' := 21) 1 (dX10_isUsefulElse 11 rfl rfl) rfl rfl rfl ?_
    refine x_iload (pc' := 23) 8 (dX10_isUsefulElse 12 rfl rfl) rfl rfl ?_
    refine x_iload_n (pc' := 24) 3 (dX10_isUsefulElse 13 rfl rfl) rfl rfl rfl ?_
    refine x_imul (pc' := 25) (dX10_isUsefulElse 14 rfl rfl) rfl ?_
    refine x_iadd (pc' := 26) (dX10_isUsefulElse 15 rfl rfl) rfl ?_
    obtain ⟨k10, hf⟩ := hf
    obtain ⟨i11, hf⟩ := hf
    refine x_iald (pc' := 27) (dX10_isUsefulElse 16 rfl rfl) rfl k10 i11 ?_
    refine x_if_eq (pc' := 30) (tgt := 33) (dX10_isUsefulElse 17 rfl rfl) (by decide) rfl (fun c12 => ?_) (fun c12 => ?_)
    · replace hf := hf.1 c12
      refine x_aload_n (pc' := 34) 0 (dX10_isUsefulElse 19 rfl rfl) rfl rfl rfl ?_
      refine x_iconst (pc' := 35) (v := 0) (dX10_isUsefulElse 20 rfl rfl) (by decide) rfl ?_
      refine x_iconst (pc' := 36) (v := 0) (dX10_isUsefulElse 21 rfl rfl) (by decide) rfl ?_
      refine x_iload_n (pc' := 37) 1 (dX10_isUsefulElse 22 rfl rfl) rfl rfl rfl ?_
      refine x_iload (pc' := 39) 8 (dX10_isUsefulElse 23 rfl rfl) rfl rfl ?_
      refine x_iload_n (pc' := 40) 3 (dX10_isUsefulElse 24 rfl rfl) rfl rfl rfl ?_
      refine x_imul (pc' := 41) (dX10_isUsefulElse 25 rfl rfl) rfl ?_
      refine x_iadd (pc' := 42) (dX10_isUsefulElse 26 rfl rfl) rfl ?_
      refine x_iload_n (pc' := 43) 3 (dX10_isUsefulElse 27 rfl rfl) rfl rfl rfl ?_
      refine x_iload (pc' := 45) 6 (dX10_isUsefulElse 28 rfl rfl) rfl rfl ?_
      refine x_inv (pc' := 48) (ν := mX10_laid) (av := [_, _, _, _, _, _]) (st := []) rfl rfl (dX10_isUsefulElse 29 rfl rfl) (Nat.le_of_ble_eq_true rfl) wX10_laid q224 (inv_V (k := 8) (dX10_isUsefulElse 29 rfl rfl) q2608 q2610 qs46 wX10_laid (by decide) lX10_laid (by decide) s5.1) (exN (by decide)) rfl ?_
      refine C.mono hf (fun _ _ => KI.g (fun x15 h13 hf le14 => ?_))
      have k10 := leK le14 k10 (by decide)
      replace s5 := s5.le sc5 (le14)
      refine x_istore (pc' := 50) (dX10_isUsefulElse 30 rfl rfl) (by decide) rfl rfl ?_
      replace hf := hf _ rfl
      refine x_iinc (pc' := 53) 7 (dX10_isUsefulElse 31 rfl rfl) rfl (by rfl) (by decide) rfl rfl ?_
      replace hf := hf _ rfl
      refine x_iinc (pc' := 56) 8 (dX10_isUsefulElse 32 rfl rfl) rfl (by rfl) (by decide) rfl rfl ?_
      refine x_goto (tgt := 10) (dX10_isUsefulElse 33 rfl rfl) (by decide) ?_
      exact X.sub [3, 4, 5, 6, 7, 8, 2, 1, 0] rfl (by simp) hf
    · replace hf := hf.2 c12
      refine x_goto (tgt := 53) (dX10_isUsefulElse 18 rfl rfl) (by decide) ?_
      replace hf := hf _ rfl
      refine x_iinc (pc' := 56) 8 (dX10_isUsefulElse 32 rfl rfl) rfl (by rfl) (by decide) rfl rfl ?_
      refine x_goto (tgt := 10) (dX10_isUsefulElse 33 rfl rfl) (by decide) ?_
      exact X.sub [1, 2, 3, 4, 5, 6, 7, 8, 0] rfl (by simp) hf
theorem bX10_withHead (G : Gh) (d : Nat) (h : AH) (Q : Outcome → AH → Prop) (p1 : Int32) (p2 : Int32) (p3 : Int32) (p4 : Int32) (hf : X G mX10_withHead d none [] 3 [(0, .ref (gW G 5)), (1, .int (p1)), (2, .int (p2)), (3, .int (p3)), (4, .int (p4)), (5, .int (0))] [] h Q) : C G mX10_withHead d [.ref (gW G 5), .int (p1), .int (p2), .int (p3), .int (p4)] h Q := by
  refine C.of_X (by decide +kernel) (Nat.le_of_ble_eq_true rfl) wX10_withHead ?_
  show X G mX10_withHead d none [] 0 [(0, .ref (gW G 5)), (1, .int (p1)), (2, .int (p2)), (3, .int (p3)), (4, .int (p4))] [] h Q
  refine x_iconst (pc' := 1) (v := 0) (dX10_withHead 0 rfl rfl) (by decide) rfl ?_
  refine x_istore (pc' := 3) (dX10_withHead 1 rfl rfl) (by decide) rfl rfl ?_
  exact X.sub [1, 2, 3, 4, 5, 0] rfl (by simp) hf
theorem bX10_withHead_3 (G : Gh) (d : Nat) (h : AH) (Q : Outcome → AH → Prop) (l1 : Int32) (l2 : Int32) (l3 : Int32) (l4 : Int32) (l5 : Int32) (s5 : So 5 (gW G) h) (hf : (l2 ≤ l5 → (Q (.returned (some (.int 0))) h)) ∧ (¬ (l2 ≤ l5) → (∃ b2, fR h (gW G 5) 103 = some b2 ∧ (hK h b2 = 1000 ∧ vp_in (l1 + (l5 * l3)) (hL h b2) ∧ (∀ x6 : Int32, x6 = aI h b2 (l1 + (l5 * l3)).toNatClampNeg → ((x6 = 0 → (∀ x8 : Int32, x8 = l5 + 1 → (X G mX10_withHead d none [] 3 [(0, .ref (gW G 5)), (1, .int (l1)), (2, .int (l2)), (3, .int (l3)), (4, .int (l4)), (5, .int (x8))] [] h Q))) ∧ (¬ x6 = 0 → (vp_in x6 1000 ∧ (((aI h (gW G 1096) x6.toNatClampNeg) = l4 → (Q (.returned (some (.int x6))) h)) ∧ (¬ ((aI h (gW G 1096) x6.toNatClampNeg) = l4) → (∀ x11 : Int32, x11 = l5 + 1 → (X G mX10_withHead d none [] 3 [(0, .ref (gW G 5)), (1, .int (l1)), (2, .int (l2)), (3, .int (l3)), (4, .int (l4)), (5, .int (x11))] [] h Q)))))))))))) : X G mX10_withHead d none [] 3 [(0, .ref (gW G 5)), (1, .int (l1)), (2, .int (l2)), (3, .int (l3)), (4, .int (l4)), (5, .int (l5))] [] h Q := by
  refine x_iload (pc' := 5) 5 (dX10_withHead 2 rfl rfl) rfl rfl ?_
  refine x_iload_n (pc' := 6) 2 (dX10_withHead 3 rfl rfl) rfl rfl rfl ?_
  refine x_icmp_ge (pc' := 9) (tgt := 48) (dX10_withHead 4 rfl rfl) (by decide) rfl (fun c1 => ?_) (fun c1 => ?_)
  · replace hf := hf.1 c1
    refine x_iconst (pc' := 49) (v := 0) (dX10_withHead 26 rfl rfl) (by decide) rfl ?_
    exact x_iret (dX10_withHead 27 rfl rfl) rfl hf
  · replace hf := hf.2 c1
    refine x_aload_n (pc' := 10) 0 (dX10_withHead 5 rfl rfl) rfl rfl rfl ?_
    obtain ⟨b2, e3, hf⟩ := hf
    refine x_getR (pc' := 13) (dX10_withHead 6 rfl rfl) g103 q758 (Or.inl rfl) rfl (hf_of 8 s5.1 rfl (by decide) m8_103) e3 ?_
    refine x_iload_n (pc' := 14) 1 (dX10_withHead 7 rfl rfl) rfl rfl rfl ?_
    refine x_iload (pc' := 16) 5 (dX10_withHead 8 rfl rfl) rfl rfl ?_
    refine x_iload_n (pc' := 17) 3 (dX10_withHead 9 rfl rfl) rfl rfl rfl ?_
    refine x_imul (pc' := 18) (dX10_withHead 10 rfl rfl) rfl ?_
    refine x_iadd (pc' := 19) (dX10_withHead 11 rfl rfl) rfl ?_
    obtain ⟨k4, hf⟩ := hf
    obtain ⟨i5, hf⟩ := hf
    refine x_iald (pc' := 20) (dX10_withHead 12 rfl rfl) rfl k4 i5 ?_
    replace hf := hf _ rfl
    refine x_istore (pc' := 22) (dX10_withHead 13 rfl rfl) (by decide) rfl rfl ?_
    refine x_iload (pc' := 24) 0 (dX10_withHead 14 rfl rfl) rfl rfl ?_
    refine x_if_eq (pc' := 27) (tgt := 42) (dX10_withHead 15 rfl rfl) (by decide) rfl (fun c7 => ?_) (fun c7 => ?_)
    · replace hf := hf.1 c7
      replace hf := hf _ rfl
      refine x_iinc (pc' := 45) 6 (dX10_withHead 24 rfl rfl) rfl (by rfl) (by decide) rfl rfl ?_
      refine x_goto (tgt := 3) (dX10_withHead 25 rfl rfl) (by decide) ?_
      exact X.sub [2, 3, 4, 5, 6, 0] rfl (by simp) hf
    · replace hf := hf.2 c7
      refine x_aload_n (pc' := 28) 1 (dX10_withHead 16 rfl rfl) rfl rfl rfl ?_
      refine x_getR (pc' := 31) (dX10_withHead 17 rfl rfl) g96 q751 (Or.inl rfl) rfl (hf_of 8 s5.1 rfl (by decide) m8_96) (s5.2 0 _ rfl rfl).1 ?_
      refine x_iload (pc' := 33) 0 (dX10_withHead 18 rfl rfl) rfl rfl ?_
      obtain ⟨i9, hf⟩ := hf
      refine x_iald (pc' := 34) (dX10_withHead 19 rfl rfl) rfl (s5.2 0 _ rfl rfl).2.1 (by rw [(s5.2 0 _ rfl rfl).2.2.2 (by decide)]; exact i9) ?_
      refine x_iload (pc' := 36) 5 (dX10_withHead 20 rfl rfl) rfl rfl ?_
      refine x_icmp_ne (pc' := 39) (tgt := 42) (dX10_withHead 21 rfl rfl) (by decide) rfl (fun c10 => ?_) (fun c10 => ?_)
      · replace hf := hf.2 c10
        replace hf := hf _ rfl
        refine x_iinc (pc' := 45) 6 (dX10_withHead 24 rfl rfl) rfl (by rfl) (by decide) rfl rfl ?_
        refine x_goto (tgt := 3) (dX10_withHead 25 rfl rfl) (by decide) ?_
        exact X.sub [2, 3, 4, 5, 6, 0] rfl (by simp) hf
      · replace hf := hf.1 (Classical.not_not.mp c10)
        replace c10 := Classical.not_not.mp c10
        refine x_iload (pc' := 41) 0 (dX10_withHead 22 rfl rfl) rfl rfl ?_
        exact x_iret (dX10_withHead 23 rfl rfl) rfl hf
theorem bX10_warn (G : Gh) (d : Nat) (h : AH) (Q : Outcome → AH → Prop) (p1 : Int32) (p2 : Int32) (s5 : So 5 (gW G) h) (hf : ∀ x1 : Int32, x1 = fI h (gW G 5) 106 → (∀ h2, h2 = pI h (gW G 5) 106 ((fI h (gW G 5) 106) + 1) → (X G mX10_warn d none [] 15 [(0, .ref (gW G 5)), (1, .int (p1)), (2, .int (p2)), (3, .int (x1))] [] h2 Q))) : C G mX10_warn d [.ref (gW G 5), .int (p1), .int (p2)] h Q := by
  refine C.of_X (by decide +kernel) (Nat.le_of_ble_eq_true rfl) wX10_warn ?_
  show X G mX10_warn d none [] 0 [(0, .ref (gW G 5)), (1, .int (p1)), (2, .int (p2))] [] h Q
  refine x_aload_n (pc' := 1) 0 (dX10_warn 0 rfl rfl) rfl rfl rfl ?_
  refine x_getI (pc' := 4) (dX10_warn 1 rfl rfl) g106 q761 (Or.inl rfl) rfl (hf_of 8 s5.1 rfl (by decide) m8_106) ?_
  replace hf := hf _ rfl
  refine x_istore_n (pc' := 5) (dX10_warn 2 rfl rfl) rfl (by decide) rfl rfl ?_
  refine x_aload_n (pc' := 6) 1 (dX10_warn 3 rfl rfl) rfl rfl rfl ?_
  refine x_dup (pc' := 7) (dX10_warn 4 rfl rfl) rfl rfl ?_
  refine x_getI (pc' := 10) (dX10_warn 5 rfl rfl) g106 q761 (Or.inl rfl) rfl (hf_of 8 s5.1 rfl (by decide) m8_106) ?_
  refine x_iconst (pc' := 11) (v := 1) (dX10_warn 6 rfl rfl) (by decide) rfl ?_
  refine x_iadd (pc' := 12) (dX10_warn 7 rfl rfl) rfl ?_
  refine x_putI (pc' := 15) (dX10_warn 8 rfl rfl) g106 q761 (Or.inl rfl) (Or.inl rfl) (Or.inl (by decide)) rfl (hf_of 8 s5.1 rfl (by decide) m8_106) (fun h2 e3 => ?_)
  replace hf := hf h2 e3
  replace s5 : So 5 (gW G) h2 := by rw [e3]; exact s5.le sc5 (pI_le (Or.inl rfl))
  exact X.sub [1, 2, 3, 0] rfl (by simp) hf
theorem bX10_warn_15 (G : Gh) (d : Nat) (h : AH) (Q : Outcome → AH → Prop) (l1 : Int32) (l2 : Int32) (l3 : Int32) (s5 : So 5 (gW G) h) (hf : (l3 ≤ 0 → (vp_in l3 2000 ∧ ∀ h3, h3 = sI h (gW G 1104) l3.toNatClampNeg l1 → (vp_in l3 2000 ∧ ∀ h6, h6 = sI h3 (gW G 1105) l3.toNatClampNeg l2 → (Q (.returned none) h6)))) ∧ (¬ (l3 ≤ 0) → (vp_in (l3 - 1) 2000 ∧ (((aI h (gW G 1104) (l3 - 1).toNatClampNeg) ≤ l1 → (vp_in l3 2000 ∧ ∀ h11, h11 = sI h (gW G 1104) l3.toNatClampNeg l1 → (vp_in l3 2000 ∧ ∀ h14, h14 = sI h11 (gW G 1105) l3.toNatClampNeg l2 → (Q (.returned none) h14)))) ∧ (¬ ((aI h (gW G 1104) (l3 - 1).toNatClampNeg) ≤ l1) → (vp_in (l3 - 1) 2000 ∧ (vp_in l3 2000 ∧ ∀ h18, h18 = sI h (gW G 1104) l3.toNatClampNeg (aI h (gW G 1104) (l3 - 1).toNatClampNeg) → (vp_in (l3 - 1) 2000 ∧ (vp_in l3 2000 ∧ ∀ h22, h22 = sI h18 (gW G 1105) l3.toNatClampNeg (aI h18 (gW G 1105) (l3 - 1).toNatClampNeg) → (∀ x24 : Int32, x24 = l3 + (-1) → (X G mX10_warn d none [] 15 [(0, .ref (gW G 5)), (1, .int (l1)), (2, .int (l2)), (3, .int (x24))] [] h22 Q))))))))))) : X G mX10_warn d none [] 15 [(0, .ref (gW G 5)), (1, .int (l1)), (2, .int (l2)), (3, .int (l3))] [] h Q := by
  refine x_iload_n (pc' := 16) 3 (dX10_warn 9 rfl rfl) rfl rfl rfl ?_
  refine x_if_le (pc' := 19) (tgt := 65) (dX10_warn 10 rfl rfl) (by decide) rfl (fun c1 => ?_) (fun c1 => ?_)
  · replace hf := hf.1 c1
    refine x_aload_n (pc' := 66) 0 (dX10_warn 41 rfl rfl) rfl rfl rfl ?_
    refine x_getR (pc' := 69) (dX10_warn 42 rfl rfl) g104 q759 (Or.inl rfl) rfl (hf_of 8 s5.1 rfl (by decide) m8_104) (s5.2 5 _ rfl rfl).1 ?_
    refine x_iload_n (pc' := 70) 3 (dX10_warn 43 rfl rfl) rfl rfl rfl ?_
    refine x_iload_n (pc' := 71) 1 (dX10_warn 44 rfl rfl) rfl rfl rfl ?_
    obtain ⟨i2, hf⟩ := hf
    refine x_iast (pc' := 72) (dX10_warn 45 rfl rfl) rfl (s5.2 5 _ rfl rfl).2.1 (Or.inl ⟨104, by decide, rfl, by decide⟩) (by rw [(s5.2 5 _ rfl rfl).2.2.2 (by decide)]; exact i2) (fun h3 e4 => ?_)
    replace hf := hf h3 e4
    replace s5 : So 5 (gW G) h3 := by rw [e4]; exact s5.le sc5 (sI_le )
    refine x_aload_n (pc' := 73) 0 (dX10_warn 46 rfl rfl) rfl rfl rfl ?_
    refine x_getR (pc' := 76) (dX10_warn 47 rfl rfl) g105 q760 (Or.inl rfl) rfl (hf_of 8 s5.1 rfl (by decide) m8_105) (s5.2 6 _ rfl rfl).1 ?_
    refine x_iload_n (pc' := 77) 3 (dX10_warn 48 rfl rfl) rfl rfl rfl ?_
    refine x_iload_n (pc' := 78) 2 (dX10_warn 49 rfl rfl) rfl rfl rfl ?_
    obtain ⟨i5, hf⟩ := hf
    refine x_iast (pc' := 79) (dX10_warn 50 rfl rfl) rfl (s5.2 6 _ rfl rfl).2.1 (Or.inl ⟨105, by decide, rfl, by decide⟩) (by rw [(s5.2 6 _ rfl rfl).2.2.2 (by decide)]; exact i5) (fun h6 e7 => ?_)
    replace hf := hf h6 e7
    replace s5 : So 5 (gW G) h6 := by rw [e7]; exact s5.le sc5 (sI_le )
    exact x_vret (dX10_warn 51 rfl rfl) rfl hf
  · replace hf := hf.2 c1
    refine x_aload_n (pc' := 20) 0 (dX10_warn 11 rfl rfl) rfl rfl rfl ?_
    refine x_getR (pc' := 23) (dX10_warn 12 rfl rfl) g104 q759 (Or.inl rfl) rfl (hf_of 8 s5.1 rfl (by decide) m8_104) (s5.2 5 _ rfl rfl).1 ?_
    refine x_iload_n (pc' := 24) 3 (dX10_warn 13 rfl rfl) rfl rfl rfl ?_
    refine x_iconst (pc' := 25) (v := 1) (dX10_warn 14 rfl rfl) (by decide) rfl ?_
    refine x_isub (pc' := 26) (dX10_warn 15 rfl rfl) rfl ?_
    obtain ⟨i8, hf⟩ := hf
    refine x_iald (pc' := 27) (dX10_warn 16 rfl rfl) rfl (s5.2 5 _ rfl rfl).2.1 (by rw [(s5.2 5 _ rfl rfl).2.2.2 (by decide)]; exact i8) ?_
    refine x_iload_n (pc' := 28) 1 (dX10_warn 17 rfl rfl) rfl rfl rfl ?_
    refine x_icmp_le (pc' := 31) (tgt := 65) (dX10_warn 18 rfl rfl) (by decide) rfl (fun c9 => ?_) (fun c9 => ?_)
    · replace hf := hf.1 c9
      refine x_aload_n (pc' := 66) 0 (dX10_warn 41 rfl rfl) rfl rfl rfl ?_
      refine x_getR (pc' := 69) (dX10_warn 42 rfl rfl) g104 q759 (Or.inl rfl) rfl (hf_of 8 s5.1 rfl (by decide) m8_104) (s5.2 5 _ rfl rfl).1 ?_
      refine x_iload_n (pc' := 70) 3 (dX10_warn 43 rfl rfl) rfl rfl rfl ?_
      refine x_iload_n (pc' := 71) 1 (dX10_warn 44 rfl rfl) rfl rfl rfl ?_
      obtain ⟨i10, hf⟩ := hf
      refine x_iast (pc' := 72) (dX10_warn 45 rfl rfl) rfl (s5.2 5 _ rfl rfl).2.1 (Or.inl ⟨104, by decide, rfl, by decide⟩) (by rw [(s5.2 5 _ rfl rfl).2.2.2 (by decide)]; exact i10) (fun h11 e12 => ?_)
      replace hf := hf h11 e12
      replace s5 : So 5 (gW G) h11 := by rw [e12]; exact s5.le sc5 (sI_le )
      refine x_aload_n (pc' := 73) 0 (dX10_warn 46 rfl rfl) rfl rfl rfl ?_
      refine x_getR (pc' := 76) (dX10_warn 47 rfl rfl) g105 q760 (Or.inl rfl) rfl (hf_of 8 s5.1 rfl (by decide) m8_105) (s5.2 6 _ rfl rfl).1 ?_
      refine x_iload_n (pc' := 77) 3 (dX10_warn 48 rfl rfl) rfl rfl rfl ?_
      refine x_iload_n (pc' := 78) 2 (dX10_warn 49 rfl rfl) rfl rfl rfl ?_
      obtain ⟨i13, hf⟩ := hf
      refine x_iast (pc' := 79) (dX10_warn 50 rfl rfl) rfl (s5.2 6 _ rfl rfl).2.1 (Or.inl ⟨105, by decide, rfl, by decide⟩) (by rw [(s5.2 6 _ rfl rfl).2.2.2 (by decide)]; exact i13) (fun h14 e15 => ?_)
      replace hf := hf h14 e15
      replace s5 : So 5 (gW G) h14 := by rw [e15]; exact s5.le sc5 (sI_le )
      exact x_vret (dX10_warn 51 rfl rfl) rfl hf
    · replace hf := hf.2 c9
      refine x_aload_n (pc' := 32) 0 (dX10_warn 19 rfl rfl) rfl rfl rfl ?_
      refine x_getR (pc' := 35) (dX10_warn 20 rfl rfl) g104 q759 (Or.inl rfl) rfl (hf_of 8 s5.1 rfl (by decide) m8_104) (s5.2 5 _ rfl rfl).1 ?_
      refine x_iload_n (pc' := 36) 3 (dX10_warn 21 rfl rfl) rfl rfl rfl ?_
      refine x_aload_n (pc' := 37) 0 (dX10_warn 22 rfl rfl) rfl rfl rfl ?_
      refine x_getR (pc' := 40) (dX10_warn 23 rfl rfl) g104 q759 (Or.inl rfl) rfl (hf_of 8 s5.1 rfl (by decide) m8_104) (s5.2 5 _ rfl rfl).1 ?_
      refine x_iload_n (pc' := 41) 3 (dX10_warn 24 rfl rfl) rfl rfl rfl ?_
      refine x_iconst (pc' := 42) (v := 1) (dX10_warn 25 rfl rfl) (by decide) rfl ?_
      refine x_isub (pc' := 43) (dX10_warn 26 rfl rfl) rfl ?_
      obtain ⟨i16, hf⟩ := hf
      refine x_iald (pc' := 44) (dX10_warn 27 rfl rfl) rfl (s5.2 5 _ rfl rfl).2.1 (by rw [(s5.2 5 _ rfl rfl).2.2.2 (by decide)]; exact i16) ?_
      obtain ⟨i17, hf⟩ := hf
      refine x_iast (pc' := 45) (dX10_warn 28 rfl rfl) rfl (s5.2 5 _ rfl rfl).2.1 (Or.inl ⟨104, by decide, rfl, by decide⟩) (by rw [(s5.2 5 _ rfl rfl).2.2.2 (by decide)]; exact i17) (fun h18 e19 => ?_)
      replace hf := hf h18 e19
      replace s5 : So 5 (gW G) h18 := by rw [e19]; exact s5.le sc5 (sI_le )
      refine x_aload_n (pc' := 46) 0 (dX10_warn 29 rfl rfl) rfl rfl rfl ?_
      refine x_getR (pc' := 49) (dX10_warn 30 rfl rfl) g105 q760 (Or.inl rfl) rfl (hf_of 8 s5.1 rfl (by decide) m8_105) (s5.2 6 _ rfl rfl).1 ?_
      refine x_iload_n (pc' := 50) 3 (dX10_warn 31 rfl rfl) rfl rfl rfl ?_
      refine x_aload_n (pc' := 51) 0 (dX10_warn 32 rfl rfl) rfl rfl rfl ?_
      refine x_getR (pc' := 54) (dX10_warn 33 rfl rfl) g105 q760 (Or.inl rfl) rfl (hf_of 8 s5.1 rfl (by decide) m8_105) (s5.2 6 _ rfl rfl).1 ?_
      refine x_iload_n (pc' := 55) 3 (dX10_warn 34 rfl rfl) rfl rfl rfl ?_
      refine x_iconst (pc' := 56) (v := 1) (dX10_warn 35 rfl rfl) (by decide) rfl ?_
      refine x_isub (pc' := 57) (dX10_warn 36 rfl rfl) rfl ?_
      obtain ⟨i20, hf⟩ := hf
      refine x_iald (pc' := 58) (dX10_warn 37 rfl rfl) rfl (s5.2 6 _ rfl rfl).2.1 (by rw [(s5.2 6 _ rfl rfl).2.2.2 (by decide)]; exact i20) ?_
      obtain ⟨i21, hf⟩ := hf
      refine x_iast (pc' := 59) (dX10_warn 38 rfl rfl) rfl (s5.2 6 _ rfl rfl).2.1 (Or.inl ⟨105, by decide, rfl, by decide⟩) (by rw [(s5.2 6 _ rfl rfl).2.2.2 (by decide)]; exact i21) (fun h22 e23 => ?_)
      replace hf := hf h22 e23
      replace s5 : So 5 (gW G) h22 := by rw [e23]; exact s5.le sc5 (sI_le )
      replace hf := hf _ rfl
      refine x_iinc (pc' := 62) 3 (dX10_warn 39 rfl rfl) rfl (by rfl) (by decide) rfl rfl ?_
      refine x_goto (tgt := 15) (dX10_warn 40 rfl rfl) (by decide) ?_
      exact X.sub [1, 2, 3, 0] rfl (by simp) hf
theorem bX10_open (G : Gh) (d : Nat) (h : AH) (Q : Outcome → AH → Prop) (p1 : Int32) (p2 : Int32) (p3 : Int32) (hf : X G mX10_open (d + 1) none [] 3 [(0, .ref (gW G 5)), (1, .int (p1)), (2, .int (p2)), (3, .int (p3)), (4, .int (0))] [] h Q) : C G mX10_open (d + 1) [.ref (gW G 5), .int (p1), .int (p2), .int (p3)] h Q := by
  refine C.of_X (by decide +kernel) (Nat.le_of_ble_eq_true rfl) wX10_open ?_
  show X G mX10_open (d + 1) none [] 0 [(0, .ref (gW G 5)), (1, .int (p1)), (2, .int (p2)), (3, .int (p3))] [] h Q
  refine x_iconst (pc' := 1) (v := 0) (dX10_open 0 rfl rfl) (by decide) rfl ?_
  refine x_istore (pc' := 3) (dX10_open 1 rfl rfl) (by decide) rfl rfl ?_
  exact X.sub [1, 2, 3, 4, 0] rfl (by simp) hf
theorem bX10_open_3 (G : Gh) (d : Nat) (h : AH) (Q : Outcome → AH → Prop) (l1 : Int32) (l2 : Int32) (l3 : Int32) (l4 : Int32) (s5 : So 5 (gW G) h) (hf : (l2 ≤ l4 → (C G mX10_isUseful d [.ref (gW G 5), .int (0), .int (l1), .int (l2), .int (l1 * l2)] h (KI Q (fun x4 h2 => (x4 = 0 → (Q (.returned none) h2)) ∧ (¬ x4 = 0 → (C G mX10_warn d [.ref (gW G 5), .int (l3), .int (2)] h2 (KV Q (fun h6 => Q (.returned none) h6)))))))) ∧ (¬ (l2 ≤ l4) → (∃ b8, fR h (gW G 5) 103 = some b8 ∧ (hK h b8 = 1000 ∧ Ns (gW G) b8 ∧ vp_in ((l1 * l2) + l4) (hL h b8) ∧ ∀ h12, h12 = sI h b8 ((l1 * l2) + l4).toNatClampNeg 0 → (∀ x15 : Int32, x15 = l4 + 1 → (X G mX10_open (d + 1) none [] 3 [(0, .ref (gW G 5)), (1, .int (l1)), (2, .int (l2)), (3, .int (l3)), (4, .int (x15))] [] h12 Q)))))) : X G mX10_open (d + 1) none [] 3 [(0, .ref (gW G 5)), (1, .int (l1)), (2, .int (l2)), (3, .int (l3)), (4, .int (l4))] [] h Q := by
  refine x_iload (pc' := 5) 4 (dX10_open 2 rfl rfl) rfl rfl ?_
  refine x_iload_n (pc' := 6) 2 (dX10_open 3 rfl rfl) rfl rfl rfl ?_
  refine x_icmp_ge (pc' := 9) (tgt := 27) (dX10_open 4 rfl rfl) (by decide) rfl (fun c1 => ?_) (fun c1 => ?_)
  · replace hf := hf.1 c1
    refine x_aload_n (pc' := 28) 0 (dX10_open 16 rfl rfl) rfl rfl rfl ?_
    refine x_iconst (pc' := 29) (v := 0) (dX10_open 17 rfl rfl) (by decide) rfl ?_
    refine x_iload_n (pc' := 30) 1 (dX10_open 18 rfl rfl) rfl rfl rfl ?_
    refine x_iload_n (pc' := 31) 2 (dX10_open 19 rfl rfl) rfl rfl rfl ?_
    refine x_iload_n (pc' := 32) 1 (dX10_open 20 rfl rfl) rfl rfl rfl ?_
    refine x_iload_n (pc' := 33) 2 (dX10_open 21 rfl rfl) rfl rfl rfl ?_
    refine x_imul (pc' := 34) (dX10_open 22 rfl rfl) rfl ?_
    refine x_inv (pc' := 37) (ν := mX10_isUseful) (av := [_, _, _, _, _]) (st := []) rfl rfl (dX10_open 23 rfl rfl) (Nat.le_of_ble_eq_true rfl) wX10_isUseful q224 (inv_V (k := 8) (dX10_open 23 rfl rfl) q2600 q2602 qs44 wX10_isUseful (by decide) lX10_isUseful (by decide) s5.1) (exN (by decide)) rfl ?_
    refine C.mono hf (fun _ _ => KI.g (fun x4 h2 hf le3 => ?_))
    replace s5 := s5.le sc5 (le3)
    refine x_if_eq (pc' := 40) (tgt := 46) (dX10_open 24 rfl rfl) (by decide) rfl (fun c5 => ?_) (fun c5 => ?_)
    · replace hf := hf.1 c5
      exact x_vret (dX10_open 29 rfl rfl) rfl hf
    · replace hf := hf.2 c5
      refine x_aload_n (pc' := 41) 0 (dX10_open 25 rfl rfl) rfl rfl rfl ?_
      refine x_iload_n (pc' := 42) 3 (dX10_open 26 rfl rfl) rfl rfl rfl ?_
      refine x_iconst (pc' := 43) (v := 2) (dX10_open 27 rfl rfl) (by decide) rfl ?_
      refine x_inv (pc' := 46) (ν := mX10_warn) (av := [_, _, _]) (st := []) rfl rfl (dX10_open 28 rfl rfl) (Nat.le_of_ble_eq_true rfl) wX10_warn q224 (inv_V (k := 8) (dX10_open 28 rfl rfl) q2620 q2622 qs49 wX10_warn (by decide) lX10_warn (by decide) s5.1) (exN (by decide)) rfl ?_
      refine C.mono hf (fun _ _ => KV.g (fun h6 hf le7 => ?_))
      replace s5 := s5.le sc5 (le7)
      exact x_vret (dX10_open 29 rfl rfl) rfl hf
  · replace hf := hf.2 c1
    refine x_aload_n (pc' := 10) 0 (dX10_open 5 rfl rfl) rfl rfl rfl ?_
    obtain ⟨b8, e9, hf⟩ := hf
    refine x_getR (pc' := 13) (dX10_open 6 rfl rfl) g103 q758 (Or.inl rfl) rfl (hf_of 8 s5.1 rfl (by decide) m8_103) e9 ?_
    refine x_iload_n (pc' := 14) 1 (dX10_open 7 rfl rfl) rfl rfl rfl ?_
    refine x_iload_n (pc' := 15) 2 (dX10_open 8 rfl rfl) rfl rfl rfl ?_
    refine x_imul (pc' := 16) (dX10_open 9 rfl rfl) rfl ?_
    refine x_iload (pc' := 18) 4 (dX10_open 10 rfl rfl) rfl rfl ?_
    refine x_iadd (pc' := 19) (dX10_open 11 rfl rfl) rfl ?_
    refine x_iconst (pc' := 20) (v := 0) (dX10_open 12 rfl rfl) (by decide) rfl ?_
    obtain ⟨k10, hf⟩ := hf
    obtain ⟨n14, hf⟩ := hf
    obtain ⟨i11, hf⟩ := hf
    refine x_iast (pc' := 21) (dX10_open 13 rfl rfl) rfl k10 (Or.inr ⟨n14, by decide⟩) i11 (fun h12 e13 => ?_)
    replace hf := hf h12 e13
    replace k10 : hK h12 b8 = 1000 := by rw [e13]; exact k10
    replace s5 : So 5 (gW G) h12 := by rw [e13]; exact s5.le sc5 (sI_le )
    replace hf := hf _ rfl
    refine x_iinc (pc' := 24) 4 (dX10_open 14 rfl rfl) rfl (by rfl) (by decide) rfl rfl ?_
    refine x_goto (tgt := 3) (dX10_open 15 rfl rfl) (by decide) ?_
    exact X.sub [1, 2, 3, 4, 0] rfl (by simp) hf
theorem bX10_check_2 (G : Gh) (d : Nat) (h : AH) (Q : Outcome → AH → Prop) (p1 : Nat) (p3 : Int32) (s1 : So 1 (gW G) h) (s5 : So 5 (gW G) h) (hf : C G mX10_reset d [.ref (gW G 5)] h (KV Q (fun h1 => ∃ b3, fR h1 (gW G 5) 103 = some b3 ∧ (∃ (k : Nat) (ν : Mu), VT ⟨"LetMill$Pat", "shape", "(LLetMill$Matches;)I"⟩ VMPat_shape k ν ∧ hK h1 p1 = k + 1 ∧ C G ν d [.ref (p1), .ref (gW G 5)] h1 (KI Q (fun x7 h5 => hK h5 b3 = 1000 ∧ Ns (gW G) b3 ∧ vp_in 0 (hL h5 b3) ∧ ∀ h10, h10 = sI h5 b3 (0 : Int32).toNatClampNeg x7 → (vp_in p3 4098 ∧ (C G mX10_open d [.ref (gW G 5), .int (1), .int (1), .int (aI h10 (gW G 1025) p3.toNatClampNeg)] h10 (KV Q (fun h14 => Q (.returned none) h14)))))))))) : C G mX10_check_2 (d + 1) [.ref (gW G 5), .ref (p1), .ref (gW G 1), .int (p3)] h Q := by
  refine C.of_X (by decide +kernel) (Nat.le_of_ble_eq_true rfl) wX10_check_2 ?_
  show X G mX10_check_2 (d + 1) none [] 0 [(0, .ref (gW G 5)), (1, .ref (p1)), (2, .ref (gW G 1)), (3, .int (p3))] [] h Q
  refine x_aload_n (pc' := 1) 0 (dX10_check_2 0 rfl rfl) rfl rfl rfl ?_
  refine x_inv (pc' := 4) (ν := mX10_reset) (av := [_]) (st := []) rfl rfl (dX10_check_2 1 rfl rfl) (Nat.le_of_ble_eq_true rfl) wX10_reset q224 (inv_V (k := 8) (dX10_check_2 1 rfl rfl) q2537 q2539 qs43 wX10_reset (by decide) lX10_reset (by decide) s5.1) (exN (by decide)) rfl ?_
  refine C.mono hf (fun _ _ => KV.g (fun h1 hf le2 => ?_))
  replace s1 := s1.le sc1 (le2)
  replace s5 := s5.le sc5 (le2)
  refine x_aload_n (pc' := 5) 0 (dX10_check_2 2 rfl rfl) rfl rfl rfl ?_
  obtain ⟨b3, e4, hf⟩ := hf
  refine x_getR (pc' := 8) (dX10_check_2 3 rfl rfl) g103 q758 (Or.inl rfl) rfl (hf_of 8 s5.1 rfl (by decide) m8_103) e4 ?_
  refine x_iconst (pc' := 9) (v := 0) (dX10_check_2 4 rfl rfl) (by decide) rfl ?_
  refine x_aload_n (pc' := 10) 1 (dX10_check_2 5 rfl rfl) rfl rfl rfl ?_
  refine x_aload_n (pc' := 11) 0 (dX10_check_2 6 rfl rfl) rfl rfl rfl ?_
  obtain ⟨k, ν, ⟨v0, v1, v2, v3, v4, v5, v6, v7⟩, k16, hf⟩ := hf
  refine x_inv (pc' := 14) (ν := ν) (st := [_, _]) rfl (sub_tr v7 rfl) (dX10_check_2 7 rfl rfl) (by have := v5; simp only [List.map, List.sum_cons, List.sum_nil, Value.category]; omega) v1 v2 (inv_U (k := k) (av := [_]) (dX10_check_2 7 rfl rfl) q2542 q2544 (by decide) v3 v4 (by decide) (show _ = some 1 by decide +kernel) v0 k16) (exN v6) rfl ?_
  refine C.mono hf (fun _ _ => KI.g (fun x7 h5 hf le6 => ?_))
  replace le6 := Le.nx v6 le6
  replace s1 := s1.le sc1 (le6)
  replace s5 := s5.le sc5 (le6)
  obtain ⟨k8, hf⟩ := hf
  obtain ⟨n12, hf⟩ := hf
  obtain ⟨i9, hf⟩ := hf
  refine x_iast (pc' := 15) (dX10_check_2 8 rfl rfl) rfl k8 (Or.inr ⟨n12, by decide⟩) i9 (fun h10 e11 => ?_)
  replace hf := hf h10 e11
  replace k8 : hK h10 b3 = 1000 := by rw [e11]; exact k8
  replace s1 : So 1 (gW G) h10 := by rw [e11]; exact s1.le sc1 (sI_le )
  replace s5 : So 5 (gW G) h10 := by rw [e11]; exact s5.le sc5 (sI_le )
  refine x_aload_n (pc' := 16) 0 (dX10_check_2 9 rfl rfl) rfl rfl rfl ?_
  refine x_iconst (pc' := 17) (v := 1) (dX10_check_2 10 rfl rfl) (by decide) rfl ?_
  refine x_iconst (pc' := 18) (v := 1) (dX10_check_2 11 rfl rfl) (by decide) rfl ?_
  refine x_aload_n (pc' := 19) 2 (dX10_check_2 12 rfl rfl) rfl rfl rfl ?_
  refine x_getR (pc' := 22) (dX10_check_2 13 rfl rfl) g25 q331 (Or.inl rfl) rfl (hf_of 1 s1.1 rfl (by decide) m1_25) (s1.2 3 _ rfl rfl).1 ?_
  refine x_iload_n (pc' := 23) 3 (dX10_check_2 14 rfl rfl) rfl rfl rfl ?_
  obtain ⟨i13, hf⟩ := hf
  refine x_iald (pc' := 24) (dX10_check_2 15 rfl rfl) rfl (s1.2 3 _ rfl rfl).2.1 (by rw [(s1.2 3 _ rfl rfl).2.2.2 (by decide)]; exact i13) ?_
  refine x_inv (pc' := 27) (ν := mX10_open) (av := [_, _, _, _]) (st := []) rfl rfl (dX10_check_2 16 rfl rfl) (Nat.le_of_ble_eq_true rfl) wX10_open q224 (inv_V (k := 8) (dX10_check_2 16 rfl rfl) q2624 q2626 qs50 wX10_open (by decide) lX10_open (by decide) s5.1) (exN (by decide)) rfl ?_
  refine C.mono hf (fun _ _ => KV.g (fun h14 hf le15 => ?_))
  have k8 := leK le15 k8 (by decide)
  replace s1 := s1.le sc1 (le15)
  replace s5 := s5.le sc5 (le15)
  exact x_vret (dX10_check_2 17 rfl rfl) rfl hf
theorem bX10_place (G : Gh) (d : Nat) (h : AH) (Q : Outcome → AH → Prop) (p1 : Int32) (s5 : So 5 (gW G) h) (hf : vp_in p1 2000 ∧ (Q (.returned (some (.int (aI h (gW G 1104) p1.toNatClampNeg)))) h)) : C G mX10_place d [.ref (gW G 5), .int (p1)] h Q := by
  refine C.of_X (by decide +kernel) (Nat.le_of_ble_eq_true rfl) wX10_place ?_
  show X G mX10_place d none [] 0 [(0, .ref (gW G 5)), (1, .int (p1))] [] h Q
  refine x_aload_n (pc' := 1) 0 (dX10_place 0 rfl rfl) rfl rfl rfl ?_
  refine x_getR (pc' := 4) (dX10_place 1 rfl rfl) g104 q759 (Or.inl rfl) rfl (hf_of 8 s5.1 rfl (by decide) m8_104) (s5.2 5 _ rfl rfl).1 ?_
  refine x_iload_n (pc' := 5) 1 (dX10_place 2 rfl rfl) rfl rfl rfl ?_
  obtain ⟨i1, hf⟩ := hf
  refine x_iald (pc' := 6) (dX10_place 3 rfl rfl) rfl (s5.2 5 _ rfl rfl).2.1 (by rw [(s5.2 5 _ rfl rfl).2.2.2 (by decide)]; exact i1) ?_
  exact x_iret (dX10_place 4 rfl rfl) rfl hf
theorem bX10_what (G : Gh) (d : Nat) (h : AH) (Q : Outcome → AH → Prop) (p1 : Int32) (s5 : So 5 (gW G) h) (hf : vp_in p1 2000 ∧ (Q (.returned (some (.int (aI h (gW G 1105) p1.toNatClampNeg)))) h)) : C G mX10_what d [.ref (gW G 5), .int (p1)] h Q := by
  refine C.of_X (by decide +kernel) (Nat.le_of_ble_eq_true rfl) wX10_what ?_
  show X G mX10_what d none [] 0 [(0, .ref (gW G 5)), (1, .int (p1))] [] h Q
  refine x_aload_n (pc' := 1) 0 (dX10_what 0 rfl rfl) rfl rfl rfl ?_
  refine x_getR (pc' := 4) (dX10_what 1 rfl rfl) g105 q760 (Or.inl rfl) rfl (hf_of 8 s5.1 rfl (by decide) m8_105) (s5.2 6 _ rfl rfl).1 ?_
  refine x_iload_n (pc' := 5) 1 (dX10_what 2 rfl rfl) rfl rfl rfl ?_
  obtain ⟨i1, hf⟩ := hf
  refine x_iald (pc' := 6) (dX10_what 3 rfl rfl) rfl (s5.2 6 _ rfl rfl).2.1 (by rw [(s5.2 6 _ rfl rfl).2.2.2 (by decide)]; exact i1) ?_
  exact x_iret (dX10_what 4 rfl rfl) rfl hf
theorem bX11_init (G : Gh) (d : Nat) (hd1 : 1 ≤ d) (h : AH) (Q : Outcome → AH → Prop) (a0 : Nat) (p1 : Nat) (p2 : Nat) (p3 : Nat) (hf : (¬ (64 : Int32) < 0) ∧ (hc h + 1 ≤ MC) ∧ (hs h + (64 : Int32).toNatClampNeg ≤ MS) ∧ ∀ q1, hK h q1 = 0 → ∀ h3, h3 = nA h q1 7 (64 : Int32).toNatClampNeg → (hK h3 a0 = 10 ∧ (∀ h8, h8 = pR h3 a0 111 (some q1) → ((¬ (6 : Int32) < 0) ∧ (hc h8 + 1 ≤ MC) ∧ (hs h8 + (6 : Int32).toNatClampNeg ≤ MS) ∧ ∀ q9, hK h8 q9 = 0 → ∀ h11, h11 = nA h8 q9 0 (6 : Int32).toNatClampNeg → (∀ h15, h15 = pR h11 a0 113 (some q9) → (∀ h16, h16 = pR h15 a0 108 (some p1) → (∀ h17, h17 = pR h16 a0 109 (some p2) → (∀ h18, h18 = pR h17 a0 110 (some p3) → (Q (.returned none) h18))))))))) : C G mX11_init d [.ref (a0), .ref (p1), .ref (p2), .ref (p3)] h Q := by
  refine C.of_X (by decide +kernel) (Nat.le_of_ble_eq_true rfl) wX11_init ?_
  show X G mX11_init d (some a0) [] 0 [(0, .ref (a0)), (1, .ref (p1)), (2, .ref (p2)), (3, .ref (p3))] [] h Q
  refine x_aload_n (pc' := 1) 0 (dX11_init 0 rfl rfl) rfl rfl rfl ?_
  refine x_objInit (pc' := 4) (dX11_init 1 rfl rfl) q794 q288 q289 (by decide) (by omega) rfl ?_
  refine x_aload_n (pc' := 5) 0 (dX11_init 2 rfl rfl) rfl rfl rfl ?_
  refine x_bipush (pc' := 7) (v := 64) (dX11_init 3 rfl rfl) (by decide) rfl ?_
  obtain ⟨z5, n1, n2, hf⟩ := hf
  refine x_newq (pc' := 10) (t := 7) (E := "LetMill$Binding") (dX11_init 4 rfl rfl) q795 (by decide) (by decide) rfl rfl z5 (by decide) n1 n2 (fun q1 h3 k2 e4 => ?_)
  replace hf := hf q1 k2 h3 e4
  have k6 : hK h3 q1 = 1007 := by rw [e4]; exact kNAs
  obtain ⟨k7, hf⟩ := hf
  refine x_putR (pc' := 13) (dX11_init 5 rfl rfl) g111 q832 (Or.inl rfl) (Or.inl rfl) (Or.inr rfl) rfl (hf_of 9 k7 rfl (by decide) m9_111) (fun h8 e23 => ?_)
  replace hf := hf h8 e23
  replace k6 : hK h8 q1 = 1007 := by rw [e23]; exact k6
  replace k7 : hK h8 a0 = 10 := by rw [e23]; exact k7
  refine x_aload_n (pc' := 14) 0 (dX11_init 6 rfl rfl) rfl rfl rfl ?_
  refine x_bipush (pc' := 16) (v := 6) (dX11_init 7 rfl rfl) (by decide) rfl ?_
  obtain ⟨z13, n1, n2, hf⟩ := hf
  refine x_newa0 (pc' := 18) (dX11_init 8 rfl rfl) rfl z13 (by decide) n1 n2 (fun q9 h11 k10 e12 => ?_)
  replace hf := hf q9 k10 h11 e12
  replace k6 : hK h11 q1 = 1007 := by rw [e12]; exact kNA k6 (by decide) k10
  replace k7 : hK h11 a0 = 10 := by rw [e12]; exact kNA k7 (by decide) k10
  have k14 : hK h11 q9 = 1000 := by rw [e12]; exact kNAs
  refine x_putR (pc' := 21) (dX11_init 9 rfl rfl) g113 q838 (Or.inl rfl) (Or.inr ⟨rfl, rfl, rfl, rfl⟩) (Or.inr rfl) rfl (hf_of 9 k7 rfl (by decide) m9_113) (fun h15 e22 => ?_)
  replace hf := hf h15 e22
  replace k6 : hK h15 q1 = 1007 := by rw [e22]; exact k6
  replace k7 : hK h15 a0 = 10 := by rw [e22]; exact k7
  replace k14 : hK h15 q9 = 1000 := by rw [e22]; exact k14
  refine x_aload_n (pc' := 22) 0 (dX11_init 10 rfl rfl) rfl rfl rfl ?_
  refine x_aload_n (pc' := 23) 1 (dX11_init 11 rfl rfl) rfl rfl rfl ?_
  refine x_putR (pc' := 26) (dX11_init 12 rfl rfl) g108 q796 (Or.inl rfl) (Or.inr ⟨rfl, rfl, rfl, rfl⟩) (Or.inr rfl) rfl (hf_of 9 k7 rfl (by decide) m9_108) (fun h16 e21 => ?_)
  replace hf := hf h16 e21
  replace k6 : hK h16 q1 = 1007 := by rw [e21]; exact k6
  replace k7 : hK h16 a0 = 10 := by rw [e21]; exact k7
  replace k14 : hK h16 q9 = 1000 := by rw [e21]; exact k14
  refine x_aload_n (pc' := 27) 0 (dX11_init 13 rfl rfl) rfl rfl rfl ?_
  refine x_aload_n (pc' := 28) 2 (dX11_init 14 rfl rfl) rfl rfl rfl ?_
  refine x_putR (pc' := 31) (dX11_init 15 rfl rfl) g109 q821 (Or.inl rfl) (Or.inr ⟨rfl, rfl, rfl, rfl⟩) (Or.inr rfl) rfl (hf_of 9 k7 rfl (by decide) m9_109) (fun h17 e20 => ?_)
  replace hf := hf h17 e20
  replace k6 : hK h17 q1 = 1007 := by rw [e20]; exact k6
  replace k7 : hK h17 a0 = 10 := by rw [e20]; exact k7
  replace k14 : hK h17 q9 = 1000 := by rw [e20]; exact k14
  refine x_aload_n (pc' := 32) 0 (dX11_init 16 rfl rfl) rfl rfl rfl ?_
  refine x_aload_n (pc' := 33) 3 (dX11_init 17 rfl rfl) rfl rfl rfl ?_
  refine x_putR (pc' := 36) (dX11_init 18 rfl rfl) g110 q827 (Or.inl rfl) (Or.inr ⟨rfl, rfl, rfl, rfl⟩) (Or.inr rfl) rfl (hf_of 9 k7 rfl (by decide) m9_110) (fun h18 e19 => ?_)
  replace hf := hf h18 e19
  replace k6 : hK h18 q1 = 1007 := by rw [e19]; exact k6
  replace k7 : hK h18 a0 = 10 := by rw [e19]; exact k7
  replace k14 : hK h18 q9 = 1000 := by rw [e19]; exact k14
  exact x_vret (dX11_init 19 rfl rfl) rfl hf
theorem bX11_fresh (G : Gh) (d : Nat) (h : AH) (Q : Outcome → AH → Prop) (p1 : Int32) (hf : X G mX11_fresh (d + 1) none [] 2 [(0, .ref (gW G 6)), (1, .int (p1)), (2, .int (0))] [] h Q) : C G mX11_fresh (d + 1) [.ref (gW G 6), .int (p1)] h Q := by
  refine C.of_X (by decide +kernel) (Nat.le_of_ble_eq_true rfl) wX11_fresh ?_
  show X G mX11_fresh (d + 1) none [] 0 [(0, .ref (gW G 6)), (1, .int (p1))] [] h Q
  refine x_iconst (pc' := 1) (v := 0) (dX11_fresh 0 rfl rfl) (by decide) rfl ?_
  refine x_istore_n (pc' := 2) (dX11_fresh 1 rfl rfl) rfl (by decide) rfl rfl ?_
  exact X.sub [1, 2, 0] rfl (by simp) hf
theorem bX11_fresh_2 (G : Gh) (d : Nat) (h : AH) (Q : Outcome → AH → Prop) (l1 : Int32) (l2 : Int32) (s2 : So 2 (gW G) h) (s6 : So 6 (gW G) h) (hf : (l1 ≤ l2 → (Q (.returned none) h)) ∧ (¬ (l1 ≤ l2) → (C G mX3_variable d [.ref (gW G 2)] h (KI Q (fun x4 h2 => vp_in l2 6 ∧ ∀ h6, h6 = sI h2 (gW G 1113) l2.toNatClampNeg x4 → (∀ x8 : Int32, x8 = l2 + 1 → (X G mX11_fresh (d + 1) none [] 2 [(0, .ref (gW G 6)), (1, .int (l1)), (2, .int (x8))] [] h6 Q))))))) : X G mX11_fresh (d + 1) none [] 2 [(0, .ref (gW G 6)), (1, .int (l1)), (2, .int (l2))] [] h Q := by
  refine x_iload_n (pc' := 3) 2 (dX11_fresh 2 rfl rfl) rfl rfl rfl ?_
  refine x_iload_n (pc' := 4) 1 (dX11_fresh 3 rfl rfl) rfl rfl rfl ?_
  refine x_icmp_ge (pc' := 7) (tgt := 26) (dX11_fresh 4 rfl rfl) (by decide) rfl (fun c1 => ?_) (fun c1 => ?_)
  · replace hf := hf.1 c1
    exact x_vret (dX11_fresh 14 rfl rfl) rfl hf
  · replace hf := hf.2 c1
    refine x_aload_n (pc' := 8) 0 (dX11_fresh 5 rfl rfl) rfl rfl rfl ?_
    refine x_getR (pc' := 11) (dX11_fresh 6 rfl rfl) g113 q838 (Or.inl rfl) rfl (hf_of 9 s6.1 rfl (by decide) m9_113) (s6.2 3 _ rfl rfl).1 ?_
    refine x_iload_n (pc' := 12) 2 (dX11_fresh 7 rfl rfl) rfl rfl rfl ?_
    refine x_aload_n (pc' := 13) 0 (dX11_fresh 8 rfl rfl) rfl rfl rfl ?_
    refine x_getR (pc' := 16) (dX11_fresh 9 rfl rfl) g108 q796 (Or.inl rfl) rfl (hf_of 9 s6.1 rfl (by decide) m9_108) (s6.2 0 _ rfl rfl).1 ?_
    refine x_inv (pc' := 19) (ν := mX3_variable) (av := [_]) (st := [_, _]) rfl rfl (dX11_fresh 10 rfl rfl) (Nat.le_of_ble_eq_true rfl) wX3_variable q213 (inv_V (k := 2) (dX11_fresh 10 rfl rfl) q2340 q2341 q2342 wX3_variable (by decide) lX3_variable (by decide) s2.1) (exN (by decide)) rfl ?_
    refine C.mono hf (fun _ _ => KI.g (fun x4 h2 hf le3 => ?_))
    replace s2 := s2.le sc2 (le3)
    replace s6 := s6.le sc6 (le3)
    obtain ⟨i5, hf⟩ := hf
    refine x_iast (pc' := 20) (dX11_fresh 11 rfl rfl) rfl (s6.2 3 _ rfl rfl).2.1 (Or.inl ⟨113, by decide, rfl, by decide⟩) (by rw [(s6.2 3 _ rfl rfl).2.2.2 (by decide)]; exact i5) (fun h6 e7 => ?_)
    replace hf := hf h6 e7
    replace s2 : So 2 (gW G) h6 := by rw [e7]; exact s2.le sc2 (sI_le )
    replace s6 : So 6 (gW G) h6 := by rw [e7]; exact s6.le sc6 (sI_le )
    replace hf := hf _ rfl
    refine x_iinc (pc' := 23) 2 (dX11_fresh 12 rfl rfl) rfl (by rfl) (by decide) rfl rfl ?_
    refine x_goto (tgt := 2) (dX11_fresh 13 rfl rfl) (by decide) ?_
    exact X.sub [1, 2, 0] rfl (by simp) hf
