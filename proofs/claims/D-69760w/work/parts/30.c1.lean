set_option maxRecDepth 100000
theorem bX3_back (G : Gh) (d : Nat) (h : AH) (Q : Outcome → AH → Prop) (p1 : Int32) (s2 : So 2 (gW G) h) (hf : ∀ h1, h1 = pI h (gW G 2) 36 3 → (∀ h2, h2 = pI h1 (gW G 2) 37 0 → (∀ h3, h3 = pI h2 (gW G 2) 41 p1 → (Q (.returned none) h3)))) : C G mX3_back d [.ref (gW G 2), .int (p1)] h Q := by
  refine C.of_X (by decide +kernel) (Nat.le_of_ble_eq_true rfl) wX3_back ?_
  show X G mX3_back d none [] 0 [(0, .ref (gW G 2)), (1, .int (p1))] [] h Q
  refine x_aload_n (pc' := 1) 0 (dX3_back 0 rfl rfl) rfl rfl rfl ?_
  refine x_iconst (pc' := 2) (v := 3) (dX3_back 1 rfl rfl) (by decide) rfl ?_
  refine x_putI (pc' := 5) (dX3_back 2 rfl rfl) g36 q485 (Or.inl rfl) (Or.inl rfl) (Or.inl (by decide)) rfl (hf_of 2 s2.1 rfl (by decide) m2_36) (fun h1 e6 => ?_)
  replace hf := hf h1 e6
  replace s2 : So 2 (gW G) h1 := by rw [e6]; exact s2.le sc2 (pI_le (Or.inl rfl))
  refine x_aload_n (pc' := 6) 0 (dX3_back 3 rfl rfl) rfl rfl rfl ?_
  refine x_iconst (pc' := 7) (v := 0) (dX3_back 4 rfl rfl) (by decide) rfl ?_
  refine x_putI (pc' := 10) (dX3_back 5 rfl rfl) g37 q486 (Or.inl rfl) (Or.inl rfl) (Or.inl (by decide)) rfl (hf_of 2 s2.1 rfl (by decide) m2_37) (fun h2 e5 => ?_)
  replace hf := hf h2 e5
  replace s2 : So 2 (gW G) h2 := by rw [e5]; exact s2.le sc2 (pI_le (Or.inl rfl))
  refine x_aload_n (pc' := 11) 0 (dX3_back 6 rfl rfl) rfl rfl rfl ?_
  refine x_iload_n (pc' := 12) 1 (dX3_back 7 rfl rfl) rfl rfl rfl ?_
  refine x_putI (pc' := 15) (dX3_back 8 rfl rfl) g41 q491 (Or.inl rfl) (Or.inl rfl) (Or.inl (by decide)) rfl (hf_of 2 s2.1 rfl (by decide) m2_41) (fun h3 e4 => ?_)
  replace hf := hf h3 e4
  replace s2 : So 2 (gW G) h3 := by rw [e4]; exact s2.le sc2 (pI_le (Or.inl rfl))
  exact x_vret (dX3_back 9 rfl rfl) rfl hf
theorem bX3_isFull (G : Gh) (d : Nat) (h : AH) (Q : Outcome → AH → Prop)  (s2 : So 2 (gW G) h) (hf : ((fI h (gW G 2) 41) = 212 → (Q (.returned (some (.int 1))) h)) ∧ (¬ ((fI h (gW G 2) 41) = 212) → (Q (.returned (some (.int 0))) h))) : C G mX3_isFull d [.ref (gW G 2)] h Q := by
  refine C.of_X (by decide +kernel) (Nat.le_of_ble_eq_true rfl) wX3_isFull ?_
  show X G mX3_isFull d none [] 0 [(0, .ref (gW G 2))] [] h Q
  refine x_aload_n (pc' := 1) 0 (dX3_isFull 0 rfl rfl) rfl rfl rfl ?_
  refine x_getI (pc' := 4) (dX3_isFull 1 rfl rfl) g41 q491 (Or.inl rfl) rfl (hf_of 2 s2.1 rfl (by decide) m2_41) ?_
  refine x_sipush (pc' := 7) (v := 212) (dX3_isFull 2 rfl rfl) (by decide) rfl ?_
  refine x_icmp_ne (pc' := 10) (tgt := 14) (dX3_isFull 3 rfl rfl) (by decide) rfl (fun c1 => ?_) (fun c1 => ?_)
  · replace hf := hf.2 c1
    refine x_iconst (pc' := 15) (v := 0) (dX3_isFull 6 rfl rfl) (by decide) rfl ?_
    exact x_zret (ty := .boolean) (dX3_isFull 7 rfl rfl) rfl (by decide) hf
  · replace hf := hf.1 (Classical.not_not.mp c1)
    replace c1 := Classical.not_not.mp c1
    refine x_iconst (pc' := 11) (v := 1) (dX3_isFull 4 rfl rfl) (by decide) rfl ?_
    refine x_goto (tgt := 15) (dX3_isFull 5 rfl rfl) (by decide) ?_
    exact x_zret (ty := .boolean) (dX3_isFull 7 rfl rfl) rfl (by decide) hf
theorem bX3_name (G : Gh) (d : Nat) (h : AH) (Q : Outcome → AH → Prop) (p1 : Int32) (s2 : So 2 (gW G) h) (hf : vp_in p1 212 ∧ ∃ b2, aR h (gW G 1040) p1.toNatClampNeg = some b2 ∧ (Q (.returned (some (.ref (b2)))) h)) : C G mX3_name d [.ref (gW G 2), .int (p1)] h Q := by
  refine C.of_X (by decide +kernel) (Nat.le_of_ble_eq_true rfl) wX3_name ?_
  show X G mX3_name d none [] 0 [(0, .ref (gW G 2)), (1, .int (p1))] [] h Q
  refine x_aload_n (pc' := 1) 0 (dX3_name 0 rfl rfl) rfl rfl rfl ?_
  refine x_getR (pc' := 4) (dX3_name 1 rfl rfl) g40 q489 (Or.inl rfl) rfl (hf_of 2 s2.1 rfl (by decide) m2_40) (s2.2 7 _ rfl rfl).1 ?_
  refine x_iload_n (pc' := 5) 1 (dX3_name 2 rfl rfl) rfl rfl rfl ?_
  obtain ⟨i1, hf⟩ := hf
  obtain ⟨b2, e3, hf⟩ := hf
  refine x_aald (pc' := 6) (t := 6) (C := "LetMill$TypeName") (dX3_name 3 rfl rfl) rfl (by decide) rfl (s2.2 7 _ rfl rfl).2.1 (by rw [(s2.2 7 _ rfl rfl).2.2.2 (by decide)]; exact i1) e3 ?_
  exact x_aret (dX3_name 4 rfl rfl) rfl (Or.inl ⟨_, rfl⟩) (Or.inr ⟨_, rfl⟩) hf
theorem bX3_variable (G : Gh) (d : Nat) (h : AH) (Q : Outcome → AH → Prop)  (s2 : So 2 (gW G) h) (hf : C G mX3_node d [.ref (gW G 2), .int ((-1))] h (KI Q (fun x3 h1 => Q (.returned (some (.int x3))) h1))) : C G mX3_variable (d + 1) [.ref (gW G 2)] h Q := by
  refine C.of_X (by decide +kernel) (Nat.le_of_ble_eq_true rfl) wX3_variable ?_
  show X G mX3_variable (d + 1) none [] 0 [(0, .ref (gW G 2))] [] h Q
  refine x_aload_n (pc' := 1) 0 (dX3_variable 0 rfl rfl) rfl rfl rfl ?_
  refine x_iconst (pc' := 2) (v := -1) (dX3_variable 1 rfl rfl) (by decide) rfl ?_
  refine x_inv (pc' := 5) (ν := mX3_node) (av := [_, _]) (st := []) rfl rfl (dX3_variable 2 rfl rfl) (Nat.le_of_ble_eq_true rfl) wX3_node q213 (inv_V (k := 2) (dX3_variable 2 rfl rfl) q475 q477 qs1 wX3_node (by decide) lX3_node (by decide) s2.1) (exN (by decide)) rfl ?_
  refine C.mono hf (fun _ _ => KI.g (fun x3 h1 hf le2 => ?_))
  replace s2 := s2.le sc2 (le2)
  exact x_iret (dX3_variable 3 rfl rfl) rfl hf
theorem bX3_built_2 (G : Gh) (d : Nat) (h : AH) (Q : Outcome → AH → Prop) (p1 : Int32) (p2 : Nat) (p3 : Int32) (p4 : Int32) (s2 : So 2 (gW G) h) (hf : C G mX3_node d [.ref (gW G 2), .int (p1)] h (KI Q (fun x3 h1 => X G mX3_built_2 (d + 1) none [] 10 [(0, .ref (gW G 2)), (2, .ref (p2)), (3, .int (p3)), (4, .int (p4)), (5, .int (x3)), (6, .int (0))] [] h1 Q))) : C G mX3_built_2 (d + 1) [.ref (gW G 2), .int (p1), .ref (p2), .int (p3), .int (p4)] h Q := by
  refine C.of_X (by decide +kernel) (Nat.le_of_ble_eq_true rfl) wX3_built_2 ?_
  show X G mX3_built_2 (d + 1) none [] 0 [(0, .ref (gW G 2)), (1, .int (p1)), (2, .ref (p2)), (3, .int (p3)), (4, .int (p4))] [] h Q
  refine x_aload_n (pc' := 1) 0 (dX3_built_2 0 rfl rfl) rfl rfl rfl ?_
  refine x_iload_n (pc' := 2) 1 (dX3_built_2 1 rfl rfl) rfl rfl rfl ?_
  refine x_inv (pc' := 5) (ν := mX3_node) (av := [_, _]) (st := []) rfl rfl (dX3_built_2 2 rfl rfl) (Nat.le_of_ble_eq_true rfl) wX3_node q213 (inv_V (k := 2) (dX3_built_2 2 rfl rfl) q475 q477 qs1 wX3_node (by decide) lX3_node (by decide) s2.1) (exN (by decide)) rfl ?_
  refine C.mono hf (fun _ _ => KI.g (fun x3 h1 hf le2 => ?_))
  replace s2 := s2.le sc2 (le2)
  refine x_istore (pc' := 7) (dX3_built_2 3 rfl rfl) (by decide) rfl rfl ?_
  refine x_iconst (pc' := 8) (v := 0) (dX3_built_2 4 rfl rfl) (by decide) rfl ?_
  refine x_istore (pc' := 10) (dX3_built_2 5 rfl rfl) (by decide) rfl rfl ?_
  exact X.sub [2, 4, 5, 6, 1, 0] rfl (by simp) hf
theorem bX3_built_2_10 (G : Gh) (d : Nat) (h : AH) (Q : Outcome → AH → Prop) (l2 : Nat) (l3 : Int32) (l4 : Int32) (l5 : Int32) (l6 : Int32) (s2 : So 2 (gW G) h) (hf : (l4 ≤ l6 → (Q (.returned (some (.int l5))) h)) ∧ (¬ (l4 ≤ l6) → (hK h l2 = 1000 ∧ vp_in (l3 + l6) (hL h l2) ∧ (vp_in (fI h (gW G 2) 37) 150000 ∧ ∀ h5, h5 = sI h (gW G 1035) (fI h (gW G 2) 37).toNatClampNeg (aI h l2 (l3 + l6).toNatClampNeg) → (∀ h7, h7 = pI h5 (gW G 2) 37 ((fI h5 (gW G 2) 37) + 1) → (∀ x8 : Int32, x8 = l6 + 1 → (X G mX3_built_2 (d + 1) none [] 10 [(0, .ref (gW G 2)), (2, .ref (l2)), (3, .int (l3)), (4, .int (l4)), (5, .int (l5)), (6, .int (x8))] [] h7 Q))))))) : X G mX3_built_2 (d + 1) none [] 10 [(0, .ref (gW G 2)), (2, .ref (l2)), (3, .int (l3)), (4, .int (l4)), (5, .int (l5)), (6, .int (l6))] [] h Q := by
  refine x_iload (pc' := 12) 5 (dX3_built_2 6 rfl rfl) rfl rfl ?_
  refine x_iload (pc' := 14) 3 (dX3_built_2 7 rfl rfl) rfl rfl ?_
  refine x_icmp_ge (pc' := 17) (tgt := 48) (dX3_built_2 8 rfl rfl) (by decide) rfl (fun c1 => ?_) (fun c1 => ?_)
  · replace hf := hf.1 c1
    refine x_iload (pc' := 50) 4 (dX3_built_2 27 rfl rfl) rfl rfl ?_
    exact x_iret (dX3_built_2 28 rfl rfl) rfl hf
  · replace hf := hf.2 c1
    refine x_aload_n (pc' := 18) 0 (dX3_built_2 9 rfl rfl) rfl rfl rfl ?_
    refine x_getR (pc' := 21) (dX3_built_2 10 rfl rfl) g35 q484 (Or.inl rfl) rfl (hf_of 2 s2.1 rfl (by decide) m2_35) (s2.2 5 _ rfl rfl).1 ?_
    refine x_aload_n (pc' := 22) 0 (dX3_built_2 11 rfl rfl) rfl rfl rfl ?_
    refine x_getI (pc' := 25) (dX3_built_2 12 rfl rfl) g37 q486 (Or.inl rfl) rfl (hf_of 2 s2.1 rfl (by decide) m2_37) ?_
    refine x_aload_n (pc' := 26) 1 (dX3_built_2 13 rfl rfl) rfl rfl rfl ?_
    refine x_iload_n (pc' := 27) 2 (dX3_built_2 14 rfl rfl) rfl rfl rfl ?_
    refine x_iload (pc' := 29) 5 (dX3_built_2 15 rfl rfl) rfl rfl ?_
    refine x_iadd (pc' := 30) (dX3_built_2 16 rfl rfl) rfl ?_
    obtain ⟨k2, hf⟩ := hf
    obtain ⟨i3, hf⟩ := hf
    refine x_iald (pc' := 31) (dX3_built_2 17 rfl rfl) rfl k2 i3 ?_
    obtain ⟨i4, hf⟩ := hf
    refine x_iast (pc' := 32) (dX3_built_2 18 rfl rfl) rfl (s2.2 5 _ rfl rfl).2.1 (Or.inl ⟨35, by decide, rfl, by decide⟩) (by rw [(s2.2 5 _ rfl rfl).2.2.2 (by decide)]; exact i4) (fun h5 e6 => ?_)
    replace hf := hf h5 e6
    replace k2 : hK h5 l2 = 1000 := by rw [e6]; exact k2
    replace s2 : So 2 (gW G) h5 := by rw [e6]; exact s2.le sc2 (sI_le )
    refine x_aload_n (pc' := 33) 0 (dX3_built_2 19 rfl rfl) rfl rfl rfl ?_
    refine x_dup (pc' := 34) (dX3_built_2 20 rfl rfl) rfl rfl ?_
    refine x_getI (pc' := 37) (dX3_built_2 21 rfl rfl) g37 q486 (Or.inl rfl) rfl (hf_of 2 s2.1 rfl (by decide) m2_37) ?_
    refine x_iconst (pc' := 38) (v := 1) (dX3_built_2 22 rfl rfl) (by decide) rfl ?_
    refine x_iadd (pc' := 39) (dX3_built_2 23 rfl rfl) rfl ?_
    refine x_putI (pc' := 42) (dX3_built_2 24 rfl rfl) g37 q486 (Or.inl rfl) (Or.inl rfl) (Or.inl (by decide)) rfl (hf_of 2 s2.1 rfl (by decide) m2_37) (fun h7 e9 => ?_)
    replace hf := hf h7 e9
    replace k2 : hK h7 l2 = 1000 := by rw [e9]; exact k2
    replace s2 : So 2 (gW G) h7 := by rw [e9]; exact s2.le sc2 (pI_le (Or.inl rfl))
    replace hf := hf _ rfl
    refine x_iinc (pc' := 45) 5 (dX3_built_2 25 rfl rfl) rfl (by rfl) (by decide) rfl rfl ?_
    refine x_goto (tgt := 10) (dX3_built_2 26 rfl rfl) (by decide) ?_
    exact X.sub [1, 2, 3, 4, 5, 0] rfl (by simp) hf
theorem bX3_fun (G : Gh) (d : Nat) (h : AH) (Q : Outcome → AH → Prop) (p1 : Int32) (p2 : Int32) (s2 : So 2 (gW G) h) (hf : C G mX3_built_3 d [.ref (gW G 2), .int (0), .int (p1)] h (KI Q (fun x3 h1 => vp_in (fI h1 (gW G 2) 37) 150000 ∧ ∀ h5, h5 = sI h1 (gW G 1035) (fI h1 (gW G 2) 37).toNatClampNeg p2 → (∀ h7, h7 = pI h5 (gW G 2) 37 ((fI h5 (gW G 2) 37) + 1) → (Q (.returned (some (.int x3))) h7))))) : C G mX3_fun (d + 1) [.ref (gW G 2), .int (p1), .int (p2)] h Q := by
  refine C.of_X (by decide +kernel) (Nat.le_of_ble_eq_true rfl) wX3_fun ?_
  show X G mX3_fun (d + 1) none [] 0 [(0, .ref (gW G 2)), (1, .int (p1)), (2, .int (p2))] [] h Q
  refine x_aload_n (pc' := 1) 0 (dX3_fun 0 rfl rfl) rfl rfl rfl ?_
  refine x_iconst (pc' := 2) (v := 0) (dX3_fun 1 rfl rfl) (by decide) rfl ?_
  refine x_iload_n (pc' := 3) 1 (dX3_fun 2 rfl rfl) rfl rfl rfl ?_
  refine x_inv (pc' := 6) (ν := mX3_built_3) (av := [_, _, _]) (st := []) rfl rfl (dX3_fun 3 rfl rfl) (Nat.le_of_ble_eq_true rfl) wX3_built_3 q213 (inv_V (k := 2) (dX3_fun 3 rfl rfl) q2377 q2378 q2379 wX3_built_3 (by decide) lX3_built_3 (by decide) s2.1) (exN (by decide)) rfl ?_
  refine C.mono hf (fun _ _ => KI.g (fun x3 h1 hf le2 => ?_))
  replace s2 := s2.le sc2 (le2)
  refine x_istore_n (pc' := 7) (dX3_fun 4 rfl rfl) rfl (by decide) rfl rfl ?_
  refine x_aload_n (pc' := 8) 1 (dX3_fun 5 rfl rfl) rfl rfl rfl ?_
  refine x_getR (pc' := 11) (dX3_fun 6 rfl rfl) g35 q484 (Or.inl rfl) rfl (hf_of 2 s2.1 rfl (by decide) m2_35) (s2.2 5 _ rfl rfl).1 ?_
  refine x_aload_n (pc' := 12) 1 (dX3_fun 7 rfl rfl) rfl rfl rfl ?_
  refine x_getI (pc' := 15) (dX3_fun 8 rfl rfl) g37 q486 (Or.inl rfl) rfl (hf_of 2 s2.1 rfl (by decide) m2_37) ?_
  refine x_iload_n (pc' := 16) 3 (dX3_fun 9 rfl rfl) rfl rfl rfl ?_
  obtain ⟨i4, hf⟩ := hf
  refine x_iast (pc' := 17) (dX3_fun 10 rfl rfl) rfl (s2.2 5 _ rfl rfl).2.1 (Or.inl ⟨35, by decide, rfl, by decide⟩) (by rw [(s2.2 5 _ rfl rfl).2.2.2 (by decide)]; exact i4) (fun h5 e6 => ?_)
  replace hf := hf h5 e6
  replace s2 : So 2 (gW G) h5 := by rw [e6]; exact s2.le sc2 (sI_le )
  refine x_aload_n (pc' := 18) 1 (dX3_fun 11 rfl rfl) rfl rfl rfl ?_
  refine x_dup (pc' := 19) (dX3_fun 12 rfl rfl) rfl rfl ?_
  refine x_getI (pc' := 22) (dX3_fun 13 rfl rfl) g37 q486 (Or.inl rfl) rfl (hf_of 2 s2.1 rfl (by decide) m2_37) ?_
  refine x_iconst (pc' := 23) (v := 1) (dX3_fun 14 rfl rfl) (by decide) rfl ?_
  refine x_iadd (pc' := 24) (dX3_fun 15 rfl rfl) rfl ?_
  refine x_putI (pc' := 27) (dX3_fun 16 rfl rfl) g37 q486 (Or.inl rfl) (Or.inl rfl) (Or.inl (by decide)) rfl (hf_of 2 s2.1 rfl (by decide) m2_37) (fun h7 e8 => ?_)
  replace hf := hf h7 e8
  replace s2 : So 2 (gW G) h7 := by rw [e8]; exact s2.le sc2 (pI_le (Or.inl rfl))
  refine x_iload_n (pc' := 28) 0 (dX3_fun 17 rfl rfl) rfl rfl rfl ?_
  exact x_iret (dX3_fun 18 rfl rfl) rfl hf
theorem bX3_built_3 (G : Gh) (d : Nat) (h : AH) (Q : Outcome → AH → Prop) (p1 : Int32) (p2 : Int32) (s2 : So 2 (gW G) h) (hf : C G mX3_node d [.ref (gW G 2), .int (p1)] h (KI Q (fun x3 h1 => vp_in (fI h1 (gW G 2) 37) 150000 ∧ ∀ h5, h5 = sI h1 (gW G 1035) (fI h1 (gW G 2) 37).toNatClampNeg p2 → (∀ h7, h7 = pI h5 (gW G 2) 37 ((fI h5 (gW G 2) 37) + 1) → (Q (.returned (some (.int x3))) h7))))) : C G mX3_built_3 (d + 1) [.ref (gW G 2), .int (p1), .int (p2)] h Q := by
  refine C.of_X (by decide +kernel) (Nat.le_of_ble_eq_true rfl) wX3_built_3 ?_
  show X G mX3_built_3 (d + 1) none [] 0 [(0, .ref (gW G 2)), (1, .int (p1)), (2, .int (p2))] [] h Q
  refine x_aload_n (pc' := 1) 0 (dX3_built_3 0 rfl rfl) rfl rfl rfl ?_
  refine x_iload_n (pc' := 2) 1 (dX3_built_3 1 rfl rfl) rfl rfl rfl ?_
  refine x_inv (pc' := 5) (ν := mX3_node) (av := [_, _]) (st := []) rfl rfl (dX3_built_3 2 rfl rfl) (Nat.le_of_ble_eq_true rfl) wX3_node q213 (inv_V (k := 2) (dX3_built_3 2 rfl rfl) q475 q477 qs1 wX3_node (by decide) lX3_node (by decide) s2.1) (exN (by decide)) rfl ?_
  refine C.mono hf (fun _ _ => KI.g (fun x3 h1 hf le2 => ?_))
  replace s2 := s2.le sc2 (le2)
  refine x_istore_n (pc' := 6) (dX3_built_3 3 rfl rfl) rfl (by decide) rfl rfl ?_
  refine x_aload_n (pc' := 7) 1 (dX3_built_3 4 rfl rfl) rfl rfl rfl ?_
  refine x_getR (pc' := 10) (dX3_built_3 5 rfl rfl) g35 q484 (Or.inl rfl) rfl (hf_of 2 s2.1 rfl (by decide) m2_35) (s2.2 5 _ rfl rfl).1 ?_
  refine x_aload_n (pc' := 11) 1 (dX3_built_3 6 rfl rfl) rfl rfl rfl ?_
  refine x_getI (pc' := 14) (dX3_built_3 7 rfl rfl) g37 q486 (Or.inl rfl) rfl (hf_of 2 s2.1 rfl (by decide) m2_37) ?_
  refine x_iload_n (pc' := 15) 3 (dX3_built_3 8 rfl rfl) rfl rfl rfl ?_
  obtain ⟨i4, hf⟩ := hf
  refine x_iast (pc' := 16) (dX3_built_3 9 rfl rfl) rfl (s2.2 5 _ rfl rfl).2.1 (Or.inl ⟨35, by decide, rfl, by decide⟩) (by rw [(s2.2 5 _ rfl rfl).2.2.2 (by decide)]; exact i4) (fun h5 e6 => ?_)
  replace hf := hf h5 e6
  replace s2 : So 2 (gW G) h5 := by rw [e6]; exact s2.le sc2 (sI_le )
  refine x_aload_n (pc' := 17) 1 (dX3_built_3 10 rfl rfl) rfl rfl rfl ?_
  refine x_dup (pc' := 18) (dX3_built_3 11 rfl rfl) rfl rfl ?_
  refine x_getI (pc' := 21) (dX3_built_3 12 rfl rfl) g37 q486 (Or.inl rfl) rfl (hf_of 2 s2.1 rfl (by decide) m2_37) ?_
  refine x_iconst (pc' := 22) (v := 1) (dX3_built_3 13 rfl rfl) (by decide) rfl ?_
  refine x_iadd (pc' := 23) (dX3_built_3 14 rfl rfl) rfl ?_
  refine x_putI (pc' := 26) (dX3_built_3 15 rfl rfl) g37 q486 (Or.inl rfl) (Or.inl rfl) (Or.inl (by decide)) rfl (hf_of 2 s2.1 rfl (by decide) m2_37) (fun h7 e8 => ?_)
  replace hf := hf h7 e8
  replace s2 : So 2 (gW G) h7 := by rw [e8]; exact s2.le sc2 (pI_le (Or.inl rfl))
  refine x_iload_n (pc' := 27) 0 (dX3_built_3 16 rfl rfl) rfl rfl rfl ?_
  exact x_iret (dX3_built_3 17 rfl rfl) rfl hf
theorem bX3_size (G : Gh) (d : Nat) (h : AH) (Q : Outcome → AH → Prop) (p1 : Int32) (p2 : Int32) (s2 : So 2 (gW G) h) (hf : C G mX3_found d [.ref (gW G 2), .int (p1)] h (KI Q (fun x3 h1 => C G mX3_howMany d [.ref (gW G 2), .int (x3)] h1 (KI Q (fun x6 h4 => X G mX3_size (d + 1) none [] 19 [(0, .ref (gW G 2)), (2, .int (p2)), (3, .int (x3)), (4, .int (1)), (5, .int (x6)), (6, .int (0))] [] h4 Q))))) : C G mX3_size (d + 1) [.ref (gW G 2), .int (p1), .int (p2)] h Q := by
  refine C.of_X (by decide +kernel) (Nat.le_of_ble_eq_true rfl) wX3_size ?_
  show X G mX3_size (d + 1) none [] 0 [(0, .ref (gW G 2)), (1, .int (p1)), (2, .int (p2))] [] h Q
  refine x_aload_n (pc' := 1) 0 (dX3_size 0 rfl rfl) rfl rfl rfl ?_
  refine x_iload_n (pc' := 2) 1 (dX3_size 1 rfl rfl) rfl rfl rfl ?_
  refine x_inv (pc' := 5) (ν := mX3_found) (av := [_, _]) (st := []) rfl rfl (dX3_size 2 rfl rfl) (Nat.le_of_ble_eq_true rfl) wX3_found q213 (inv_V (k := 2) (dX3_size 2 rfl rfl) q2388 q2389 q2390 wX3_found (by decide) lX3_found (by decide) s2.1) (exN (by decide)) rfl ?_
  refine C.mono hf (fun _ _ => KI.g (fun x3 h1 hf le2 => ?_))
  replace s2 := s2.le sc2 (le2)
  refine x_istore_n (pc' := 6) (dX3_size 3 rfl rfl) rfl (by decide) rfl rfl ?_
  refine x_iconst (pc' := 7) (v := 1) (dX3_size 4 rfl rfl) (by decide) rfl ?_
  refine x_istore (pc' := 9) (dX3_size 5 rfl rfl) (by decide) rfl rfl ?_
  refine x_aload_n (pc' := 10) 2 (dX3_size 6 rfl rfl) rfl rfl rfl ?_
  refine x_iload_n (pc' := 11) 1 (dX3_size 7 rfl rfl) rfl rfl rfl ?_
  refine x_inv (pc' := 14) (ν := mX3_howMany) (av := [_, _]) (st := []) rfl rfl (dX3_size 8 rfl rfl) (Nat.le_of_ble_eq_true rfl) wX3_howMany q213 (inv_V (k := 2) (dX3_size 8 rfl rfl) q2392 q2393 q2394 wX3_howMany (by decide) lX3_howMany (by decide) s2.1) (exN (by decide)) rfl ?_
  refine C.mono hf (fun _ _ => KI.g (fun x6 h4 hf le5 => ?_))
  replace s2 := s2.le sc2 (le5)
  refine x_istore (pc' := 16) (dX3_size 9 rfl rfl) (by decide) rfl rfl ?_
  refine x_iconst (pc' := 17) (v := 0) (dX3_size 10 rfl rfl) (by decide) rfl ?_
  refine x_istore (pc' := 19) (dX3_size 11 rfl rfl) (by decide) rfl rfl ?_
  exact X.sub [4, 6, 3, 2, 1, 0] rfl (by simp) hf
theorem bX3_size_19 (G : Gh) (d : Nat) (h : AH) (Q : Outcome → AH → Prop) (l2 : Int32) (l3 : Int32) (l4 : Int32) (l5 : Int32) (l6 : Int32) (s2 : So 2 (gW G) h) (hf : (l5 ≤ l6 → (Q (.returned (some (.int l4))) h)) ∧ (¬ (l5 ≤ l6) → ((l2 < l4 → (Q (.returned (some (.int l4))) h)) ∧ (¬ (l2 < l4) → (C G mX3_part d [.ref (gW G 2), .int (l3), .int (l6)] h (KI Q (fun x5 h3 => C G mX3_size d [.ref (gW G 2), .int (x5), .int (l2 - l4)] h3 (KI Q (fun x8 h6 => ∀ x9 : Int32, x9 = l4 + x8 → (∀ x10 : Int32, x10 = l6 + 1 → (X G mX3_size (d + 1) none [] 19 [(0, .ref (gW G 2)), (2, .int (l2)), (3, .int (l3)), (4, .int (x9)), (5, .int (l5)), (6, .int (x10))] [] h6 Q))))))))))) : X G mX3_size (d + 1) none [] 19 [(0, .ref (gW G 2)), (2, .int (l2)), (3, .int (l3)), (4, .int (l4)), (5, .int (l5)), (6, .int (l6))] [] h Q := by
  refine x_iload (pc' := 21) 5 (dX3_size 12 rfl rfl) rfl rfl ?_
  refine x_iload (pc' := 23) 4 (dX3_size 13 rfl rfl) rfl rfl ?_
  refine x_icmp_ge (pc' := 26) (tgt := 58) (dX3_size 14 rfl rfl) (by decide) rfl (fun c1 => ?_) (fun c1 => ?_)
  · replace hf := hf.1 c1
    refine x_iload (pc' := 60) 3 (dX3_size 32 rfl rfl) rfl rfl ?_
    exact x_iret (dX3_size 33 rfl rfl) rfl hf
  · replace hf := hf.2 c1
    refine x_iload (pc' := 28) 3 (dX3_size 15 rfl rfl) rfl rfl ?_
    refine x_iload_n (pc' := 29) 1 (dX3_size 16 rfl rfl) rfl rfl rfl ?_
    refine x_icmp_gt (pc' := 32) (tgt := 58) (dX3_size 17 rfl rfl) (by decide) rfl (fun c2 => ?_) (fun c2 => ?_)
    · replace hf := hf.1 c2
      refine x_iload (pc' := 60) 3 (dX3_size 32 rfl rfl) rfl rfl ?_
      exact x_iret (dX3_size 33 rfl rfl) rfl hf
    · replace hf := hf.2 c2
      refine x_iload (pc' := 34) 3 (dX3_size 18 rfl rfl) rfl rfl ?_
      refine x_aload_n (pc' := 35) 0 (dX3_size 19 rfl rfl) rfl rfl rfl ?_
      refine x_aload_n (pc' := 36) 0 (dX3_size 20 rfl rfl) rfl rfl rfl ?_
      refine x_iload_n (pc' := 37) 2 (dX3_size 21 rfl rfl) rfl rfl rfl ?_
      refine x_iload (pc' := 39) 5 (dX3_size 22 rfl rfl) rfl rfl ?_
      refine x_inv (pc' := 42) (ν := mX3_part) (av := [_, _, _]) (st := [_, _]) rfl rfl (dX3_size 23 rfl rfl) (Nat.le_of_ble_eq_true rfl) wX3_part q213 (inv_V (k := 2) (dX3_size 23 rfl rfl) q2396 q2397 q2398 wX3_part (by decide) lX3_part (by decide) s2.1) (exN (by decide)) rfl ?_
      refine C.mono hf (fun _ _ => KI.g (fun x5 h3 hf le4 => ?_))
      replace s2 := s2.le sc2 (le4)
      refine x_iload_n (pc' := 43) 1 (dX3_size 24 rfl rfl) rfl rfl rfl ?_
      refine x_iload (pc' := 45) 3 (dX3_size 25 rfl rfl) rfl rfl ?_
      refine x_isub (pc' := 46) (dX3_size 26 rfl rfl) rfl ?_
      refine x_inv (pc' := 49) (ν := mX3_size) (av := [_, _, _]) (st := [_]) rfl rfl (dX3_size 27 rfl rfl) (Nat.le_of_ble_eq_true rfl) wX3_size q213 (inv_V (k := 2) (dX3_size 27 rfl rfl) q2400 q2385 q2386 wX3_size (by decide) lX3_size (by decide) s2.1) (exN (by decide)) rfl ?_
      refine C.mono hf (fun _ _ => KI.g (fun x8 h6 hf le7 => ?_))
      replace s2 := s2.le sc2 (le7)
      refine x_iadd (pc' := 50) (dX3_size 28 rfl rfl) rfl ?_
      replace hf := hf _ rfl
      refine x_istore (pc' := 52) (dX3_size 29 rfl rfl) (by decide) rfl rfl ?_
      replace hf := hf _ rfl
      refine x_iinc (pc' := 55) 5 (dX3_size 30 rfl rfl) rfl (by rfl) (by decide) rfl rfl ?_
      refine x_goto (tgt := 19) (dX3_size 31 rfl rfl) (by decide) ?_
      exact X.sub [2, 3, 4, 1, 5, 0] rfl (by simp) hf
theorem bX3_found (G : Gh) (d : Nat) (h : AH) (Q : Outcome → AH → Prop) (p1 : Int32) (hf : X G mX3_found d none [] 2 [(0, .ref (gW G 2)), (2, .int (p1))] [] h Q) : C G mX3_found d [.ref (gW G 2), .int (p1)] h Q := by
  refine C.of_X (by decide +kernel) (Nat.le_of_ble_eq_true rfl) wX3_found ?_
  show X G mX3_found d none [] 0 [(0, .ref (gW G 2)), (1, .int (p1))] [] h Q
  refine x_iload_n (pc' := 1) 1 (dX3_found 0 rfl rfl) rfl rfl rfl ?_
  refine x_istore_n (pc' := 2) (dX3_found 1 rfl rfl) rfl (by decide) rfl rfl ?_
  exact X.sub [1, 0] rfl (by simp) hf
theorem bX3_found_2 (G : Gh) (d : Nat) (h : AH) (Q : Outcome → AH → Prop) (l2 : Int32) (s2 : So 2 (gW G) h) (hf : vp_in l2 150000 ∧ (((aI h (gW G 1032) l2.toNatClampNeg) < 0 → (Q (.returned (some (.int l2))) h)) ∧ (¬ ((aI h (gW G 1032) l2.toNatClampNeg) < 0) → (vp_in l2 150000 ∧ (∀ x4 : Int32, x4 = aI h (gW G 1032) l2.toNatClampNeg → (X G mX3_found d none [] 2 [(0, .ref (gW G 2)), (2, .int (x4))] [] h Q)))))) : X G mX3_found d none [] 2 [(0, .ref (gW G 2)), (2, .int (l2))] [] h Q := by
  refine x_aload_n (pc' := 3) 0 (dX3_found 2 rfl rfl) rfl rfl rfl ?_
  refine x_getR (pc' := 6) (dX3_found 3 rfl rfl) g32 q481 (Or.inl rfl) rfl (hf_of 2 s2.1 rfl (by decide) m2_32) (s2.2 2 _ rfl rfl).1 ?_
  refine x_iload_n (pc' := 7) 1 (dX3_found 4 rfl rfl) rfl rfl rfl ?_
  obtain ⟨i1, hf⟩ := hf
  refine x_iald (pc' := 8) (dX3_found 5 rfl rfl) rfl (s2.2 2 _ rfl rfl).2.1 (by rw [(s2.2 2 _ rfl rfl).2.2.2 (by decide)]; exact i1) ?_
  refine x_if_lt (pc' := 11) (tgt := 21) (dX3_found 6 rfl rfl) (by decide) rfl (fun c2 => ?_) (fun c2 => ?_)
  · replace hf := hf.1 c2
    refine x_iload_n (pc' := 22) 1 (dX3_found 13 rfl rfl) rfl rfl rfl ?_
    exact x_iret (dX3_found 14 rfl rfl) rfl hf
  · replace hf := hf.2 c2
    refine x_aload_n (pc' := 12) 0 (dX3_found 7 rfl rfl) rfl rfl rfl ?_
    refine x_getR (pc' := 15) (dX3_found 8 rfl rfl) g32 q481 (Or.inl rfl) rfl (hf_of 2 s2.1 rfl (by decide) m2_32) (s2.2 2 _ rfl rfl).1 ?_
    refine x_iload_n (pc' := 16) 1 (dX3_found 9 rfl rfl) rfl rfl rfl ?_
    obtain ⟨i3, hf⟩ := hf
    refine x_iald (pc' := 17) (dX3_found 10 rfl rfl) rfl (s2.2 2 _ rfl rfl).2.1 (by rw [(s2.2 2 _ rfl rfl).2.2.2 (by decide)]; exact i3) ?_
    replace hf := hf _ rfl
    refine x_istore_n (pc' := 18) (dX3_found 11 rfl rfl) rfl (by decide) rfl rfl ?_
    refine x_goto (tgt := 2) (dX3_found 12 rfl rfl) (by decide) ?_
    exact X.sub [1, 0] rfl (by simp) hf
theorem bX3_howMany (G : Gh) (d : Nat) (h : AH) (Q : Outcome → AH → Prop) (p1 : Int32) (s2 : So 2 (gW G) h) (hf : vp_in p1 150000 ∧ ((0 ≤ (aI h (gW G 1030) p1.toNatClampNeg) → (vp_in p1 150000 ∧ (vp_in (aI h (gW G 1030) p1.toNatClampNeg) 212 ∧ ∃ b5, aR h (gW G 1040) (aI h (gW G 1030) p1.toNatClampNeg).toNatClampNeg = some b5 ∧ (hK h b5 = 4 ∧ (Q (.returned (some (.int (fI h b5 51)))) h))))) ∧ (¬ (0 ≤ (aI h (gW G 1030) p1.toNatClampNeg)) → (Q (.returned (some (.int 0))) h)))) : C G mX3_howMany d [.ref (gW G 2), .int (p1)] h Q := by
  refine C.of_X (by decide +kernel) (Nat.le_of_ble_eq_true rfl) wX3_howMany ?_
  show X G mX3_howMany d none [] 0 [(0, .ref (gW G 2)), (1, .int (p1))] [] h Q
  refine x_aload_n (pc' := 1) 0 (dX3_howMany 0 rfl rfl) rfl rfl rfl ?_
  refine x_getR (pc' := 4) (dX3_howMany 1 rfl rfl) g30 q479 (Or.inl rfl) rfl (hf_of 2 s2.1 rfl (by decide) m2_30) (s2.2 0 _ rfl rfl).1 ?_
  refine x_iload_n (pc' := 5) 1 (dX3_howMany 2 rfl rfl) rfl rfl rfl ?_
  obtain ⟨i1, hf⟩ := hf
  refine x_iald (pc' := 6) (dX3_howMany 3 rfl rfl) rfl (s2.2 0 _ rfl rfl).2.1 (by rw [(s2.2 0 _ rfl rfl).2.2.2 (by decide)]; exact i1) ?_
  refine x_if_ge (pc' := 9) (tgt := 13) (dX3_howMany 4 rfl rfl) (by decide) rfl (fun c2 => ?_) (fun c2 => ?_)
  · replace hf := hf.1 c2
    refine x_aload_n (pc' := 14) 0 (dX3_howMany 7 rfl rfl) rfl rfl rfl ?_
    refine x_getR (pc' := 17) (dX3_howMany 8 rfl rfl) g40 q489 (Or.inl rfl) rfl (hf_of 2 s2.1 rfl (by decide) m2_40) (s2.2 7 _ rfl rfl).1 ?_
    refine x_aload_n (pc' := 18) 0 (dX3_howMany 9 rfl rfl) rfl rfl rfl ?_
    refine x_getR (pc' := 21) (dX3_howMany 10 rfl rfl) g30 q479 (Or.inl rfl) rfl (hf_of 2 s2.1 rfl (by decide) m2_30) (s2.2 0 _ rfl rfl).1 ?_
    refine x_iload_n (pc' := 22) 1 (dX3_howMany 11 rfl rfl) rfl rfl rfl ?_
    obtain ⟨i3, hf⟩ := hf
    refine x_iald (pc' := 23) (dX3_howMany 12 rfl rfl) rfl (s2.2 0 _ rfl rfl).2.1 (by rw [(s2.2 0 _ rfl rfl).2.2.2 (by decide)]; exact i3) ?_
    obtain ⟨i4, hf⟩ := hf
    obtain ⟨b5, e6, hf⟩ := hf
    refine x_aald (pc' := 24) (t := 6) (C := "LetMill$TypeName") (dX3_howMany 13 rfl rfl) rfl (by decide) rfl (s2.2 7 _ rfl rfl).2.1 (by rw [(s2.2 7 _ rfl rfl).2.2.2 (by decide)]; exact i4) e6 ?_
    obtain ⟨k7, hf⟩ := hf
    refine x_getI (pc' := 27) (dX3_howMany 14 rfl rfl) g51 q446 (Or.inl rfl) rfl (hf_of 3 k7 rfl (by decide) m3_51) ?_
    exact x_iret (dX3_howMany 15 rfl rfl) rfl hf
  · replace hf := hf.2 c2
    refine x_iconst (pc' := 10) (v := 0) (dX3_howMany 5 rfl rfl) (by decide) rfl ?_
    refine x_goto (tgt := 27) (dX3_howMany 6 rfl rfl) (by decide) ?_
    exact x_iret (dX3_howMany 15 rfl rfl) rfl hf
theorem bX3_part (G : Gh) (d : Nat) (h : AH) (Q : Outcome → AH → Prop) (p1 : Int32) (p2 : Int32) (s2 : So 2 (gW G) h) (hf : vp_in p1 150000 ∧ (vp_in ((aI h (gW G 1031) p1.toNatClampNeg) + p2) 150000 ∧ (C G mX3_found d [.ref (gW G 2), .int (aI h (gW G 1035) ((aI h (gW G 1031) p1.toNatClampNeg) + p2).toNatClampNeg)] h (KI Q (fun x5 h3 => Q (.returned (some (.int x5))) h3))))) : C G mX3_part (d + 1) [.ref (gW G 2), .int (p1), .int (p2)] h Q := by
  refine C.of_X (by decide +kernel) (Nat.le_of_ble_eq_true rfl) wX3_part ?_
  show X G mX3_part (d + 1) none [] 0 [(0, .ref (gW G 2)), (1, .int (p1)), (2, .int (p2))] [] h Q
  refine x_aload_n (pc' := 1) 0 (dX3_part 0 rfl rfl) rfl rfl rfl ?_
  refine x_aload_n (pc' := 2) 0 (dX3_part 1 rfl rfl) rfl rfl rfl ?_
  refine x_getR (pc' := 5) (dX3_part 2 rfl rfl) g35 q484 (Or.inl rfl) rfl (hf_of 2 s2.1 rfl (by decide) m2_35) (s2.2 5 _ rfl rfl).1 ?_
  refine x_aload_n (pc' := 6) 0 (dX3_part 3 rfl rfl) rfl rfl rfl ?_
  refine x_getR (pc' := 9) (dX3_part 4 rfl rfl) g31 q480 (Or.inl rfl) rfl (hf_of 2 s2.1 rfl (by decide) m2_31) (s2.2 1 _ rfl rfl).1 ?_
  refine x_iload_n (pc' := 10) 1 (dX3_part 5 rfl rfl) rfl rfl rfl ?_
  obtain ⟨i1, hf⟩ := hf
  refine x_iald (pc' := 11) (dX3_part 6 rfl rfl) rfl (s2.2 1 _ rfl rfl).2.1 (by rw [(s2.2 1 _ rfl rfl).2.2.2 (by decide)]; exact i1) ?_
  refine x_iload_n (pc' := 12) 2 (dX3_part 7 rfl rfl) rfl rfl rfl ?_
  refine x_iadd (pc' := 13) (dX3_part 8 rfl rfl) rfl ?_
  obtain ⟨i2, hf⟩ := hf
  refine x_iald (pc' := 14) (dX3_part 9 rfl rfl) rfl (s2.2 5 _ rfl rfl).2.1 (by rw [(s2.2 5 _ rfl rfl).2.2.2 (by decide)]; exact i2) ?_
  refine x_inv (pc' := 17) (ν := mX3_found) (av := [_, _]) (st := []) rfl rfl (dX3_part 10 rfl rfl) (Nat.le_of_ble_eq_true rfl) wX3_found q213 (inv_V (k := 2) (dX3_part 10 rfl rfl) q2388 q2389 q2390 wX3_found (by decide) lX3_found (by decide) s2.1) (exN (by decide)) rfl ?_
  refine C.mono hf (fun _ _ => KI.g (fun x5 h3 hf le4 => ?_))
  replace s2 := s2.le sc2 (le4)
  exact x_iret (dX3_part 11 rfl rfl) rfl hf
theorem bX3_write (G : Gh) (d : Nat) (h : AH) (Q : Outcome → AH → Prop) (p1 : Int32) (s2 : So 2 (gW G) h) (hf : C G mX3_size d [.ref (gW G 2), .int (p1), .int (200)] h (KI Q (fun x3 h1 => (¬ (x3 : Int32) < 0) ∧ (hc h1 + 1 ≤ MC) ∧ (hs h1 + (x3 : Int32).toNatClampNeg ≤ MS) ∧ ∀ q4, hK h1 q4 = 0 → ∀ h6, h6 = nA h1 q4 0 (x3 : Int32).toNatClampNeg → (C G mX3_mark d [.ref (gW G 2)] h6 (KI Q (fun x12 h10 => ∀ h13, h13 = pI h10 (gW G 2) 47 x12 → (∀ h14, h14 = pI h13 (gW G 2) 45 0 → (∀ h15, h15 = pI h14 (gW G 2) 48 0 → (C G mX3_put d [.ref (gW G 2), .int (p1), .ref (q4)] h15 (KV Q (fun h16 => Q (.returned (some (.ref (q4)))) h16))))))))))) : C G mX3_write (d + 1) [.ref (gW G 2), .int (p1)] h Q := by
  refine C.of_X (by decide +kernel) (Nat.le_of_ble_eq_true rfl) wX3_write ?_
  show X G mX3_write (d + 1) none [] 0 [(0, .ref (gW G 2)), (1, .int (p1))] [] h Q
  refine x_aload_n (pc' := 1) 0 (dX3_write 0 rfl rfl) rfl rfl rfl ?_
  refine x_iload_n (pc' := 2) 1 (dX3_write 1 rfl rfl) rfl rfl rfl ?_
  refine x_sipush (pc' := 5) (v := 200) (dX3_write 2 rfl rfl) (by decide) rfl ?_
  refine x_inv (pc' := 8) (ν := mX3_size) (av := [_, _, _]) (st := []) rfl rfl (dX3_write 3 rfl rfl) (Nat.le_of_ble_eq_true rfl) wX3_size q213 (inv_V (k := 2) (dX3_write 3 rfl rfl) q2400 q2385 q2386 wX3_size (by decide) lX3_size (by decide) s2.1) (exN (by decide)) rfl ?_
  refine C.mono hf (fun _ _ => KI.g (fun x3 h1 hf le2 => ?_))
  replace s2 := s2.le sc2 (le2)
  obtain ⟨z8, n1, n2, hf⟩ := hf
  refine x_newa0 (pc' := 10) (dX3_write 4 rfl rfl) rfl z8 (by decide) n1 n2 (fun q4 h6 k5 e7 => ?_)
  replace hf := hf q4 k5 h6 e7
  replace s2 : So 2 (gW G) h6 := by rw [e7]; exact s2.le sc2 (nA_le k5)
  have k9 : hK h6 q4 = 1000 := by rw [e7]; exact kNAs
  refine x_astore_n (pc' := 11) (dX3_write 5 rfl rfl) rfl (by decide) rfl rfl ?_
  refine x_aload_n (pc' := 12) 1 (dX3_write 6 rfl rfl) rfl rfl rfl ?_
  refine x_aload_n (pc' := 13) 1 (dX3_write 7 rfl rfl) rfl rfl rfl ?_
  refine x_inv (pc' := 16) (ν := mX3_mark) (av := [_]) (st := [_]) rfl rfl (dX3_write 8 rfl rfl) (Nat.le_of_ble_eq_true rfl) wX3_mark q213 (inv_V (k := 2) (dX3_write 8 rfl rfl) q2405 q2406 q2407 wX3_mark (by decide) lX3_mark (by decide) s2.1) (exN (by decide)) rfl ?_
  refine C.mono hf (fun _ _ => KI.g (fun x12 h10 hf le11 => ?_))
  have k9 := leK le11 k9 (by decide)
  replace s2 := s2.le sc2 (le11)
  refine x_putI (pc' := 19) (dX3_write 9 rfl rfl) g47 q509 (Or.inl rfl) (Or.inl rfl) (Or.inl (by decide)) rfl (hf_of 2 s2.1 rfl (by decide) m2_47) (fun h13 e20 => ?_)
  replace hf := hf h13 e20
  replace k9 : hK h13 q4 = 1000 := by rw [e20]; exact k9
  replace s2 : So 2 (gW G) h13 := by rw [e20]; exact s2.le sc2 (pI_le (Or.inl rfl))
  refine x_aload_n (pc' := 20) 1 (dX3_write 10 rfl rfl) rfl rfl rfl ?_
  refine x_iconst (pc' := 21) (v := 0) (dX3_write 11 rfl rfl) (by decide) rfl ?_
  refine x_putI (pc' := 24) (dX3_write 12 rfl rfl) g45 q507 (Or.inl rfl) (Or.inl rfl) (Or.inl (by decide)) rfl (hf_of 2 s2.1 rfl (by decide) m2_45) (fun h14 e19 => ?_)
  replace hf := hf h14 e19
  replace k9 : hK h14 q4 = 1000 := by rw [e19]; exact k9
  replace s2 : So 2 (gW G) h14 := by rw [e19]; exact s2.le sc2 (pI_le (Or.inl rfl))
  refine x_aload_n (pc' := 25) 1 (dX3_write 13 rfl rfl) rfl rfl rfl ?_
  refine x_iconst (pc' := 26) (v := 0) (dX3_write 14 rfl rfl) (by decide) rfl ?_
  refine x_putI (pc' := 29) (dX3_write 15 rfl rfl) g48 q510 (Or.inl rfl) (Or.inl rfl) (Or.inl (by decide)) rfl (hf_of 2 s2.1 rfl (by decide) m2_48) (fun h15 e18 => ?_)
  replace hf := hf h15 e18
  replace k9 : hK h15 q4 = 1000 := by rw [e18]; exact k9
  replace s2 : So 2 (gW G) h15 := by rw [e18]; exact s2.le sc2 (pI_le (Or.inl rfl))
  refine x_aload_n (pc' := 30) 1 (dX3_write 16 rfl rfl) rfl rfl rfl ?_
  refine x_iload_n (pc' := 31) 2 (dX3_write 17 rfl rfl) rfl rfl rfl ?_
  refine x_aload_n (pc' := 32) 0 (dX3_write 18 rfl rfl) rfl rfl rfl ?_
  refine x_inv (pc' := 35) (ν := mX3_put) (av := [_, _, _]) (st := []) rfl rfl (dX3_write 19 rfl rfl) (Nat.le_of_ble_eq_true rfl) wX3_put q213 (inv_V (k := 2) (dX3_write 19 rfl rfl) q2409 q2411 qs39 wX3_put (by decide) lX3_put (by decide) s2.1) (exN (by decide)) rfl ?_
  refine C.mono hf (fun _ _ => KV.g (fun h16 hf le17 => ?_))
  have k9 := leK le17 k9 (by decide)
  replace s2 := s2.le sc2 (le17)
  refine x_aload_n (pc' := 36) 0 (dX3_write 20 rfl rfl) rfl rfl rfl ?_
  exact x_aret (dX3_write 21 rfl rfl) rfl (Or.inr ⟨_, rfl⟩) (Or.inr ⟨_, rfl⟩) hf
theorem bX3_mark (G : Gh) (d : Nat) (h : AH) (Q : Outcome → AH → Prop)  (s2 : So 2 (gW G) h) (hf : ∀ h1, h1 = pI h (gW G 2) 38 ((fI h (gW G 2) 38) + 1) → (Q (.returned (some (.int (fI h1 (gW G 2) 38)))) h1)) : C G mX3_mark d [.ref (gW G 2)] h Q := by
  refine C.of_X (by decide +kernel) (Nat.le_of_ble_eq_true rfl) wX3_mark ?_
  show X G mX3_mark d none [] 0 [(0, .ref (gW G 2))] [] h Q
  refine x_aload_n (pc' := 1) 0 (dX3_mark 0 rfl rfl) rfl rfl rfl ?_
  refine x_dup (pc' := 2) (dX3_mark 1 rfl rfl) rfl rfl ?_
  refine x_getI (pc' := 5) (dX3_mark 2 rfl rfl) g38 q487 (Or.inl rfl) rfl (hf_of 2 s2.1 rfl (by decide) m2_38) ?_
  refine x_iconst (pc' := 6) (v := 1) (dX3_mark 3 rfl rfl) (by decide) rfl ?_
  refine x_iadd (pc' := 7) (dX3_mark 4 rfl rfl) rfl ?_
  refine x_putI (pc' := 10) (dX3_mark 5 rfl rfl) g38 q487 (Or.inl rfl) (Or.inl rfl) (Or.inl (by decide)) rfl (hf_of 2 s2.1 rfl (by decide) m2_38) (fun h1 e2 => ?_)
  replace hf := hf h1 e2
  replace s2 : So 2 (gW G) h1 := by rw [e2]; exact s2.le sc2 (pI_le (Or.inl rfl))
  refine x_aload_n (pc' := 11) 0 (dX3_mark 6 rfl rfl) rfl rfl rfl ?_
  refine x_getI (pc' := 14) (dX3_mark 7 rfl rfl) g38 q487 (Or.inl rfl) rfl (hf_of 2 s2.1 rfl (by decide) m2_38) ?_
  exact x_iret (dX3_mark 8 rfl rfl) rfl hf
theorem bX3_put (G : Gh) (d : Nat) (h : AH) (Q : Outcome → AH → Prop) (p1 : Int32) (p2 : Nat) (s2 : So 2 (gW G) h) (hf : C G mX3_found d [.ref (gW G 2), .int (p1)] h (KI Q (fun x3 h1 => vp_in x3 150000 ∧ ((0 ≤ (aI h1 (gW G 1030) x3.toNatClampNeg) → (vp_in x3 150000 ∧ (hK h1 p2 = 1000 ∧ Ns (gW G) p2 ∧ vp_in (fI h1 (gW G 2) 45) (hL h1 p2) ∧ ∀ h9, h9 = sI h1 p2 (fI h1 (gW G 2) 45).toNatClampNeg (aI h1 (gW G 1030) x3.toNatClampNeg) → (∀ h12, h12 = pI h9 (gW G 2) 45 ((fI h9 (gW G 2) 45) + 1) → (C G mX3_howMany d [.ref (gW G 2), .int (x3)] h12 (KI Q (fun x15 h13 => X G mX3_put (d + 1) none [] 115 [(0, .ref (gW G 2)), (2, .ref (p2)), (3, .int (x3)), (4, .int (x15)), (5, .int (0))] [] h13 Q))))))) ∧ (¬ (0 ≤ (aI h1 (gW G 1030) x3.toNatClampNeg)) → (vp_in x3 150000 ∧ (((aI h1 (gW G 1033) x3.toNatClampNeg) = (fI h1 (gW G 2) 47) → (vp_in x3 150000 ∧ (hK h1 p2 = 1000 ∧ Ns (gW G) p2 ∧ vp_in (fI h1 (gW G 2) 45) (hL h1 p2) ∧ ∀ h22, h22 = sI h1 p2 (fI h1 (gW G 2) 45).toNatClampNeg (((-1)) - (aI h1 (gW G 1034) x3.toNatClampNeg)) → (∀ h25, h25 = pI h22 (gW G 2) 45 ((fI h22 (gW G 2) 45) + 1) → (Q (.returned none) h25))))) ∧ (¬ ((aI h1 (gW G 1033) x3.toNatClampNeg) = (fI h1 (gW G 2) 47)) → (vp_in x3 150000 ∧ ∀ h28, h28 = sI h1 (gW G 1033) x3.toNatClampNeg (fI h1 (gW G 2) 47) → (vp_in x3 150000 ∧ ∀ h31, h31 = sI h28 (gW G 1034) x3.toNatClampNeg (fI h28 (gW G 2) 48) → (∀ h33, h33 = pI h31 (gW G 2) 48 ((fI h31 (gW G 2) 48) + 1) → (vp_in x3 150000 ∧ (hK h33 p2 = 1000 ∧ Ns (gW G) p2 ∧ vp_in (fI h33 (gW G 2) 45) (hL h33 p2) ∧ ∀ h37, h37 = sI h33 p2 (fI h33 (gW G 2) 45).toNatClampNeg (((-1)) - (aI h33 (gW G 1034) x3.toNatClampNeg)) → (∀ h40, h40 = pI h37 (gW G 2) 45 ((fI h37 (gW G 2) 45) + 1) → (Q (.returned none) h40))))))))))))))) : C G mX3_put (d + 1) [.ref (gW G 2), .int (p1), .ref (p2)] h Q := by
  refine C.of_X (by decide +kernel) (Nat.le_of_ble_eq_true rfl) wX3_put ?_
  show X G mX3_put (d + 1) none [] 0 [(0, .ref (gW G 2)), (1, .int (p1)), (2, .ref (p2))] [] h Q
  refine x_aload_n (pc' := 1) 0 (dX3_put 0 rfl rfl) rfl rfl rfl ?_
  refine x_iload_n (pc' := 2) 1 (dX3_put 1 rfl rfl) rfl rfl rfl ?_
  refine x_inv (pc' := 5) (ν := mX3_found) (av := [_, _]) (st := []) rfl rfl (dX3_put 2 rfl rfl) (Nat.le_of_ble_eq_true rfl) wX3_found q213 (inv_V (k := 2) (dX3_put 2 rfl rfl) q2388 q2389 q2390 wX3_found (by decide) lX3_found (by decide) s2.1) (exN (by decide)) rfl ?_
  refine C.mono hf (fun _ _ => KI.g (fun x3 h1 hf le2 => ?_))
  replace s2 := s2.le sc2 (le2)
  refine x_istore_n (pc' := 6) (dX3_put 3 rfl rfl) rfl (by decide) rfl rfl ?_
  refine x_aload_n (pc' := 7) 1 (dX3_put 4 rfl rfl) rfl rfl rfl ?_
  refine x_getR (pc' := 10) (dX3_put 5 rfl rfl) g30 q479 (Or.inl rfl) rfl (hf_of 2 s2.1 rfl (by decide) m2_30) (s2.2 0 _ rfl rfl).1 ?_
  refine x_iload_n (pc' := 11) 0 (dX3_put 6 rfl rfl) rfl rfl rfl ?_
  obtain ⟨i4, hf⟩ := hf
  refine x_iald (pc' := 12) (dX3_put 7 rfl rfl) rfl (s2.2 0 _ rfl rfl).2.1 (by rw [(s2.2 0 _ rfl rfl).2.2.2 (by decide)]; exact i4) ?_
  refine x_if_ge (pc' := 15) (tgt := 83) (dX3_put 8 rfl rfl) (by decide) rfl (fun c5 => ?_) (fun c5 => ?_)
  · replace hf := hf.1 c5
    refine x_aload_n (pc' := 84) 3 (dX3_put 51 rfl rfl) rfl rfl rfl ?_
    refine x_aload_n (pc' := 85) 1 (dX3_put 52 rfl rfl) rfl rfl rfl ?_
    refine x_getI (pc' := 88) (dX3_put 53 rfl rfl) g45 q507 (Or.inl rfl) rfl (hf_of 2 s2.1 rfl (by decide) m2_45) ?_
    refine x_aload_n (pc' := 89) 1 (dX3_put 54 rfl rfl) rfl rfl rfl ?_
    refine x_getR (pc' := 92) (dX3_put 55 rfl rfl) g30 q479 (Or.inl rfl) rfl (hf_of 2 s2.1 rfl (by decide) m2_30) (s2.2 0 _ rfl rfl).1 ?_
    refine x_iload_n (pc' := 93) 0 (dX3_put 56 rfl rfl) rfl rfl rfl ?_
    obtain ⟨i6, hf⟩ := hf
    refine x_iald (pc' := 94) (dX3_put 57 rfl rfl) rfl (s2.2 0 _ rfl rfl).2.1 (by rw [(s2.2 0 _ rfl rfl).2.2.2 (by decide)]; exact i6) ?_
    obtain ⟨k7, hf⟩ := hf
    obtain ⟨n11, hf⟩ := hf
    obtain ⟨i8, hf⟩ := hf
    refine x_iast (pc' := 95) (dX3_put 58 rfl rfl) rfl k7 (Or.inr ⟨n11, by decide⟩) i8 (fun h9 e10 => ?_)
    replace hf := hf h9 e10
    replace k7 : hK h9 p2 = 1000 := by rw [e10]; exact k7
    replace s2 : So 2 (gW G) h9 := by rw [e10]; exact s2.le sc2 (sI_le )
    refine x_aload_n (pc' := 96) 1 (dX3_put 59 rfl rfl) rfl rfl rfl ?_
    refine x_dup (pc' := 97) (dX3_put 60 rfl rfl) rfl rfl ?_
    refine x_getI (pc' := 100) (dX3_put 61 rfl rfl) g45 q507 (Or.inl rfl) rfl (hf_of 2 s2.1 rfl (by decide) m2_45) ?_
    refine x_iconst (pc' := 101) (v := 1) (dX3_put 62 rfl rfl) (by decide) rfl ?_
    refine x_iadd (pc' := 102) (dX3_put 63 rfl rfl) rfl ?_
    refine x_putI (pc' := 105) (dX3_put 64 rfl rfl) g45 q507 (Or.inl rfl) (Or.inl rfl) (Or.inl (by decide)) rfl (hf_of 2 s2.1 rfl (by decide) m2_45) (fun h12 e16 => ?_)
    replace hf := hf h12 e16
    replace k7 : hK h12 p2 = 1000 := by rw [e16]; exact k7
    replace s2 : So 2 (gW G) h12 := by rw [e16]; exact s2.le sc2 (pI_le (Or.inl rfl))
    refine x_aload_n (pc' := 106) 1 (dX3_put 65 rfl rfl) rfl rfl rfl ?_
    refine x_iload_n (pc' := 107) 0 (dX3_put 66 rfl rfl) rfl rfl rfl ?_
    refine x_inv (pc' := 110) (ν := mX3_howMany) (av := [_, _]) (st := []) rfl rfl (dX3_put 67 rfl rfl) (Nat.le_of_ble_eq_true rfl) wX3_howMany q213 (inv_V (k := 2) (dX3_put 67 rfl rfl) q2392 q2393 q2394 wX3_howMany (by decide) lX3_howMany (by decide) s2.1) (exN (by decide)) rfl ?_
    refine C.mono hf (fun _ _ => KI.g (fun x15 h13 hf le14 => ?_))
    have k7 := leK le14 k7 (by decide)
    replace s2 := s2.le sc2 (le14)
    refine x_istore (pc' := 112) (dX3_put 68 rfl rfl) (by decide) rfl rfl ?_
    refine x_iconst (pc' := 113) (v := 0) (dX3_put 69 rfl rfl) (by decide) rfl ?_
    refine x_istore (pc' := 115) (dX3_put 70 rfl rfl) (by decide) rfl rfl ?_
    exact X.sub [3, 5, 2, 1, 0] rfl (by simp) hf
  · replace hf := hf.2 c5
    refine x_aload_n (pc' := 16) 1 (dX3_put 9 rfl rfl) rfl rfl rfl ?_
    refine x_getR (pc' := 19) (dX3_put 10 rfl rfl) g33 q482 (Or.inl rfl) rfl (hf_of 2 s2.1 rfl (by decide) m2_33) (s2.2 3 _ rfl rfl).1 ?_
    refine x_iload_n (pc' := 20) 0 (dX3_put 11 rfl rfl) rfl rfl rfl ?_
    obtain ⟨i17, hf⟩ := hf
    refine x_iald (pc' := 21) (dX3_put 12 rfl rfl) rfl (s2.2 3 _ rfl rfl).2.1 (by rw [(s2.2 3 _ rfl rfl).2.2.2 (by decide)]; exact i17) ?_
    refine x_aload_n (pc' := 22) 1 (dX3_put 13 rfl rfl) rfl rfl rfl ?_
    refine x_getI (pc' := 25) (dX3_put 14 rfl rfl) g47 q509 (Or.inl rfl) rfl (hf_of 2 s2.1 rfl (by decide) m2_47) ?_
    refine x_icmp_eq (pc' := 28) (tgt := 58) (dX3_put 15 rfl rfl) (by decide) rfl (fun c18 => ?_) (fun c18 => ?_)
    · replace hf := hf.1 c18
      refine x_aload_n (pc' := 59) 3 (dX3_put 34 rfl rfl) rfl rfl rfl ?_
      refine x_aload_n (pc' := 60) 1 (dX3_put 35 rfl rfl) rfl rfl rfl ?_
      refine x_getI (pc' := 63) (dX3_put 36 rfl rfl) g45 q507 (Or.inl rfl) rfl (hf_of 2 s2.1 rfl (by decide) m2_45) ?_
      refine x_iconst (pc' := 64) (v := -1) (dX3_put 37 rfl rfl) (by decide) rfl ?_
      refine x_aload_n (pc' := 65) 1 (dX3_put 38 rfl rfl) rfl rfl rfl ?_
      refine x_getR (pc' := 68) (dX3_put 39 rfl rfl) g34 q483 (Or.inl rfl) rfl (hf_of 2 s2.1 rfl (by decide) m2_34) (s2.2 4 _ rfl rfl).1 ?_
      refine x_iload_n (pc' := 69) 0 (dX3_put 40 rfl rfl) rfl rfl rfl ?_
      obtain ⟨i19, hf⟩ := hf
      refine x_iald (pc' := 70) (dX3_put 41 rfl rfl) rfl (s2.2 4 _ rfl rfl).2.1 (by rw [(s2.2 4 _ rfl rfl).2.2.2 (by decide)]; exact i19) ?_
      refine x_isub (pc' := 71) (dX3_put 42 rfl rfl) rfl ?_
      obtain ⟨k20, hf⟩ := hf
      obtain ⟨n24, hf⟩ := hf
      obtain ⟨i21, hf⟩ := hf
      refine x_iast (pc' := 72) (dX3_put 43 rfl rfl) rfl k20 (Or.inr ⟨n24, by decide⟩) i21 (fun h22 e23 => ?_)
      replace hf := hf h22 e23
      replace k20 : hK h22 p2 = 1000 := by rw [e23]; exact k20
      replace s2 : So 2 (gW G) h22 := by rw [e23]; exact s2.le sc2 (sI_le )
      refine x_aload_n (pc' := 73) 1 (dX3_put 44 rfl rfl) rfl rfl rfl ?_
      refine x_dup (pc' := 74) (dX3_put 45 rfl rfl) rfl rfl ?_
      refine x_getI (pc' := 77) (dX3_put 46 rfl rfl) g45 q507 (Or.inl rfl) rfl (hf_of 2 s2.1 rfl (by decide) m2_45) ?_
      refine x_iconst (pc' := 78) (v := 1) (dX3_put 47 rfl rfl) (by decide) rfl ?_
      refine x_iadd (pc' := 79) (dX3_put 48 rfl rfl) rfl ?_
      refine x_putI (pc' := 82) (dX3_put 49 rfl rfl) g45 q507 (Or.inl rfl) (Or.inl rfl) (Or.inl (by decide)) rfl (hf_of 2 s2.1 rfl (by decide) m2_45) (fun h25 e26 => ?_)
      replace hf := hf h25 e26
      replace k20 : hK h25 p2 = 1000 := by rw [e26]; exact k20
      replace s2 : So 2 (gW G) h25 := by rw [e26]; exact s2.le sc2 (pI_le (Or.inl rfl))
      exact x_vret (dX3_put 50 rfl rfl) rfl hf
    · replace hf := hf.2 c18
      refine x_aload_n (pc' := 29) 1 (dX3_put 16 rfl rfl) rfl rfl rfl ?_
      refine x_getR (pc' := 32) (dX3_put 17 rfl rfl) g33 q482 (Or.inl rfl) rfl (hf_of 2 s2.1 rfl (by decide) m2_33) (s2.2 3 _ rfl rfl).1 ?_
      refine x_iload_n (pc' := 33) 0 (dX3_put 18 rfl rfl) rfl rfl rfl ?_
      refine x_aload_n (pc' := 34) 1 (dX3_put 19 rfl rfl) rfl rfl rfl ?_
      refine x_getI (pc' := 37) (dX3_put 20 rfl rfl) g47 q509 (Or.inl rfl) rfl (hf_of 2 s2.1 rfl (by decide) m2_47) ?_
      obtain ⟨i27, hf⟩ := hf
      refine x_iast (pc' := 38) (dX3_put 21 rfl rfl) rfl (s2.2 3 _ rfl rfl).2.1 (Or.inl ⟨33, by decide, rfl, by decide⟩) (by rw [(s2.2 3 _ rfl rfl).2.2.2 (by decide)]; exact i27) (fun h28 e29 => ?_)
      replace hf := hf h28 e29
      replace s2 : So 2 (gW G) h28 := by rw [e29]; exact s2.le sc2 (sI_le )
      refine x_aload_n (pc' := 39) 1 (dX3_put 22 rfl rfl) rfl rfl rfl ?_
      refine x_getR (pc' := 42) (dX3_put 23 rfl rfl) g34 q483 (Or.inl rfl) rfl (hf_of 2 s2.1 rfl (by decide) m2_34) (s2.2 4 _ rfl rfl).1 ?_
      refine x_iload_n (pc' := 43) 0 (dX3_put 24 rfl rfl) rfl rfl rfl ?_
      refine x_aload_n (pc' := 44) 1 (dX3_put 25 rfl rfl) rfl rfl rfl ?_
      refine x_getI (pc' := 47) (dX3_put 26 rfl rfl) g48 q510 (Or.inl rfl) rfl (hf_of 2 s2.1 rfl (by decide) m2_48) ?_
      obtain ⟨i30, hf⟩ := hf
      refine x_iast (pc' := 48) (dX3_put 27 rfl rfl) rfl (s2.2 4 _ rfl rfl).2.1 (Or.inl ⟨34, by decide, rfl, by decide⟩) (by rw [(s2.2 4 _ rfl rfl).2.2.2 (by decide)]; exact i30) (fun h31 e32 => ?_)
      replace hf := hf h31 e32
      replace s2 : So 2 (gW G) h31 := by rw [e32]; exact s2.le sc2 (sI_le )
      refine x_aload_n (pc' := 49) 1 (dX3_put 28 rfl rfl) rfl rfl rfl ?_
      refine x_dup (pc' := 50) (dX3_put 29 rfl rfl) rfl rfl ?_
      refine x_getI (pc' := 53) (dX3_put 30 rfl rfl) g48 q510 (Or.inl rfl) rfl (hf_of 2 s2.1 rfl (by decide) m2_48) ?_
      refine x_iconst (pc' := 54) (v := 1) (dX3_put 31 rfl rfl) (by decide) rfl ?_
      refine x_iadd (pc' := 55) (dX3_put 32 rfl rfl) rfl ?_
      refine x_putI (pc' := 58) (dX3_put 33 rfl rfl) g48 q510 (Or.inl rfl) (Or.inl rfl) (Or.inl (by decide)) rfl (hf_of 2 s2.1 rfl (by decide) m2_48) (fun h33 e42 => ?_)
      replace hf := hf h33 e42
      replace s2 : So 2 (gW G) h33 := by rw [e42]; exact s2.le sc2 (pI_le (Or.inl rfl))
      refine x_aload_n (pc' := 59) 3 (dX3_put 34 rfl rfl) rfl rfl rfl ?_
      refine x_aload_n (pc' := 60) 1 (dX3_put 35 rfl rfl) rfl rfl rfl ?_
      refine x_getI (pc' := 63) (dX3_put 36 rfl rfl) g45 q507 (Or.inl rfl) rfl (hf_of 2 s2.1 rfl (by decide) m2_45) ?_
      refine x_iconst (pc' := 64) (v := -1) (dX3_put 37 rfl rfl) (by decide) rfl ?_
      refine x_aload_n (pc' := 65) 1 (dX3_put 38 rfl rfl) rfl rfl rfl ?_
      refine x_getR (pc' := 68) (dX3_put 39 rfl rfl) g34 q483 (Or.inl rfl) rfl (hf_of 2 s2.1 rfl (by decide) m2_34) (s2.2 4 _ rfl rfl).1 ?_
      refine x_iload_n (pc' := 69) 0 (dX3_put 40 rfl rfl) rfl rfl rfl ?_
      obtain ⟨i34, hf⟩ := hf
      refine x_iald (pc' := 70) (dX3_put 41 rfl rfl) rfl (s2.2 4 _ rfl rfl).2.1 (by rw [(s2.2 4 _ rfl rfl).2.2.2 (by decide)]; exact i34) ?_
      refine x_isub (pc' := 71) (dX3_put 42 rfl rfl) rfl ?_
      obtain ⟨k35, hf⟩ := hf
      obtain ⟨n39, hf⟩ := hf
      obtain ⟨i36, hf⟩ := hf
      refine x_iast (pc' := 72) (dX3_put 43 rfl rfl) rfl k35 (Or.inr ⟨n39, by decide⟩) i36 (fun h37 e38 => ?_)
      replace hf := hf h37 e38
      replace k35 : hK h37 p2 = 1000 := by rw [e38]; exact k35
      replace s2 : So 2 (gW G) h37 := by rw [e38]; exact s2.le sc2 (sI_le )
      refine x_aload_n (pc' := 73) 1 (dX3_put 44 rfl rfl) rfl rfl rfl ?_
      refine x_dup (pc' := 74) (dX3_put 45 rfl rfl) rfl rfl ?_
      refine x_getI (pc' := 77) (dX3_put 46 rfl rfl) g45 q507 (Or.inl rfl) rfl (hf_of 2 s2.1 rfl (by decide) m2_45) ?_
      refine x_iconst (pc' := 78) (v := 1) (dX3_put 47 rfl rfl) (by decide) rfl ?_
      refine x_iadd (pc' := 79) (dX3_put 48 rfl rfl) rfl ?_
      refine x_putI (pc' := 82) (dX3_put 49 rfl rfl) g45 q507 (Or.inl rfl) (Or.inl rfl) (Or.inl (by decide)) rfl (hf_of 2 s2.1 rfl (by decide) m2_45) (fun h40 e41 => ?_)
      replace hf := hf h40 e41
      replace k35 : hK h40 p2 = 1000 := by rw [e41]; exact k35
      replace s2 : So 2 (gW G) h40 := by rw [e41]; exact s2.le sc2 (pI_le (Or.inl rfl))
      exact x_vret (dX3_put 50 rfl rfl) rfl hf
theorem bX3_put_115 (G : Gh) (d : Nat) (h : AH) (Q : Outcome → AH → Prop) (l2 : Nat) (l3 : Int32) (l4 : Int32) (l5 : Int32) (s2 : So 2 (gW G) h) (hf : (l4 ≤ l5 → (Q (.returned none) h)) ∧ (¬ (l4 ≤ l5) → (C G mX3_part d [.ref (gW G 2), .int (l3), .int (l5)] h (KI Q (fun x4 h2 => C G mX3_put d [.ref (gW G 2), .int (x4), .ref (l2)] h2 (KV Q (fun h5 => ∀ x7 : Int32, x7 = l5 + 1 → (X G mX3_put (d + 1) none [] 115 [(0, .ref (gW G 2)), (2, .ref (l2)), (3, .int (l3)), (4, .int (l4)), (5, .int (x7))] [] h5 Q)))))))) : X G mX3_put (d + 1) none [] 115 [(0, .ref (gW G 2)), (2, .ref (l2)), (3, .int (l3)), (4, .int (l4)), (5, .int (l5))] [] h Q := by
  refine x_iload (pc' := 117) 4 (dX3_put 71 rfl rfl) rfl rfl ?_
  refine x_iload (pc' := 119) 3 (dX3_put 72 rfl rfl) rfl rfl ?_
  refine x_icmp_ge (pc' := 122) (tgt := 140) (dX3_put 73 rfl rfl) (by decide) rfl (fun c1 => ?_) (fun c1 => ?_)
  · replace hf := hf.1 c1
    exact x_vret (dX3_put 83 rfl rfl) rfl hf
  · replace hf := hf.2 c1
    refine x_aload_n (pc' := 123) 0 (dX3_put 74 rfl rfl) rfl rfl rfl ?_
    refine x_aload_n (pc' := 124) 0 (dX3_put 75 rfl rfl) rfl rfl rfl ?_
    refine x_iload_n (pc' := 125) 2 (dX3_put 76 rfl rfl) rfl rfl rfl ?_
    refine x_iload (pc' := 127) 4 (dX3_put 77 rfl rfl) rfl rfl ?_
    refine x_inv (pc' := 130) (ν := mX3_part) (av := [_, _, _]) (st := [_]) rfl rfl (dX3_put 78 rfl rfl) (Nat.le_of_ble_eq_true rfl) wX3_part q213 (inv_V (k := 2) (dX3_put 78 rfl rfl) q2396 q2397 q2398 wX3_part (by decide) lX3_part (by decide) s2.1) (exN (by decide)) rfl ?_
    refine C.mono hf (fun _ _ => KI.g (fun x4 h2 hf le3 => ?_))
    replace s2 := s2.le sc2 (le3)
    refine x_aload_n (pc' := 131) 1 (dX3_put 79 rfl rfl) rfl rfl rfl ?_
    refine x_inv (pc' := 134) (ν := mX3_put) (av := [_, _, _]) (st := []) rfl rfl (dX3_put 80 rfl rfl) (Nat.le_of_ble_eq_true rfl) wX3_put q213 (inv_V (k := 2) (dX3_put 80 rfl rfl) q2409 q2411 qs39 wX3_put (by decide) lX3_put (by decide) s2.1) (exN (by decide)) rfl ?_
    refine C.mono hf (fun _ _ => KV.g (fun h5 hf le6 => ?_))
    replace s2 := s2.le sc2 (le6)
    replace hf := hf _ rfl
    refine x_iinc (pc' := 137) 4 (dX3_put 81 rfl rfl) rfl (by rfl) (by decide) rfl rfl ?_
    refine x_goto (tgt := 115) (dX3_put 82 rfl rfl) (by decide) ?_
    exact X.sub [1, 2, 3, 4, 0] rfl (by simp) hf
theorem bX3_writeOn (G : Gh) (d : Nat) (h : AH) (Q : Outcome → AH → Prop) (p1 : Int32) (s2 : So 2 (gW G) h) (hf : C G mX3_size d [.ref (gW G 2), .int (p1), .int (200)] h (KI Q (fun x3 h1 => (¬ (x3 : Int32) < 0) ∧ (hc h1 + 1 ≤ MC) ∧ (hs h1 + (x3 : Int32).toNatClampNeg ≤ MS) ∧ ∀ q4, hK h1 q4 = 0 → ∀ h6, h6 = nA h1 q4 0 (x3 : Int32).toNatClampNeg → (∀ h10, h10 = pI h6 (gW G 2) 45 0 → (C G mX3_put d [.ref (gW G 2), .int (p1), .ref (q4)] h10 (KV Q (fun h11 => Q (.returned (some (.ref (q4)))) h11))))))) : C G mX3_writeOn (d + 1) [.ref (gW G 2), .int (p1)] h Q := by
  refine C.of_X (by decide +kernel) (Nat.le_of_ble_eq_true rfl) wX3_writeOn ?_
  show X G mX3_writeOn (d + 1) none [] 0 [(0, .ref (gW G 2)), (1, .int (p1))] [] h Q
  refine x_aload_n (pc' := 1) 0 (dX3_writeOn 0 rfl rfl) rfl rfl rfl ?_
  refine x_iload_n (pc' := 2) 1 (dX3_writeOn 1 rfl rfl) rfl rfl rfl ?_
  refine x_sipush (pc' := 5) (v := 200) (dX3_writeOn 2 rfl rfl) (by decide) rfl ?_
  refine x_inv (pc' := 8) (ν := mX3_size) (av := [_, _, _]) (st := []) rfl rfl (dX3_writeOn 3 rfl rfl) (Nat.le_of_ble_eq_true rfl) wX3_size q213 (inv_V (k := 2) (dX3_writeOn 3 rfl rfl) q2400 q2385 q2386 wX3_size (by decide) lX3_size (by decide) s2.1) (exN (by decide)) rfl ?_
  refine C.mono hf (fun _ _ => KI.g (fun x3 h1 hf le2 => ?_))
  replace s2 := s2.le sc2 (le2)
  obtain ⟨z8, n1, n2, hf⟩ := hf
  refine x_newa0 (pc' := 10) (dX3_writeOn 4 rfl rfl) rfl z8 (by decide) n1 n2 (fun q4 h6 k5 e7 => ?_)
  replace hf := hf q4 k5 h6 e7
  replace s2 : So 2 (gW G) h6 := by rw [e7]; exact s2.le sc2 (nA_le k5)
  have k9 : hK h6 q4 = 1000 := by rw [e7]; exact kNAs
  refine x_astore_n (pc' := 11) (dX3_writeOn 5 rfl rfl) rfl (by decide) rfl rfl ?_
  refine x_aload_n (pc' := 12) 1 (dX3_writeOn 6 rfl rfl) rfl rfl rfl ?_
  refine x_iconst (pc' := 13) (v := 0) (dX3_writeOn 7 rfl rfl) (by decide) rfl ?_
  refine x_putI (pc' := 16) (dX3_writeOn 8 rfl rfl) g45 q507 (Or.inl rfl) (Or.inl rfl) (Or.inl (by decide)) rfl (hf_of 2 s2.1 rfl (by decide) m2_45) (fun h10 e13 => ?_)
  replace hf := hf h10 e13
  replace k9 : hK h10 q4 = 1000 := by rw [e13]; exact k9
  replace s2 : So 2 (gW G) h10 := by rw [e13]; exact s2.le sc2 (pI_le (Or.inl rfl))
  refine x_aload_n (pc' := 17) 1 (dX3_writeOn 9 rfl rfl) rfl rfl rfl ?_
  refine x_iload_n (pc' := 18) 2 (dX3_writeOn 10 rfl rfl) rfl rfl rfl ?_
  refine x_aload_n (pc' := 19) 0 (dX3_writeOn 11 rfl rfl) rfl rfl rfl ?_
  refine x_inv (pc' := 22) (ν := mX3_put) (av := [_, _, _]) (st := []) rfl rfl (dX3_writeOn 12 rfl rfl) (Nat.le_of_ble_eq_true rfl) wX3_put q213 (inv_V (k := 2) (dX3_writeOn 12 rfl rfl) q2409 q2411 qs39 wX3_put (by decide) lX3_put (by decide) s2.1) (exN (by decide)) rfl ?_
  refine C.mono hf (fun _ _ => KV.g (fun h11 hf le12 => ?_))
  have k9 := leK le12 k9 (by decide)
  replace s2 := s2.le sc2 (le12)
  refine x_aload_n (pc' := 23) 0 (dX3_writeOn 13 rfl rfl) rfl rfl rfl ?_
  exact x_aret (dX3_writeOn 14 rfl rfl) rfl (Or.inr ⟨_, rfl⟩) (Or.inr ⟨_, rfl⟩) hf
theorem bX3_read (G : Gh) (d : Nat) (h : AH) (Q : Outcome → AH → Prop) (p1 : Nat) (hf : X G mX3_read (d + 1) none [] 2 [(0, .ref (gW G 2)), (1, .ref (p1)), (2, .int (0))] [] h Q) : C G mX3_read (d + 1) [.ref (gW G 2), .ref (p1)] h Q := by
  refine C.of_X (by decide +kernel) (Nat.le_of_ble_eq_true rfl) wX3_read ?_
  show X G mX3_read (d + 1) none [] 0 [(0, .ref (gW G 2)), (1, .ref (p1))] [] h Q
  refine x_iconst (pc' := 1) (v := 0) (dX3_read 0 rfl rfl) (by decide) rfl ?_
  refine x_istore_n (pc' := 2) (dX3_read 1 rfl rfl) rfl (by decide) rfl rfl ?_
  exact X.sub [1, 2, 0] rfl (by simp) hf
theorem bX3_read_2 (G : Gh) (d : Nat) (h : AH) (Q : Outcome → AH → Prop) (l1 : Nat) (l2 : Int32) (s2 : So 2 (gW G) h) (hf : ((Int32.ofNat (hL h (gW G 1046))) ≤ l2 → (∀ h2, h2 = pI h (gW G 2) 45 0 → (C G mX3_next d [.ref (gW G 2), .ref (l1)] h2 (KI Q (fun x5 h3 => Q (.returned (some (.int x5))) h3))))) ∧ (¬ ((Int32.ofNat (hL h (gW G 1046))) ≤ l2) → (vp_in l2 200 ∧ ∀ h8, h8 = sI h (gW G 1046) l2.toNatClampNeg ((-1)) → (∀ x10 : Int32, x10 = l2 + 1 → (X G mX3_read (d + 1) none [] 2 [(0, .ref (gW G 2)), (1, .ref (l1)), (2, .int (x10))] [] h8 Q))))) : X G mX3_read (d + 1) none [] 2 [(0, .ref (gW G 2)), (1, .ref (l1)), (2, .int (l2))] [] h Q := by
  refine x_iload_n (pc' := 3) 2 (dX3_read 2 rfl rfl) rfl rfl rfl ?_
  refine x_aload_n (pc' := 4) 0 (dX3_read 3 rfl rfl) rfl rfl rfl ?_
  refine x_getR (pc' := 7) (dX3_read 4 rfl rfl) g46 q508 (Or.inl rfl) rfl (hf_of 2 s2.1 rfl (by decide) m2_46) (s2.2 8 _ rfl rfl).1 ?_
  refine x_alen (pc' := 8) (t := 0) (ty := .int) (dX3_read 5 rfl rfl) rfl rfl (s2.2 8 _ rfl rfl).2.1 ?_
  refine x_icmp_ge (pc' := 11) (tgt := 24) (dX3_read 6 rfl rfl) (by decide) rfl (fun c1 => ?_) (fun c1 => ?_)
  · replace hf := hf.1 c1
    refine x_aload_n (pc' := 25) 0 (dX3_read 14 rfl rfl) rfl rfl rfl ?_
    refine x_iconst (pc' := 26) (v := 0) (dX3_read 15 rfl rfl) (by decide) rfl ?_
    refine x_putI (pc' := 29) (dX3_read 16 rfl rfl) g45 q507 (Or.inl rfl) (Or.inl rfl) (Or.inl (by decide)) rfl (hf_of 2 s2.1 rfl (by decide) m2_45) (fun h2 e6 => ?_)
    replace hf := hf h2 e6
    replace s2 : So 2 (gW G) h2 := by rw [e6]; exact s2.le sc2 (pI_le (Or.inl rfl))
    refine x_aload_n (pc' := 30) 0 (dX3_read 17 rfl rfl) rfl rfl rfl ?_
    refine x_aload_n (pc' := 31) 1 (dX3_read 18 rfl rfl) rfl rfl rfl ?_
    refine x_inv (pc' := 34) (ν := mX3_next) (av := [_, _]) (st := []) rfl rfl (dX3_read 19 rfl rfl) (Nat.le_of_ble_eq_true rfl) wX3_next q213 (inv_V (k := 2) (dX3_read 19 rfl rfl) q2448 q2450 qs40 wX3_next (by decide) lX3_next (by decide) s2.1) (exN (by decide)) rfl ?_
    refine C.mono hf (fun _ _ => KI.g (fun x5 h3 hf le4 => ?_))
    replace s2 := s2.le sc2 (le4)
    exact x_iret (dX3_read 20 rfl rfl) rfl hf
  · replace hf := hf.2 c1
    refine x_aload_n (pc' := 12) 0 (dX3_read 7 rfl rfl) rfl rfl rfl ?_
    refine x_getR (pc' := 15) (dX3_read 8 rfl rfl) g46 q508 (Or.inl rfl) rfl (hf_of 2 s2.1 rfl (by decide) m2_46) (s2.2 8 _ rfl rfl).1 ?_
    refine x_iload_n (pc' := 16) 2 (dX3_read 9 rfl rfl) rfl rfl rfl ?_
    refine x_iconst (pc' := 17) (v := -1) (dX3_read 10 rfl rfl) (by decide) rfl ?_
    obtain ⟨i7, hf⟩ := hf
    refine x_iast (pc' := 18) (dX3_read 11 rfl rfl) rfl (s2.2 8 _ rfl rfl).2.1 (Or.inl ⟨46, by decide, rfl, by decide⟩) (by rw [(s2.2 8 _ rfl rfl).2.2.2 (by decide)]; exact i7) (fun h8 e9 => ?_)
    replace hf := hf h8 e9
    replace s2 : So 2 (gW G) h8 := by rw [e9]; exact s2.le sc2 (sI_le )
    replace hf := hf _ rfl
    refine x_iinc (pc' := 21) 2 (dX3_read 12 rfl rfl) rfl (by rfl) (by decide) rfl rfl ?_
    refine x_goto (tgt := 2) (dX3_read 13 rfl rfl) (by decide) ?_
    exact X.sub [1, 2, 0] rfl (by simp) hf
theorem bX3_next (G : Gh) (d : Nat) (h : AH) (Q : Outcome → AH → Prop) (p1 : Nat) (s2 : So 2 (gW G) h) (hf : hK h p1 = 1000 ∧ vp_in (fI h (gW G 2) 45) (hL h p1) ∧ (∀ x3 : Int32, x3 = aI h p1 (fI h (gW G 2) 45).toNatClampNeg → (∀ h4, h4 = pI h (gW G 2) 45 ((fI h (gW G 2) 45) + 1) → ((0 ≤ x3 → (vp_in x3 212 ∧ ∃ b7, aR h4 (gW G 1040) x3.toNatClampNeg = some b7 ∧ (hK h4 b7 = 4 ∧ (∀ x10 : Int32, x10 = fI h4 b7 51 → ((x10 = 0 → ((x3 = 7 → (Q (.returned (some (.int (fI h4 (gW G 2) 42)))) h4)) ∧ (¬ x3 = 7 → ((x3 = 8 → (Q (.returned (some (.int (fI h4 (gW G 2) 43)))) h4)) ∧ (¬ x3 = 8 → ((x3 = 9 → (Q (.returned (some (.int (fI h4 (gW G 2) 44)))) h4)) ∧ (¬ x3 = 9 → (C G mX3_built d [.ref (gW G 2), .int (x3)] h4 (KI Q (fun x22 h20 => Q (.returned (some (.int x22))) h20)))))))))) ∧ (¬ x10 = 0 → (C G mX3_node d [.ref (gW G 2), .int (x3)] h4 (KI Q (fun x14 h12 => ∀ h15, h15 = pI h12 (gW G 2) 37 ((fI h12 (gW G 2) 37) + x10) → (X G mX3_next (d + 1) none [] 132 [(0, .ref (gW G 2)), (1, .ref (p1)), (3, .int (x10)), (4, .int (x14)), (5, .int (0))] [] h15 Q)))))))))) ∧ (¬ (0 ≤ x3) → (vp_in (((-1)) - x3) 200 ∧ ((0 ≤ (aI h4 (gW G 1046) (((-1)) - x3).toNatClampNeg) → (vp_in (((-1)) - x3) 200 ∧ (Q (.returned (some (.int (aI h4 (gW G 1046) (((-1)) - x3).toNatClampNeg)))) h4))) ∧ (¬ (0 ≤ (aI h4 (gW G 1046) (((-1)) - x3).toNatClampNeg)) → (C G mX3_variable d [.ref (gW G 2)] h4 (KI Q (fun x28 h26 => vp_in (((-1)) - x3) 200 ∧ ∀ h30, h30 = sI h26 (gW G 1046) (((-1)) - x3).toNatClampNeg x28 → (vp_in (((-1)) - x3) 200 ∧ (Q (.returned (some (.int (aI h30 (gW G 1046) (((-1)) - x3).toNatClampNeg)))) h30))))))))))))) : C G mX3_next (d + 1) [.ref (gW G 2), .ref (p1)] h Q := by
  refine C.of_X (by decide +kernel) (Nat.le_of_ble_eq_true rfl) wX3_next ?_
  show X G mX3_next (d + 1) none [] 0 [(0, .ref (gW G 2)), (1, .ref (p1))] [] h Q
  refine x_aload_n (pc' := 1) 1 (dX3_next 0 rfl rfl) rfl rfl rfl ?_
  refine x_aload_n (pc' := 2) 0 (dX3_next 1 rfl rfl) rfl rfl rfl ?_
  refine x_getI (pc' := 5) (dX3_next 2 rfl rfl) g45 q507 (Or.inl rfl) rfl (hf_of 2 s2.1 rfl (by decide) m2_45) ?_
  obtain ⟨k1, hf⟩ := hf
  obtain ⟨i2, hf⟩ := hf
  refine x_iald (pc' := 6) (dX3_next 3 rfl rfl) rfl k1 i2 ?_
  replace hf := hf _ rfl
  refine x_istore_n (pc' := 7) (dX3_next 4 rfl rfl) rfl (by decide) rfl rfl ?_
  refine x_aload_n (pc' := 8) 1 (dX3_next 5 rfl rfl) rfl rfl rfl ?_
  refine x_dup (pc' := 9) (dX3_next 6 rfl rfl) rfl rfl ?_
  refine x_getI (pc' := 12) (dX3_next 7 rfl rfl) g45 q507 (Or.inl rfl) rfl (hf_of 2 s2.1 rfl (by decide) m2_45) ?_
  refine x_iconst (pc' := 13) (v := 1) (dX3_next 8 rfl rfl) (by decide) rfl ?_
  refine x_iadd (pc' := 14) (dX3_next 9 rfl rfl) rfl ?_
  refine x_putI (pc' := 17) (dX3_next 10 rfl rfl) g45 q507 (Or.inl rfl) (Or.inl rfl) (Or.inl (by decide)) rfl (hf_of 2 s2.1 rfl (by decide) m2_45) (fun h4 e33 => ?_)
  replace hf := hf h4 e33
  replace k1 : hK h4 p1 = 1000 := by rw [e33]; exact k1
  replace s2 : So 2 (gW G) h4 := by rw [e33]; exact s2.le sc2 (pI_le (Or.inl rfl))
  refine x_iload_n (pc' := 18) 0 (dX3_next 11 rfl rfl) rfl rfl rfl ?_
  refine x_if_ge (pc' := 21) (tgt := 53) (dX3_next 12 rfl rfl) (by decide) rfl (fun c5 => ?_) (fun c5 => ?_)
  · replace hf := hf.1 c5
    refine x_aload_n (pc' := 54) 1 (dX3_next 35 rfl rfl) rfl rfl rfl ?_
    refine x_getR (pc' := 57) (dX3_next 36 rfl rfl) g40 q489 (Or.inl rfl) rfl (hf_of 2 s2.1 rfl (by decide) m2_40) (s2.2 7 _ rfl rfl).1 ?_
    refine x_iload_n (pc' := 58) 0 (dX3_next 37 rfl rfl) rfl rfl rfl ?_
    obtain ⟨i6, hf⟩ := hf
    obtain ⟨b7, e8, hf⟩ := hf
    refine x_aald (pc' := 59) (t := 6) (C := "LetMill$TypeName") (dX3_next 38 rfl rfl) rfl (by decide) rfl (s2.2 7 _ rfl rfl).2.1 (by rw [(s2.2 7 _ rfl rfl).2.2.2 (by decide)]; exact i6) e8 ?_
    obtain ⟨k9, hf⟩ := hf
    refine x_getI (pc' := 62) (dX3_next 39 rfl rfl) g51 q446 (Or.inl rfl) rfl (hf_of 3 k9 rfl (by decide) m3_51) ?_
    replace hf := hf _ rfl
    refine x_istore_n (pc' := 63) (dX3_next 40 rfl rfl) rfl (by decide) rfl rfl ?_
    refine x_iload_n (pc' := 64) 0 (dX3_next 41 rfl rfl) rfl rfl rfl ?_
    refine x_if_ne (pc' := 67) (tgt := 112) (dX3_next 42 rfl rfl) (by decide) rfl (fun c11 => ?_) (fun c11 => ?_)
    · replace hf := hf.2 c11
      refine x_aload_n (pc' := 113) 2 (dX3_next 65 rfl rfl) rfl rfl rfl ?_
      refine x_iload_n (pc' := 114) 1 (dX3_next 66 rfl rfl) rfl rfl rfl ?_
      refine x_inv (pc' := 117) (ν := mX3_node) (av := [_, _]) (st := []) rfl rfl (dX3_next 67 rfl rfl) (Nat.le_of_ble_eq_true rfl) wX3_node q213 (inv_V (k := 2) (dX3_next 67 rfl rfl) q475 q477 qs1 wX3_node (by decide) lX3_node (by decide) s2.1) (exN (by decide)) rfl ?_
      refine C.mono hf (fun _ _ => KI.g (fun x14 h12 hf le13 => ?_))
      have k1 := leK le13 k1 (by decide)
      have k9 := leK le13 k9 (by decide)
      replace s2 := s2.le sc2 (le13)
      refine x_istore (pc' := 119) (dX3_next 68 rfl rfl) (by decide) rfl rfl ?_
      refine x_aload_n (pc' := 120) 3 (dX3_next 69 rfl rfl) rfl rfl rfl ?_
      refine x_dup (pc' := 121) (dX3_next 70 rfl rfl) rfl rfl ?_
      refine x_getI (pc' := 124) (dX3_next 71 rfl rfl) g37 q486 (Or.inl rfl) rfl (hf_of 2 s2.1 rfl (by decide) m2_37) ?_
      refine x_iload_n (pc' := 125) 1 (dX3_next 72 rfl rfl) rfl rfl rfl ?_
      refine x_iadd (pc' := 126) (dX3_next 73 rfl rfl) rfl ?_
      refine x_putI (pc' := 129) (dX3_next 74 rfl rfl) g37 q486 (Or.inl rfl) (Or.inl rfl) (Or.inl (by decide)) rfl (hf_of 2 s2.1 rfl (by decide) m2_37) (fun h15 e16 => ?_)
      replace hf := hf h15 e16
      replace k1 : hK h15 p1 = 1000 := by rw [e16]; exact k1
      replace k9 : hK h15 b7 = 4 := by rw [e16]; exact k9
      replace s2 : So 2 (gW G) h15 := by rw [e16]; exact s2.le sc2 (pI_le (Or.inl rfl))
      refine x_iconst (pc' := 130) (v := 0) (dX3_next 75 rfl rfl) (by decide) rfl ?_
      refine x_istore (pc' := 132) (dX3_next 76 rfl rfl) (by decide) rfl rfl ?_
      exact X.sub [4, 5, 2, 1, 0] rfl (by simp) hf
    · replace hf := hf.1 (Classical.not_not.mp c11)
      replace c11 := Classical.not_not.mp c11
      refine x_iload_n (pc' := 68) 1 (dX3_next 43 rfl rfl) rfl rfl rfl ?_
      refine x_bipush (pc' := 70) (v := 7) (dX3_next 44 rfl rfl) (by decide) rfl ?_
      refine x_icmp_ne (pc' := 73) (tgt := 80) (dX3_next 45 rfl rfl) (by decide) rfl (fun c17 => ?_) (fun c17 => ?_)
      · replace hf := hf.2 c17
        refine x_iload_n (pc' := 81) 1 (dX3_next 49 rfl rfl) rfl rfl rfl ?_
        refine x_bipush (pc' := 83) (v := 8) (dX3_next 50 rfl rfl) (by decide) rfl ?_
        refine x_icmp_ne (pc' := 86) (tgt := 93) (dX3_next 51 rfl rfl) (by decide) rfl (fun c18 => ?_) (fun c18 => ?_)
        · replace hf := hf.2 c18
          refine x_iload_n (pc' := 94) 1 (dX3_next 55 rfl rfl) rfl rfl rfl ?_
          refine x_bipush (pc' := 96) (v := 9) (dX3_next 56 rfl rfl) (by decide) rfl ?_
          refine x_icmp_ne (pc' := 99) (tgt := 106) (dX3_next 57 rfl rfl) (by decide) rfl (fun c19 => ?_) (fun c19 => ?_)
          · replace hf := hf.2 c19
            refine x_aload_n (pc' := 107) 2 (dX3_next 61 rfl rfl) rfl rfl rfl ?_
            refine x_iload_n (pc' := 108) 1 (dX3_next 62 rfl rfl) rfl rfl rfl ?_
            refine x_inv (pc' := 111) (ν := mX3_built) (av := [_, _]) (st := []) rfl rfl (dX3_next 63 rfl rfl) (Nat.le_of_ble_eq_true rfl) wX3_built q213 (inv_V (k := 2) (dX3_next 63 rfl rfl) q471 q472 q473 wX3_built (by decide) lX3_built (by decide) s2.1) (exN (by decide)) rfl ?_
            refine C.mono hf (fun _ _ => KI.g (fun x22 h20 hf le21 => ?_))
            have k1 := leK le21 k1 (by decide)
            have k9 := leK le21 k9 (by decide)
            replace s2 := s2.le sc2 (le21)
            exact x_iret (dX3_next 64 rfl rfl) rfl hf
          · replace hf := hf.1 (Classical.not_not.mp c19)
            replace c19 := Classical.not_not.mp c19
            refine x_aload_n (pc' := 100) 2 (dX3_next 58 rfl rfl) rfl rfl rfl ?_
            refine x_getI (pc' := 103) (dX3_next 59 rfl rfl) g44 q502 (Or.inl rfl) rfl (hf_of 2 s2.1 rfl (by decide) m2_44) ?_
            refine x_goto (tgt := 111) (dX3_next 60 rfl rfl) (by decide) ?_
            exact x_iret (dX3_next 64 rfl rfl) rfl hf
        · replace hf := hf.1 (Classical.not_not.mp c18)
          replace c18 := Classical.not_not.mp c18
          refine x_aload_n (pc' := 87) 2 (dX3_next 52 rfl rfl) rfl rfl rfl ?_
          refine x_getI (pc' := 90) (dX3_next 53 rfl rfl) g43 q497 (Or.inl rfl) rfl (hf_of 2 s2.1 rfl (by decide) m2_43) ?_
          refine x_goto (tgt := 111) (dX3_next 54 rfl rfl) (by decide) ?_
          exact x_iret (dX3_next 64 rfl rfl) rfl hf
      · replace hf := hf.1 (Classical.not_not.mp c17)
        replace c17 := Classical.not_not.mp c17
        refine x_aload_n (pc' := 74) 2 (dX3_next 46 rfl rfl) rfl rfl rfl ?_
        refine x_getI (pc' := 77) (dX3_next 47 rfl rfl) g42 q492 (Or.inl rfl) rfl (hf_of 2 s2.1 rfl (by decide) m2_42) ?_
        refine x_goto (tgt := 111) (dX3_next 48 rfl rfl) (by decide) ?_
        exact x_iret (dX3_next 64 rfl rfl) rfl hf
  · replace hf := hf.2 c5
    refine x_aload_n (pc' := 22) 1 (dX3_next 13 rfl rfl) rfl rfl rfl ?_
    refine x_getR (pc' := 25) (dX3_next 14 rfl rfl) g46 q508 (Or.inl rfl) rfl (hf_of 2 s2.1 rfl (by decide) m2_46) (s2.2 8 _ rfl rfl).1 ?_
    refine x_iconst (pc' := 26) (v := -1) (dX3_next 15 rfl rfl) (by decide) rfl ?_
    refine x_iload_n (pc' := 27) 0 (dX3_next 16 rfl rfl) rfl rfl rfl ?_
    refine x_isub (pc' := 28) (dX3_next 17 rfl rfl) rfl ?_
    obtain ⟨i23, hf⟩ := hf
    refine x_iald (pc' := 29) (dX3_next 18 rfl rfl) rfl (s2.2 8 _ rfl rfl).2.1 (by rw [(s2.2 8 _ rfl rfl).2.2.2 (by decide)]; exact i23) ?_
    refine x_if_ge (pc' := 32) (tgt := 44) (dX3_next 19 rfl rfl) (by decide) rfl (fun c24 => ?_) (fun c24 => ?_)
    · replace hf := hf.1 c24
      refine x_aload_n (pc' := 45) 1 (dX3_next 28 rfl rfl) rfl rfl rfl ?_
      refine x_getR (pc' := 48) (dX3_next 29 rfl rfl) g46 q508 (Or.inl rfl) rfl (hf_of 2 s2.1 rfl (by decide) m2_46) (s2.2 8 _ rfl rfl).1 ?_
      refine x_iconst (pc' := 49) (v := -1) (dX3_next 30 rfl rfl) (by decide) rfl ?_
      refine x_iload_n (pc' := 50) 0 (dX3_next 31 rfl rfl) rfl rfl rfl ?_
      refine x_isub (pc' := 51) (dX3_next 32 rfl rfl) rfl ?_
      obtain ⟨i25, hf⟩ := hf
      refine x_iald (pc' := 52) (dX3_next 33 rfl rfl) rfl (s2.2 8 _ rfl rfl).2.1 (by rw [(s2.2 8 _ rfl rfl).2.2.2 (by decide)]; exact i25) ?_
      exact x_iret (dX3_next 34 rfl rfl) rfl hf
    · replace hf := hf.2 c24
      refine x_aload_n (pc' := 33) 1 (dX3_next 20 rfl rfl) rfl rfl rfl ?_
      refine x_getR (pc' := 36) (dX3_next 21 rfl rfl) g46 q508 (Or.inl rfl) rfl (hf_of 2 s2.1 rfl (by decide) m2_46) (s2.2 8 _ rfl rfl).1 ?_
      refine x_iconst (pc' := 37) (v := -1) (dX3_next 22 rfl rfl) (by decide) rfl ?_
      refine x_iload_n (pc' := 38) 0 (dX3_next 23 rfl rfl) rfl rfl rfl ?_
      refine x_isub (pc' := 39) (dX3_next 24 rfl rfl) rfl ?_
      refine x_aload_n (pc' := 40) 1 (dX3_next 25 rfl rfl) rfl rfl rfl ?_
      refine x_inv (pc' := 43) (ν := mX3_variable) (av := [_]) (st := [_, _]) rfl rfl (dX3_next 26 rfl rfl) (Nat.le_of_ble_eq_true rfl) wX3_variable q213 (inv_V (k := 2) (dX3_next 26 rfl rfl) q2452 q2341 q2342 wX3_variable (by decide) lX3_variable (by decide) s2.1) (exN (by decide)) rfl ?_
      refine C.mono hf (fun _ _ => KI.g (fun x28 h26 hf le27 => ?_))
      have k1 := leK le27 k1 (by decide)
      replace s2 := s2.le sc2 (le27)
      obtain ⟨i29, hf⟩ := hf
      refine x_iast (pc' := 44) (dX3_next 27 rfl rfl) rfl (s2.2 8 _ rfl rfl).2.1 (Or.inl ⟨46, by decide, rfl, by decide⟩) (by rw [(s2.2 8 _ rfl rfl).2.2.2 (by decide)]; exact i29) (fun h30 e31 => ?_)
      replace hf := hf h30 e31
      replace k1 : hK h30 p1 = 1000 := by rw [e31]; exact k1
      replace s2 : So 2 (gW G) h30 := by rw [e31]; exact s2.le sc2 (sI_le )
      refine x_aload_n (pc' := 45) 1 (dX3_next 28 rfl rfl) rfl rfl rfl ?_
      refine x_getR (pc' := 48) (dX3_next 29 rfl rfl) g46 q508 (Or.inl rfl) rfl (hf_of 2 s2.1 rfl (by decide) m2_46) (s2.2 8 _ rfl rfl).1 ?_
      refine x_iconst (pc' := 49) (v := -1) (dX3_next 30 rfl rfl) (by decide) rfl ?_
      refine x_iload_n (pc' := 50) 0 (dX3_next 31 rfl rfl) rfl rfl rfl ?_
      refine x_isub (pc' := 51) (dX3_next 32 rfl rfl) rfl ?_
      obtain ⟨i32, hf⟩ := hf
      refine x_iald (pc' := 52) (dX3_next 33 rfl rfl) rfl (s2.2 8 _ rfl rfl).2.1 (by rw [(s2.2 8 _ rfl rfl).2.2.2 (by decide)]; exact i32) ?_
      exact x_iret (dX3_next 34 rfl rfl) rfl hf
theorem bX3_next_132 (G : Gh) (d : Nat) (h : AH) (Q : Outcome → AH → Prop) (l1 : Nat) (l3 : Int32) (l4 : Int32) (l5 : Int32) (s2 : So 2 (gW G) h) (hf : (l3 ≤ l5 → (Q (.returned (some (.int l4))) h)) ∧ (¬ (l3 ≤ l5) → (C G mX3_next d [.ref (gW G 2), .ref (l1)] h (KI Q (fun x4 h2 => vp_in l4 150000 ∧ (vp_in ((aI h2 (gW G 1031) l4.toNatClampNeg) + l5) 150000 ∧ ∀ h7, h7 = sI h2 (gW G 1035) ((aI h2 (gW G 1031) l4.toNatClampNeg) + l5).toNatClampNeg x4 → (∀ x9 : Int32, x9 = l5 + 1 → (X G mX3_next (d + 1) none [] 132 [(0, .ref (gW G 2)), (1, .ref (l1)), (3, .int (l3)), (4, .int (l4)), (5, .int (x9))] [] h7 Q)))))))) : X G mX3_next (d + 1) none [] 132 [(0, .ref (gW G 2)), (1, .ref (l1)), (3, .int (l3)), (4, .int (l4)), (5, .int (l5))] [] h Q := by
  refine x_iload (pc' := 134) 4 (dX3_next 77 rfl rfl) rfl rfl ?_
  refine x_iload_n (pc' := 135) 2 (dX3_next 78 rfl rfl) rfl rfl rfl ?_
  refine x_icmp_ge (pc' := 138) (tgt := 168) (dX3_next 79 rfl rfl) (by decide) rfl (fun c1 => ?_) (fun c1 => ?_)
  · replace hf := hf.1 c1
    refine x_iload (pc' := 170) 3 (dX3_next 96 rfl rfl) rfl rfl ?_
    exact x_iret (dX3_next 97 rfl rfl) rfl hf
  · replace hf := hf.2 c1
    refine x_aload_n (pc' := 139) 0 (dX3_next 80 rfl rfl) rfl rfl rfl ?_
    refine x_aload_n (pc' := 140) 1 (dX3_next 81 rfl rfl) rfl rfl rfl ?_
    refine x_inv (pc' := 143) (ν := mX3_next) (av := [_, _]) (st := []) rfl rfl (dX3_next 82 rfl rfl) (Nat.le_of_ble_eq_true rfl) wX3_next q213 (inv_V (k := 2) (dX3_next 82 rfl rfl) q2448 q2450 qs40 wX3_next (by decide) lX3_next (by decide) s2.1) (exN (by decide)) rfl ?_
    refine C.mono hf (fun _ _ => KI.g (fun x4 h2 hf le3 => ?_))
    replace s2 := s2.le sc2 (le3)
    refine x_istore (pc' := 145) (dX3_next 83 rfl rfl) (by decide) rfl rfl ?_
    refine x_aload_n (pc' := 146) 1 (dX3_next 84 rfl rfl) rfl rfl rfl ?_
    refine x_getR (pc' := 149) (dX3_next 85 rfl rfl) g35 q484 (Or.inl rfl) rfl (hf_of 2 s2.1 rfl (by decide) m2_35) (s2.2 5 _ rfl rfl).1 ?_
    refine x_aload_n (pc' := 150) 1 (dX3_next 86 rfl rfl) rfl rfl rfl ?_
    refine x_getR (pc' := 153) (dX3_next 87 rfl rfl) g31 q480 (Or.inl rfl) rfl (hf_of 2 s2.1 rfl (by decide) m2_31) (s2.2 1 _ rfl rfl).1 ?_
    refine x_iload (pc' := 155) 4 (dX3_next 88 rfl rfl) rfl rfl ?_
    obtain ⟨i5, hf⟩ := hf
    refine x_iald (pc' := 156) (dX3_next 89 rfl rfl) rfl (s2.2 1 _ rfl rfl).2.1 (by rw [(s2.2 1 _ rfl rfl).2.2.2 (by decide)]; exact i5) ?_
    refine x_iload (pc' := 158) 5 (dX3_next 90 rfl rfl) rfl rfl ?_
    refine x_iadd (pc' := 159) (dX3_next 91 rfl rfl) rfl ?_
    refine x_iload (pc' := 161) 0 (dX3_next 92 rfl rfl) rfl rfl ?_
    obtain ⟨i6, hf⟩ := hf
    refine x_iast (pc' := 162) (dX3_next 93 rfl rfl) rfl (s2.2 5 _ rfl rfl).2.1 (Or.inl ⟨35, by decide, rfl, by decide⟩) (by rw [(s2.2 5 _ rfl rfl).2.2.2 (by decide)]; exact i6) (fun h7 e8 => ?_)
    replace hf := hf h7 e8
    replace s2 : So 2 (gW G) h7 := by rw [e8]; exact s2.le sc2 (sI_le )
    replace hf := hf _ rfl
    refine x_iinc (pc' := 165) 5 (dX3_next 94 rfl rfl) rfl (by rfl) (by decide) rfl rfl ?_
    refine x_goto (tgt := 132) (dX3_next 95 rfl rfl) (by decide) ?_
    exact X.sub [2, 3, 4, 5, 0] rfl (by simp) hf
theorem bX3_readOn (G : Gh) (d : Nat) (h : AH) (Q : Outcome → AH → Prop) (p1 : Nat) (s2 : So 2 (gW G) h) (hf : ∀ h1, h1 = pI h (gW G 2) 45 0 → (C G mX3_next d [.ref (gW G 2), .ref (p1)] h1 (KI Q (fun x4 h2 => Q (.returned (some (.int x4))) h2)))) : C G mX3_readOn (d + 1) [.ref (gW G 2), .ref (p1)] h Q := by
  refine C.of_X (by decide +kernel) (Nat.le_of_ble_eq_true rfl) wX3_readOn ?_
  show X G mX3_readOn (d + 1) none [] 0 [(0, .ref (gW G 2)), (1, .ref (p1))] [] h Q
  refine x_aload_n (pc' := 1) 0 (dX3_readOn 0 rfl rfl) rfl rfl rfl ?_
  refine x_iconst (pc' := 2) (v := 0) (dX3_readOn 1 rfl rfl) (by decide) rfl ?_
  refine x_putI (pc' := 5) (dX3_readOn 2 rfl rfl) g45 q507 (Or.inl rfl) (Or.inl rfl) (Or.inl (by decide)) rfl (hf_of 2 s2.1 rfl (by decide) m2_45) (fun h1 e5 => ?_)
  replace hf := hf h1 e5
  replace s2 : So 2 (gW G) h1 := by rw [e5]; exact s2.le sc2 (pI_le (Or.inl rfl))
  refine x_aload_n (pc' := 6) 0 (dX3_readOn 3 rfl rfl) rfl rfl rfl ?_
  refine x_aload_n (pc' := 7) 1 (dX3_readOn 4 rfl rfl) rfl rfl rfl ?_
  refine x_inv (pc' := 10) (ν := mX3_next) (av := [_, _]) (st := []) rfl rfl (dX3_readOn 5 rfl rfl) (Nat.le_of_ble_eq_true rfl) wX3_next q213 (inv_V (k := 2) (dX3_readOn 5 rfl rfl) q2448 q2450 qs40 wX3_next (by decide) lX3_next (by decide) s2.1) (exN (by decide)) rfl ?_
  refine C.mono hf (fun _ _ => KI.g (fun x4 h2 hf le3 => ?_))
  replace s2 := s2.le sc2 (le3)
  exact x_iret (dX3_readOn 6 rfl rfl) rfl hf
theorem bX3_same (G : Gh) (d : Nat) (h : AH) (Q : Outcome → AH → Prop) (p1 : Int32) (p2 : Int32) (s2 : So 2 (gW G) h) (hf : C G mX3_joined d [.ref (gW G 2), .int (p1), .int (p2)] h (KI Q (fun x3 h1 => (x3 = 0 → (Q (.returned (some (.int 0))) h1)) ∧ (¬ x3 = 0 → (C G mX3_found d [.ref (gW G 2), .int (p1)] h1 (KI Q (fun x7 h5 => C G mX3_isFinite d [.ref (gW G 2), .int (x7)] h5 (KI Q (fun x10 h8 => (x10 = 0 → (Q (.returned (some (.int 0))) h8)) ∧ (¬ x10 = 0 → (Q (.returned (some (.int 1))) h8))))))))))) : C G mX3_same (d + 1) [.ref (gW G 2), .int (p1), .int (p2)] h Q := by
  refine C.of_X (by decide +kernel) (Nat.le_of_ble_eq_true rfl) wX3_same ?_
  show X G mX3_same (d + 1) none [] 0 [(0, .ref (gW G 2)), (1, .int (p1)), (2, .int (p2))] [] h Q
  refine x_aload_n (pc' := 1) 0 (dX3_same 0 rfl rfl) rfl rfl rfl ?_
  refine x_iload_n (pc' := 2) 1 (dX3_same 1 rfl rfl) rfl rfl rfl ?_
  refine x_iload_n (pc' := 3) 2 (dX3_same 2 rfl rfl) rfl rfl rfl ?_
  refine x_inv (pc' := 6) (ν := mX3_joined) (av := [_, _, _]) (st := []) rfl rfl (dX3_same 3 rfl rfl) (Nat.le_of_ble_eq_true rfl) wX3_joined q213 (inv_V (k := 2) (dX3_same 3 rfl rfl) q2490 q2492 qs41 wX3_joined (by decide) lX3_joined (by decide) s2.1) (exN (by decide)) rfl ?_
  refine C.mono hf (fun _ _ => KI.g (fun x3 h1 hf le2 => ?_))
  replace s2 := s2.le sc2 (le2)
  refine x_if_eq (pc' := 9) (tgt := 25) (dX3_same 4 rfl rfl) (by decide) rfl (fun c4 => ?_) (fun c4 => ?_)
  · replace hf := hf.1 c4
    refine x_iconst (pc' := 26) (v := 0) (dX3_same 13 rfl rfl) (by decide) rfl ?_
    exact x_zret (ty := .boolean) (dX3_same 14 rfl rfl) rfl (by decide) hf
  · replace hf := hf.2 c4
    refine x_aload_n (pc' := 10) 0 (dX3_same 5 rfl rfl) rfl rfl rfl ?_
    refine x_aload_n (pc' := 11) 0 (dX3_same 6 rfl rfl) rfl rfl rfl ?_
    refine x_iload_n (pc' := 12) 1 (dX3_same 7 rfl rfl) rfl rfl rfl ?_
    refine x_inv (pc' := 15) (ν := mX3_found) (av := [_, _]) (st := [_]) rfl rfl (dX3_same 8 rfl rfl) (Nat.le_of_ble_eq_true rfl) wX3_found q213 (inv_V (k := 2) (dX3_same 8 rfl rfl) q2388 q2389 q2390 wX3_found (by decide) lX3_found (by decide) s2.1) (exN (by decide)) rfl ?_
    refine C.mono hf (fun _ _ => KI.g (fun x7 h5 hf le6 => ?_))
    replace s2 := s2.le sc2 (le6)
    refine x_inv (pc' := 18) (ν := mX3_isFinite) (av := [_, _]) (st := []) rfl rfl (dX3_same 9 rfl rfl) (Nat.le_of_ble_eq_true rfl) wX3_isFinite q213 (inv_V (k := 2) (dX3_same 9 rfl rfl) q2494 q2496 qs42 wX3_isFinite (by decide) lX3_isFinite (by decide) s2.1) (exN (by decide)) rfl ?_
    refine C.mono hf (fun _ _ => KI.g (fun x10 h8 hf le9 => ?_))
    replace s2 := s2.le sc2 (le9)
    refine x_if_eq (pc' := 21) (tgt := 25) (dX3_same 10 rfl rfl) (by decide) rfl (fun c11 => ?_) (fun c11 => ?_)
    · replace hf := hf.1 c11
      refine x_iconst (pc' := 26) (v := 0) (dX3_same 13 rfl rfl) (by decide) rfl ?_
      exact x_zret (ty := .boolean) (dX3_same 14 rfl rfl) rfl (by decide) hf
    · replace hf := hf.2 c11
      refine x_iconst (pc' := 22) (v := 1) (dX3_same 11 rfl rfl) (by decide) rfl ?_
      refine x_goto (tgt := 26) (dX3_same 12 rfl rfl) (by decide) ?_
      exact x_zret (ty := .boolean) (dX3_same 14 rfl rfl) rfl (by decide) hf
theorem bX3_joined (G : Gh) (d : Nat) (h : AH) (Q : Outcome → AH → Prop) (p1 : Int32) (p2 : Int32) (s2 : So 2 (gW G) h) (hf : vp_in 0 300000 ∧ ∀ h2, h2 = sI h (gW G 1039) (0 : Int32).toNatClampNeg p1 → (vp_in 1 300000 ∧ ∀ h5, h5 = sI h2 (gW G 1039) (1 : Int32).toNatClampNeg p2 → (X G mX3_joined (d + 1) none [] 18 [(0, .ref (gW G 2)), (3, .int (2))] [] h5 Q))) : C G mX3_joined (d + 1) [.ref (gW G 2), .int (p1), .int (p2)] h Q := by
  refine C.of_X (by decide +kernel) (Nat.le_of_ble_eq_true rfl) wX3_joined ?_
  show X G mX3_joined (d + 1) none [] 0 [(0, .ref (gW G 2)), (1, .int (p1)), (2, .int (p2))] [] h Q
  refine x_iconst (pc' := 1) (v := 0) (dX3_joined 0 rfl rfl) (by decide) rfl ?_
  refine x_istore_n (pc' := 2) (dX3_joined 1 rfl rfl) rfl (by decide) rfl rfl ?_
  refine x_aload_n (pc' := 3) 1 (dX3_joined 2 rfl rfl) rfl rfl rfl ?_
  refine x_getR (pc' := 6) (dX3_joined 3 rfl rfl) g39 q488 (Or.inl rfl) rfl (hf_of 2 s2.1 rfl (by decide) m2_39) (s2.2 6 _ rfl rfl).1 ?_
  refine x_iconst (pc' := 7) (v := 0) (dX3_joined 4 rfl rfl) (by decide) rfl ?_
  refine x_iload_n (pc' := 8) 2 (dX3_joined 5 rfl rfl) rfl rfl rfl ?_
  obtain ⟨i1, hf⟩ := hf
  refine x_iast (pc' := 9) (dX3_joined 6 rfl rfl) rfl (s2.2 6 _ rfl rfl).2.1 (Or.inl ⟨39, by decide, rfl, by decide⟩) (by rw [(s2.2 6 _ rfl rfl).2.2.2 (by decide)]; exact i1) (fun h2 e3 => ?_)
  replace hf := hf h2 e3
  replace s2 : So 2 (gW G) h2 := by rw [e3]; exact s2.le sc2 (sI_le )
  refine x_aload_n (pc' := 10) 1 (dX3_joined 7 rfl rfl) rfl rfl rfl ?_
  refine x_getR (pc' := 13) (dX3_joined 8 rfl rfl) g39 q488 (Or.inl rfl) rfl (hf_of 2 s2.1 rfl (by decide) m2_39) (s2.2 6 _ rfl rfl).1 ?_
  refine x_iconst (pc' := 14) (v := 1) (dX3_joined 9 rfl rfl) (by decide) rfl ?_
  refine x_iload_n (pc' := 15) 3 (dX3_joined 10 rfl rfl) rfl rfl rfl ?_
  obtain ⟨i4, hf⟩ := hf
  refine x_iast (pc' := 16) (dX3_joined 11 rfl rfl) rfl (s2.2 6 _ rfl rfl).2.1 (Or.inl ⟨39, by decide, rfl, by decide⟩) (by rw [(s2.2 6 _ rfl rfl).2.2.2 (by decide)]; exact i4) (fun h5 e6 => ?_)
  replace hf := hf h5 e6
  replace s2 : So 2 (gW G) h5 := by rw [e6]; exact s2.le sc2 (sI_le )
  refine x_iconst (pc' := 17) (v := 2) (dX3_joined 12 rfl rfl) (by decide) rfl ?_
  refine x_istore_n (pc' := 18) (dX3_joined 13 rfl rfl) rfl (by decide) rfl rfl ?_
  exact X.sub [1, 0] rfl (by simp) hf
theorem bX3_joined_18 (G : Gh) (d : Nat) (h : AH) (Q : Outcome → AH → Prop) (l3 : Int32) (s2 : So 2 (gW G) h) (hf : (l3 ≤ 0 → (Q (.returned (some (.int 1))) h)) ∧ (¬ (l3 ≤ 0) → (∀ x2 : Int32, x2 = l3 + (-2) → (vp_in x2 300000 ∧ (C G mX3_found d [.ref (gW G 2), .int (aI h (gW G 1039) x2.toNatClampNeg)] h (KI Q (fun x6 h4 => vp_in (x2 + 1) 300000 ∧ (C G mX3_found d [.ref (gW G 2), .int (aI h4 (gW G 1039) (x2 + 1).toNatClampNeg)] h4 (KI Q (fun x10 h8 => (x6 = x10 → (X G mX3_joined (d + 1) none [] 18 [(0, .ref (gW G 2)), (3, .int (x2))] [] h8 Q)) ∧ (¬ x6 = x10 → (vp_in x6 150000 ∧ ((0 ≤ (aI h8 (gW G 1030) x6.toNatClampNeg) → (vp_in x10 150000 ∧ ((0 ≤ (aI h8 (gW G 1030) x10.toNatClampNeg) → (vp_in x6 150000 ∧ (vp_in x10 150000 ∧ (((aI h8 (gW G 1030) x6.toNatClampNeg) = (aI h8 (gW G 1030) x10.toNatClampNeg) → (C G mX3_howMany d [.ref (gW G 2), .int (x6)] h8 (KI Q (fun x21 h19 => vp_in x6 150000 ∧ ∀ h23, h23 = sI h19 (gW G 1032) x6.toNatClampNeg x10 → (X G mX3_joined (d + 1) none [] 144 [(0, .ref (gW G 2)), (3, .int (x2)), (4, .int (x6)), (5, .int (x10)), (6, .int (x21)), (7, .int (0))] [] h23 Q))))) ∧ (¬ ((aI h8 (gW G 1030) x6.toNatClampNeg) = (aI h8 (gW G 1030) x10.toNatClampNeg)) → (Q (.returned (some (.int 0))) h8)))))) ∧ (¬ (0 ≤ (aI h8 (gW G 1030) x10.toNatClampNeg)) → (vp_in x10 150000 ∧ ∀ h26, h26 = sI h8 (gW G 1032) x10.toNatClampNeg x6 → (X G mX3_joined (d + 1) none [] 18 [(0, .ref (gW G 2)), (3, .int (x2))] [] h26 Q)))))) ∧ (¬ (0 ≤ (aI h8 (gW G 1030) x6.toNatClampNeg)) → (vp_in x6 150000 ∧ ∀ h29, h29 = sI h8 (gW G 1032) x6.toNatClampNeg x10 → (X G mX3_joined (d + 1) none [] 18 [(0, .ref (gW G 2)), (3, .int (x2))] [] h29 Q)))))))))))))))) : X G mX3_joined (d + 1) none [] 18 [(0, .ref (gW G 2)), (3, .int (l3))] [] h Q := by
  refine x_iload_n (pc' := 19) 1 (dX3_joined 14 rfl rfl) rfl rfl rfl ?_
  refine x_if_le (pc' := 22) (tgt := 207) (dX3_joined 15 rfl rfl) (by decide) rfl (fun c1 => ?_) (fun c1 => ?_)
  · replace hf := hf.1 c1
    refine x_iconst (pc' := 208) (v := 1) (dX3_joined 116 rfl rfl) (by decide) rfl ?_
    exact x_zret (ty := .boolean) (dX3_joined 117 rfl rfl) rfl (by decide) hf
  · replace hf := hf.2 c1
    replace hf := hf _ rfl
    refine x_iinc (pc' := 25) 1 (dX3_joined 16 rfl rfl) rfl (by rfl) (by decide) rfl rfl ?_
    refine x_aload_n (pc' := 26) 1 (dX3_joined 17 rfl rfl) rfl rfl rfl ?_
    refine x_aload_n (pc' := 27) 1 (dX3_joined 18 rfl rfl) rfl rfl rfl ?_
    refine x_getR (pc' := 30) (dX3_joined 19 rfl rfl) g39 q488 (Or.inl rfl) rfl (hf_of 2 s2.1 rfl (by decide) m2_39) (s2.2 6 _ rfl rfl).1 ?_
    refine x_iload_n (pc' := 31) 0 (dX3_joined 20 rfl rfl) rfl rfl rfl ?_
    obtain ⟨i3, hf⟩ := hf
    refine x_iald (pc' := 32) (dX3_joined 21 rfl rfl) rfl (s2.2 6 _ rfl rfl).2.1 (by rw [(s2.2 6 _ rfl rfl).2.2.2 (by decide)]; exact i3) ?_
    refine x_inv (pc' := 35) (ν := mX3_found) (av := [_, _]) (st := []) rfl rfl (dX3_joined 22 rfl rfl) (Nat.le_of_ble_eq_true rfl) wX3_found q213 (inv_V (k := 2) (dX3_joined 22 rfl rfl) q2388 q2389 q2390 wX3_found (by decide) lX3_found (by decide) s2.1) (exN (by decide)) rfl ?_
    refine C.mono hf (fun _ _ => KI.g (fun x6 h4 hf le5 => ?_))
    replace s2 := s2.le sc2 (le5)
    refine x_istore (pc' := 37) (dX3_joined 23 rfl rfl) (by decide) rfl rfl ?_
    refine x_aload_n (pc' := 38) 2 (dX3_joined 24 rfl rfl) rfl rfl rfl ?_
    refine x_aload_n (pc' := 39) 2 (dX3_joined 25 rfl rfl) rfl rfl rfl ?_
    refine x_getR (pc' := 42) (dX3_joined 26 rfl rfl) g39 q488 (Or.inl rfl) rfl (hf_of 2 s2.1 rfl (by decide) m2_39) (s2.2 6 _ rfl rfl).1 ?_
    refine x_iload_n (pc' := 43) 1 (dX3_joined 27 rfl rfl) rfl rfl rfl ?_
    refine x_iconst (pc' := 44) (v := 1) (dX3_joined 28 rfl rfl) (by decide) rfl ?_
    refine x_iadd (pc' := 45) (dX3_joined 29 rfl rfl) rfl ?_
    obtain ⟨i7, hf⟩ := hf
    refine x_iald (pc' := 46) (dX3_joined 30 rfl rfl) rfl (s2.2 6 _ rfl rfl).2.1 (by rw [(s2.2 6 _ rfl rfl).2.2.2 (by decide)]; exact i7) ?_
    refine x_inv (pc' := 49) (ν := mX3_found) (av := [_, _]) (st := []) rfl rfl (dX3_joined 31 rfl rfl) (Nat.le_of_ble_eq_true rfl) wX3_found q213 (inv_V (k := 2) (dX3_joined 31 rfl rfl) q2388 q2389 q2390 wX3_found (by decide) lX3_found (by decide) s2.1) (exN (by decide)) rfl ?_
    refine C.mono hf (fun _ _ => KI.g (fun x10 h8 hf le9 => ?_))
    replace s2 := s2.le sc2 (le9)
    refine x_istore (pc' := 51) (dX3_joined 32 rfl rfl) (by decide) rfl rfl ?_
    refine x_iload (pc' := 53) 1 (dX3_joined 33 rfl rfl) rfl rfl ?_
    refine x_iload (pc' := 55) 0 (dX3_joined 34 rfl rfl) rfl rfl ?_
    refine x_icmp_ne (pc' := 58) (tgt := 61) (dX3_joined 35 rfl rfl) (by decide) rfl (fun c11 => ?_) (fun c11 => ?_)
    · replace hf := hf.2 c11
      refine x_aload_n (pc' := 62) 3 (dX3_joined 37 rfl rfl) rfl rfl rfl ?_
      refine x_getR (pc' := 65) (dX3_joined 38 rfl rfl) g30 q479 (Or.inl rfl) rfl (hf_of 2 s2.1 rfl (by decide) m2_30) (s2.2 0 _ rfl rfl).1 ?_
      refine x_iload (pc' := 67) 1 (dX3_joined 39 rfl rfl) rfl rfl ?_
      obtain ⟨i12, hf⟩ := hf
      refine x_iald (pc' := 68) (dX3_joined 40 rfl rfl) rfl (s2.2 0 _ rfl rfl).2.1 (by rw [(s2.2 0 _ rfl rfl).2.2.2 (by decide)]; exact i12) ?_
      refine x_if_ge (pc' := 71) (tgt := 83) (dX3_joined 41 rfl rfl) (by decide) rfl (fun c13 => ?_) (fun c13 => ?_)
      · replace hf := hf.1 c13
        refine x_aload_n (pc' := 84) 3 (dX3_joined 48 rfl rfl) rfl rfl rfl ?_
        refine x_getR (pc' := 87) (dX3_joined 49 rfl rfl) g30 q479 (Or.inl rfl) rfl (hf_of 2 s2.1 rfl (by decide) m2_30) (s2.2 0 _ rfl rfl).1 ?_
        refine x_iload (pc' := 89) 0 (dX3_joined 50 rfl rfl) rfl rfl ?_
        obtain ⟨i14, hf⟩ := hf
        refine x_iald (pc' := 90) (dX3_joined 51 rfl rfl) rfl (s2.2 0 _ rfl rfl).2.1 (by rw [(s2.2 0 _ rfl rfl).2.2.2 (by decide)]; exact i14) ?_
        refine x_if_ge (pc' := 93) (tgt := 105) (dX3_joined 52 rfl rfl) (by decide) rfl (fun c15 => ?_) (fun c15 => ?_)
        · replace hf := hf.1 c15
          refine x_aload_n (pc' := 106) 3 (dX3_joined 59 rfl rfl) rfl rfl rfl ?_
          refine x_getR (pc' := 109) (dX3_joined 60 rfl rfl) g30 q479 (Or.inl rfl) rfl (hf_of 2 s2.1 rfl (by decide) m2_30) (s2.2 0 _ rfl rfl).1 ?_
          refine x_iload (pc' := 111) 1 (dX3_joined 61 rfl rfl) rfl rfl ?_
          obtain ⟨i16, hf⟩ := hf
          refine x_iald (pc' := 112) (dX3_joined 62 rfl rfl) rfl (s2.2 0 _ rfl rfl).2.1 (by rw [(s2.2 0 _ rfl rfl).2.2.2 (by decide)]; exact i16) ?_
          refine x_aload_n (pc' := 113) 3 (dX3_joined 63 rfl rfl) rfl rfl rfl ?_
          refine x_getR (pc' := 116) (dX3_joined 64 rfl rfl) g30 q479 (Or.inl rfl) rfl (hf_of 2 s2.1 rfl (by decide) m2_30) (s2.2 0 _ rfl rfl).1 ?_
          refine x_iload (pc' := 118) 0 (dX3_joined 65 rfl rfl) rfl rfl ?_
          obtain ⟨i17, hf⟩ := hf
          refine x_iald (pc' := 119) (dX3_joined 66 rfl rfl) rfl (s2.2 0 _ rfl rfl).2.1 (by rw [(s2.2 0 _ rfl rfl).2.2.2 (by decide)]; exact i17) ?_
          refine x_icmp_eq (pc' := 122) (tgt := 124) (dX3_joined 67 rfl rfl) (by decide) rfl (fun c18 => ?_) (fun c18 => ?_)
          · replace hf := hf.1 c18
            refine x_aload_n (pc' := 125) 3 (dX3_joined 70 rfl rfl) rfl rfl rfl ?_
            refine x_iload (pc' := 127) 1 (dX3_joined 71 rfl rfl) rfl rfl ?_
            refine x_inv (pc' := 130) (ν := mX3_howMany) (av := [_, _]) (st := []) rfl rfl (dX3_joined 72 rfl rfl) (Nat.le_of_ble_eq_true rfl) wX3_howMany q213 (inv_V (k := 2) (dX3_joined 72 rfl rfl) q2392 q2393 q2394 wX3_howMany (by decide) lX3_howMany (by decide) s2.1) (exN (by decide)) rfl ?_
            refine C.mono hf (fun _ _ => KI.g (fun x21 h19 hf le20 => ?_))
            replace s2 := s2.le sc2 (le20)
            refine x_istore (pc' := 132) (dX3_joined 73 rfl rfl) (by decide) rfl rfl ?_
            refine x_aload_n (pc' := 133) 4 (dX3_joined 74 rfl rfl) rfl rfl rfl ?_
            refine x_getR (pc' := 136) (dX3_joined 75 rfl rfl) g32 q481 (Or.inl rfl) rfl (hf_of 2 s2.1 rfl (by decide) m2_32) (s2.2 2 _ rfl rfl).1 ?_
            refine x_iload (pc' := 138) 2 (dX3_joined 76 rfl rfl) rfl rfl ?_
            refine x_iload (pc' := 140) 1 (dX3_joined 77 rfl rfl) rfl rfl ?_
            obtain ⟨i22, hf⟩ := hf
            refine x_iast (pc' := 141) (dX3_joined 78 rfl rfl) rfl (s2.2 2 _ rfl rfl).2.1 (Or.inl ⟨32, by decide, rfl, by decide⟩) (by rw [(s2.2 2 _ rfl rfl).2.2.2 (by decide)]; exact i22) (fun h23 e24 => ?_)
            replace hf := hf h23 e24
            replace s2 : So 2 (gW G) h23 := by rw [e24]; exact s2.le sc2 (sI_le )
            refine x_iconst (pc' := 142) (v := 0) (dX3_joined 79 rfl rfl) (by decide) rfl ?_
            refine x_istore (pc' := 144) (dX3_joined 80 rfl rfl) (by decide) rfl rfl ?_
            exact X.sub [5, 4, 3, 2, 1, 0] rfl (by simp) hf
          · replace hf := hf.2 c18
            refine x_iconst (pc' := 123) (v := 0) (dX3_joined 68 rfl rfl) (by decide) rfl ?_
            exact x_zret (ty := .boolean) (dX3_joined 69 rfl rfl) rfl (by decide) hf
        · replace hf := hf.2 c15
          refine x_aload_n (pc' := 94) 3 (dX3_joined 53 rfl rfl) rfl rfl rfl ?_
          refine x_getR (pc' := 97) (dX3_joined 54 rfl rfl) g32 q481 (Or.inl rfl) rfl (hf_of 2 s2.1 rfl (by decide) m2_32) (s2.2 2 _ rfl rfl).1 ?_
          refine x_iload (pc' := 99) 0 (dX3_joined 55 rfl rfl) rfl rfl ?_
          refine x_iload (pc' := 101) 1 (dX3_joined 56 rfl rfl) rfl rfl ?_
          obtain ⟨i25, hf⟩ := hf
          refine x_iast (pc' := 102) (dX3_joined 57 rfl rfl) rfl (s2.2 2 _ rfl rfl).2.1 (Or.inl ⟨32, by decide, rfl, by decide⟩) (by rw [(s2.2 2 _ rfl rfl).2.2.2 (by decide)]; exact i25) (fun h26 e27 => ?_)
          replace hf := hf h26 e27
          replace s2 : So 2 (gW G) h26 := by rw [e27]; exact s2.le sc2 (sI_le )
          refine x_goto (tgt := 204) (dX3_joined 58 rfl rfl) (by decide) ?_
          refine x_goto (tgt := 18) (dX3_joined 115 rfl rfl) (by decide) ?_
          exact X.sub [3, 2] rfl (by simp) hf
      · replace hf := hf.2 c13
        refine x_aload_n (pc' := 72) 3 (dX3_joined 42 rfl rfl) rfl rfl rfl ?_
        refine x_getR (pc' := 75) (dX3_joined 43 rfl rfl) g32 q481 (Or.inl rfl) rfl (hf_of 2 s2.1 rfl (by decide) m2_32) (s2.2 2 _ rfl rfl).1 ?_
        refine x_iload (pc' := 77) 1 (dX3_joined 44 rfl rfl) rfl rfl ?_
        refine x_iload (pc' := 79) 0 (dX3_joined 45 rfl rfl) rfl rfl ?_
        obtain ⟨i28, hf⟩ := hf
        refine x_iast (pc' := 80) (dX3_joined 46 rfl rfl) rfl (s2.2 2 _ rfl rfl).2.1 (Or.inl ⟨32, by decide, rfl, by decide⟩) (by rw [(s2.2 2 _ rfl rfl).2.2.2 (by decide)]; exact i28) (fun h29 e30 => ?_)
        replace hf := hf h29 e30
        replace s2 : So 2 (gW G) h29 := by rw [e30]; exact s2.le sc2 (sI_le )
        refine x_goto (tgt := 204) (dX3_joined 47 rfl rfl) (by decide) ?_
        refine x_goto (tgt := 18) (dX3_joined 115 rfl rfl) (by decide) ?_
        exact X.sub [3, 2] rfl (by simp) hf
    · replace hf := hf.1 (Classical.not_not.mp c11)
      replace c11 := Classical.not_not.mp c11
      refine x_goto (tgt := 18) (dX3_joined 36 rfl rfl) (by decide) ?_
      exact X.sub [3, 2] rfl (by simp) hf
theorem bX3_joined_144 (G : Gh) (d : Nat) (h : AH) (Q : Outcome → AH → Prop) (l3 : Int32) (l4 : Int32) (l5 : Int32) (l6 : Int32) (l7 : Int32) (s2 : So 2 (gW G) h) (hf : (l6 ≤ l7 → (X G mX3_joined (d + 1) none [] 18 [(0, .ref (gW G 2)), (3, .int (l3))] [] h Q)) ∧ (¬ (l6 ≤ l7) → (vp_in l4 150000 ∧ (vp_in ((aI h (gW G 1031) l4.toNatClampNeg) + l7) 150000 ∧ (vp_in l3 300000 ∧ ∀ h5, h5 = sI h (gW G 1039) l3.toNatClampNeg (aI h (gW G 1035) ((aI h (gW G 1031) l4.toNatClampNeg) + l7).toNatClampNeg) → (vp_in l5 150000 ∧ (vp_in ((aI h5 (gW G 1031) l5.toNatClampNeg) + l7) 150000 ∧ (vp_in (l3 + 1) 300000 ∧ ∀ h10, h10 = sI h5 (gW G 1039) (l3 + 1).toNatClampNeg (aI h5 (gW G 1035) ((aI h5 (gW G 1031) l5.toNatClampNeg) + l7).toNatClampNeg) → (∀ x12 : Int32, x12 = l3 + 2 → (∀ x13 : Int32, x13 = l7 + 1 → (X G mX3_joined (d + 1) none [] 144 [(0, .ref (gW G 2)), (3, .int (x12)), (4, .int (l4)), (5, .int (l5)), (6, .int (l6)), (7, .int (x13))] [] h10 Q))))))))))) : X G mX3_joined (d + 1) none [] 144 [(0, .ref (gW G 2)), (3, .int (l3)), (4, .int (l4)), (5, .int (l5)), (6, .int (l6)), (7, .int (l7))] [] h Q := by
  refine x_iload (pc' := 146) 5 (dX3_joined 81 rfl rfl) rfl rfl ?_
  refine x_iload (pc' := 148) 4 (dX3_joined 82 rfl rfl) rfl rfl ?_
  refine x_icmp_ge (pc' := 151) (tgt := 204) (dX3_joined 83 rfl rfl) (by decide) rfl (fun c1 => ?_) (fun c1 => ?_)
  · replace hf := hf.1 c1
    refine x_goto (tgt := 18) (dX3_joined 115 rfl rfl) (by decide) ?_
    exact X.sub [0, 1] rfl (by simp) hf
  · replace hf := hf.2 c1
    refine x_aload_n (pc' := 152) 0 (dX3_joined 84 rfl rfl) rfl rfl rfl ?_
    refine x_getR (pc' := 155) (dX3_joined 85 rfl rfl) g39 q488 (Or.inl rfl) rfl (hf_of 2 s2.1 rfl (by decide) m2_39) (s2.2 6 _ rfl rfl).1 ?_
    refine x_iload_n (pc' := 156) 1 (dX3_joined 86 rfl rfl) rfl rfl rfl ?_
    refine x_aload_n (pc' := 157) 0 (dX3_joined 87 rfl rfl) rfl rfl rfl ?_
    refine x_getR (pc' := 160) (dX3_joined 88 rfl rfl) g35 q484 (Or.inl rfl) rfl (hf_of 2 s2.1 rfl (by decide) m2_35) (s2.2 5 _ rfl rfl).1 ?_
    refine x_aload_n (pc' := 161) 0 (dX3_joined 89 rfl rfl) rfl rfl rfl ?_
    refine x_getR (pc' := 164) (dX3_joined 90 rfl rfl) g31 q480 (Or.inl rfl) rfl (hf_of 2 s2.1 rfl (by decide) m2_31) (s2.2 1 _ rfl rfl).1 ?_
    refine x_iload (pc' := 166) 2 (dX3_joined 91 rfl rfl) rfl rfl ?_
    obtain ⟨i2, hf⟩ := hf
    refine x_iald (pc' := 167) (dX3_joined 92 rfl rfl) rfl (s2.2 1 _ rfl rfl).2.1 (by rw [(s2.2 1 _ rfl rfl).2.2.2 (by decide)]; exact i2) ?_
    refine x_iload (pc' := 169) 5 (dX3_joined 93 rfl rfl) rfl rfl ?_
    refine x_iadd (pc' := 170) (dX3_joined 94 rfl rfl) rfl ?_
    obtain ⟨i3, hf⟩ := hf
    refine x_iald (pc' := 171) (dX3_joined 95 rfl rfl) rfl (s2.2 5 _ rfl rfl).2.1 (by rw [(s2.2 5 _ rfl rfl).2.2.2 (by decide)]; exact i3) ?_
    obtain ⟨i4, hf⟩ := hf
    refine x_iast (pc' := 172) (dX3_joined 96 rfl rfl) rfl (s2.2 6 _ rfl rfl).2.1 (Or.inl ⟨39, by decide, rfl, by decide⟩) (by rw [(s2.2 6 _ rfl rfl).2.2.2 (by decide)]; exact i4) (fun h5 e6 => ?_)
    replace hf := hf h5 e6
    replace s2 : So 2 (gW G) h5 := by rw [e6]; exact s2.le sc2 (sI_le )
    refine x_aload_n (pc' := 173) 0 (dX3_joined 97 rfl rfl) rfl rfl rfl ?_
    refine x_getR (pc' := 176) (dX3_joined 98 rfl rfl) g39 q488 (Or.inl rfl) rfl (hf_of 2 s2.1 rfl (by decide) m2_39) (s2.2 6 _ rfl rfl).1 ?_
    refine x_iload_n (pc' := 177) 1 (dX3_joined 99 rfl rfl) rfl rfl rfl ?_
    refine x_iconst (pc' := 178) (v := 1) (dX3_joined 100 rfl rfl) (by decide) rfl ?_
    refine x_iadd (pc' := 179) (dX3_joined 101 rfl rfl) rfl ?_
    refine x_aload_n (pc' := 180) 0 (dX3_joined 102 rfl rfl) rfl rfl rfl ?_
    refine x_getR (pc' := 183) (dX3_joined 103 rfl rfl) g35 q484 (Or.inl rfl) rfl (hf_of 2 s2.1 rfl (by decide) m2_35) (s2.2 5 _ rfl rfl).1 ?_
    refine x_aload_n (pc' := 184) 0 (dX3_joined 104 rfl rfl) rfl rfl rfl ?_
    refine x_getR (pc' := 187) (dX3_joined 105 rfl rfl) g31 q480 (Or.inl rfl) rfl (hf_of 2 s2.1 rfl (by decide) m2_31) (s2.2 1 _ rfl rfl).1 ?_
    refine x_iload (pc' := 189) 3 (dX3_joined 106 rfl rfl) rfl rfl ?_
    obtain ⟨i7, hf⟩ := hf
    refine x_iald (pc' := 190) (dX3_joined 107 rfl rfl) rfl (s2.2 1 _ rfl rfl).2.1 (by rw [(s2.2 1 _ rfl rfl).2.2.2 (by decide)]; exact i7) ?_
    refine x_iload (pc' := 192) 5 (dX3_joined 108 rfl rfl) rfl rfl ?_
    refine x_iadd (pc' := 193) (dX3_joined 109 rfl rfl) rfl ?_
    obtain ⟨i8, hf⟩ := hf
    refine x_iald (pc' := 194) (dX3_joined 110 rfl rfl) rfl (s2.2 5 _ rfl rfl).2.1 (by rw [(s2.2 5 _ rfl rfl).2.2.2 (by decide)]; exact i8) ?_
    obtain ⟨i9, hf⟩ := hf
    refine x_iast (pc' := 195) (dX3_joined 111 rfl rfl) rfl (s2.2 6 _ rfl rfl).2.1 (Or.inl ⟨39, by decide, rfl, by decide⟩) (by rw [(s2.2 6 _ rfl rfl).2.2.2 (by decide)]; exact i9) (fun h10 e11 => ?_)
    replace hf := hf h10 e11
    replace s2 : So 2 (gW G) h10 := by rw [e11]; exact s2.le sc2 (sI_le )
    replace hf := hf _ rfl
    refine x_iinc (pc' := 198) 1 (dX3_joined 112 rfl rfl) rfl (by rfl) (by decide) rfl rfl ?_
    replace hf := hf _ rfl
    refine x_iinc (pc' := 201) 5 (dX3_joined 113 rfl rfl) rfl (by rfl) (by decide) rfl rfl ?_
    refine x_goto (tgt := 144) (dX3_joined 114 rfl rfl) (by decide) ?_
    exact X.sub [2, 1, 3, 4, 5, 0] rfl (by simp) hf
theorem bX3_isFinite (G : Gh) (d : Nat) (h : AH) (Q : Outcome → AH → Prop) (p1 : Int32) (s2 : So 2 (gW G) h) (hf : C G mX3_mark d [.ref (gW G 2)] h (KI Q (fun x3 h1 => C G mX3_mark d [.ref (gW G 2)] h1 (KI Q (fun x6 h4 => vp_in 0 300000 ∧ ∀ h8, h8 = sI h4 (gW G 1039) (0 : Int32).toNatClampNeg p1 → (vp_in 1 300000 ∧ ∀ h11, h11 = sI h8 (gW G 1039) (1 : Int32).toNatClampNeg 0 → (vp_in p1 150000 ∧ ∀ h14, h14 = sI h11 (gW G 1033) p1.toNatClampNeg x3 → (X G mX3_isFinite (d + 1) none [] 37 [(0, .ref (gW G 2)), (2, .int (x3)), (3, .int (x6)), (4, .int (2))] [] h14 Q)))))))) : C G mX3_isFinite (d + 1) [.ref (gW G 2), .int (p1)] h Q := by
  refine C.of_X (by decide +kernel) (Nat.le_of_ble_eq_true rfl) wX3_isFinite ?_
  show X G mX3_isFinite (d + 1) none [] 0 [(0, .ref (gW G 2)), (1, .int (p1))] [] h Q
  refine x_aload_n (pc' := 1) 0 (dX3_isFinite 0 rfl rfl) rfl rfl rfl ?_
  refine x_inv (pc' := 4) (ν := mX3_mark) (av := [_]) (st := []) rfl rfl (dX3_isFinite 1 rfl rfl) (Nat.le_of_ble_eq_true rfl) wX3_mark q213 (inv_V (k := 2) (dX3_isFinite 1 rfl rfl) q2405 q2406 q2407 wX3_mark (by decide) lX3_mark (by decide) s2.1) (exN (by decide)) rfl ?_
  refine C.mono hf (fun _ _ => KI.g (fun x3 h1 hf le2 => ?_))
  replace s2 := s2.le sc2 (le2)
  refine x_istore_n (pc' := 5) (dX3_isFinite 2 rfl rfl) rfl (by decide) rfl rfl ?_
  refine x_aload_n (pc' := 6) 1 (dX3_isFinite 3 rfl rfl) rfl rfl rfl ?_
  refine x_inv (pc' := 9) (ν := mX3_mark) (av := [_]) (st := []) rfl rfl (dX3_isFinite 4 rfl rfl) (Nat.le_of_ble_eq_true rfl) wX3_mark q213 (inv_V (k := 2) (dX3_isFinite 4 rfl rfl) q2405 q2406 q2407 wX3_mark (by decide) lX3_mark (by decide) s2.1) (exN (by decide)) rfl ?_
  refine C.mono hf (fun _ _ => KI.g (fun x6 h4 hf le5 => ?_))
  replace s2 := s2.le sc2 (le5)
  refine x_istore_n (pc' := 10) (dX3_isFinite 5 rfl rfl) rfl (by decide) rfl rfl ?_
  refine x_iconst (pc' := 11) (v := 0) (dX3_isFinite 6 rfl rfl) (by decide) rfl ?_
  refine x_istore (pc' := 13) (dX3_isFinite 7 rfl rfl) (by decide) rfl rfl ?_
  refine x_aload_n (pc' := 14) 3 (dX3_isFinite 8 rfl rfl) rfl rfl rfl ?_
  refine x_getR (pc' := 17) (dX3_isFinite 9 rfl rfl) g39 q488 (Or.inl rfl) rfl (hf_of 2 s2.1 rfl (by decide) m2_39) (s2.2 6 _ rfl rfl).1 ?_
  refine x_iconst (pc' := 18) (v := 0) (dX3_isFinite 10 rfl rfl) (by decide) rfl ?_
  refine x_iload_n (pc' := 19) 4 (dX3_isFinite 11 rfl rfl) rfl rfl rfl ?_
  obtain ⟨i7, hf⟩ := hf
  refine x_iast (pc' := 20) (dX3_isFinite 12 rfl rfl) rfl (s2.2 6 _ rfl rfl).2.1 (Or.inl ⟨39, by decide, rfl, by decide⟩) (by rw [(s2.2 6 _ rfl rfl).2.2.2 (by decide)]; exact i7) (fun h8 e9 => ?_)
  replace hf := hf h8 e9
  replace s2 : So 2 (gW G) h8 := by rw [e9]; exact s2.le sc2 (sI_le )
  refine x_aload_n (pc' := 21) 3 (dX3_isFinite 13 rfl rfl) rfl rfl rfl ?_
  refine x_getR (pc' := 24) (dX3_isFinite 14 rfl rfl) g39 q488 (Or.inl rfl) rfl (hf_of 2 s2.1 rfl (by decide) m2_39) (s2.2 6 _ rfl rfl).1 ?_
  refine x_iconst (pc' := 25) (v := 1) (dX3_isFinite 15 rfl rfl) (by decide) rfl ?_
  refine x_iconst (pc' := 26) (v := 0) (dX3_isFinite 16 rfl rfl) (by decide) rfl ?_
  obtain ⟨i10, hf⟩ := hf
  refine x_iast (pc' := 27) (dX3_isFinite 17 rfl rfl) rfl (s2.2 6 _ rfl rfl).2.1 (Or.inl ⟨39, by decide, rfl, by decide⟩) (by rw [(s2.2 6 _ rfl rfl).2.2.2 (by decide)]; exact i10) (fun h11 e12 => ?_)
  replace hf := hf h11 e12
  replace s2 : So 2 (gW G) h11 := by rw [e12]; exact s2.le sc2 (sI_le )
  refine x_aload_n (pc' := 28) 3 (dX3_isFinite 18 rfl rfl) rfl rfl rfl ?_
  refine x_getR (pc' := 31) (dX3_isFinite 19 rfl rfl) g33 q482 (Or.inl rfl) rfl (hf_of 2 s2.1 rfl (by decide) m2_33) (s2.2 3 _ rfl rfl).1 ?_
  refine x_iload_n (pc' := 32) 4 (dX3_isFinite 20 rfl rfl) rfl rfl rfl ?_
  refine x_iload_n (pc' := 33) 2 (dX3_isFinite 21 rfl rfl) rfl rfl rfl ?_
  obtain ⟨i13, hf⟩ := hf
  refine x_iast (pc' := 34) (dX3_isFinite 22 rfl rfl) rfl (s2.2 3 _ rfl rfl).2.1 (Or.inl ⟨33, by decide, rfl, by decide⟩) (by rw [(s2.2 3 _ rfl rfl).2.2.2 (by decide)]; exact i13) (fun h14 e15 => ?_)
  replace hf := hf h14 e15
  replace s2 : So 2 (gW G) h14 := by rw [e15]; exact s2.le sc2 (sI_le )
  refine x_iconst (pc' := 35) (v := 2) (dX3_isFinite 23 rfl rfl) (by decide) rfl ?_
  refine x_istore (pc' := 37) (dX3_isFinite 24 rfl rfl) (by decide) rfl rfl ?_
  exact X.sub [3, 2, 1, 0] rfl (by simp) hf
theorem bX3_isFinite_37 (G : Gh) (d : Nat) (h : AH) (Q : Outcome → AH → Prop) (l2 : Int32) (l3 : Int32) (l4 : Int32) (s2 : So 2 (gW G) h) (hf : (l4 ≤ 0 → (Q (.returned (some (.int 1))) h)) ∧ (¬ (l4 ≤ 0) → (vp_in (l4 - 2) 300000 ∧ (∀ x3 : Int32, x3 = aI h (gW G 1039) (l4 - 2).toNatClampNeg → (vp_in (l4 - 1) 300000 ∧ (∀ x5 : Int32, x5 = aI h (gW G 1039) (l4 - 1).toNatClampNeg → (C G mX3_howMany d [.ref (gW G 2), .int (x3)] h (KI Q (fun x8 h6 => (x5 = x8 → (vp_in x3 150000 ∧ ∀ h32, h32 = sI h6 (gW G 1033) x3.toNatClampNeg l3 → (∀ x34 : Int32, x34 = l4 + (-2) → (X G mX3_isFinite (d + 1) none [] 37 [(0, .ref (gW G 2)), (2, .int (l2)), (3, .int (l3)), (4, .int (x34))] [] h32 Q)))) ∧ (¬ x5 = x8 → (vp_in (l4 - 1) 300000 ∧ (vp_in (l4 - 1) 300000 ∧ ∀ h12, h12 = sI h6 (gW G 1039) (l4 - 1).toNatClampNeg ((aI h6 (gW G 1039) (l4 - 1).toNatClampNeg) + 1) → (C G mX3_part d [.ref (gW G 2), .int (x3), .int (x5)] h12 (KI Q (fun x16 h14 => vp_in x16 150000 ∧ (((aI h14 (gW G 1033) x16.toNatClampNeg) = l3 → (X G mX3_isFinite (d + 1) none [] 37 [(0, .ref (gW G 2)), (2, .int (l2)), (3, .int (l3)), (4, .int (l4))] [] h14 Q)) ∧ (¬ ((aI h14 (gW G 1033) x16.toNatClampNeg) = l3) → (vp_in x16 150000 ∧ (((aI h14 (gW G 1033) x16.toNatClampNeg) = l2 → (Q (.returned (some (.int 0))) h14)) ∧ (¬ ((aI h14 (gW G 1033) x16.toNatClampNeg) = l2) → (vp_in x16 150000 ∧ ∀ h22, h22 = sI h14 (gW G 1033) x16.toNatClampNeg l2 → (vp_in l4 300000 ∧ ∀ h25, h25 = sI h22 (gW G 1039) l4.toNatClampNeg x16 → (vp_in (l4 + 1) 300000 ∧ ∀ h28, h28 = sI h25 (gW G 1039) (l4 + 1).toNatClampNeg 0 → (∀ x30 : Int32, x30 = l4 + 2 → (X G mX3_isFinite (d + 1) none [] 37 [(0, .ref (gW G 2)), (2, .int (l2)), (3, .int (l3)), (4, .int (x30))] [] h28 Q))))))))))))))))))))))))) : X G mX3_isFinite (d + 1) none [] 37 [(0, .ref (gW G 2)), (2, .int (l2)), (3, .int (l3)), (4, .int (l4))] [] h Q := by
  refine x_iload (pc' := 39) 3 (dX3_isFinite 25 rfl rfl) rfl rfl ?_
  refine x_if_le (pc' := 42) (tgt := 172) (dX3_isFinite 26 rfl rfl) (by decide) rfl (fun c1 => ?_) (fun c1 => ?_)
  · replace hf := hf.1 c1
    refine x_iconst (pc' := 173) (v := 1) (dX3_isFinite 102 rfl rfl) (by decide) rfl ?_
    exact x_zret (ty := .boolean) (dX3_isFinite 103 rfl rfl) rfl (by decide) hf
  · replace hf := hf.2 c1
    refine x_aload_n (pc' := 43) 0 (dX3_isFinite 27 rfl rfl) rfl rfl rfl ?_
    refine x_getR (pc' := 46) (dX3_isFinite 28 rfl rfl) g39 q488 (Or.inl rfl) rfl (hf_of 2 s2.1 rfl (by decide) m2_39) (s2.2 6 _ rfl rfl).1 ?_
    refine x_iload (pc' := 48) 3 (dX3_isFinite 29 rfl rfl) rfl rfl ?_
    refine x_iconst (pc' := 49) (v := 2) (dX3_isFinite 30 rfl rfl) (by decide) rfl ?_
    refine x_isub (pc' := 50) (dX3_isFinite 31 rfl rfl) rfl ?_
    obtain ⟨i2, hf⟩ := hf
    refine x_iald (pc' := 51) (dX3_isFinite 32 rfl rfl) rfl (s2.2 6 _ rfl rfl).2.1 (by rw [(s2.2 6 _ rfl rfl).2.2.2 (by decide)]; exact i2) ?_
    replace hf := hf _ rfl
    refine x_istore (pc' := 53) (dX3_isFinite 33 rfl rfl) (by decide) rfl rfl ?_
    refine x_aload_n (pc' := 54) 1 (dX3_isFinite 34 rfl rfl) rfl rfl rfl ?_
    refine x_getR (pc' := 57) (dX3_isFinite 35 rfl rfl) g39 q488 (Or.inl rfl) rfl (hf_of 2 s2.1 rfl (by decide) m2_39) (s2.2 6 _ rfl rfl).1 ?_
    refine x_iload (pc' := 59) 4 (dX3_isFinite 36 rfl rfl) rfl rfl ?_
    refine x_iconst (pc' := 60) (v := 1) (dX3_isFinite 37 rfl rfl) (by decide) rfl ?_
    refine x_isub (pc' := 61) (dX3_isFinite 38 rfl rfl) rfl ?_
    obtain ⟨i4, hf⟩ := hf
    refine x_iald (pc' := 62) (dX3_isFinite 39 rfl rfl) rfl (s2.2 6 _ rfl rfl).2.1 (by rw [(s2.2 6 _ rfl rfl).2.2.2 (by decide)]; exact i4) ?_
    replace hf := hf _ rfl
    refine x_istore (pc' := 64) (dX3_isFinite 40 rfl rfl) (by decide) rfl rfl ?_
    refine x_iload (pc' := 66) 0 (dX3_isFinite 41 rfl rfl) rfl rfl ?_
    refine x_aload_n (pc' := 67) 2 (dX3_isFinite 42 rfl rfl) rfl rfl rfl ?_
    refine x_iload (pc' := 69) 1 (dX3_isFinite 43 rfl rfl) rfl rfl ?_
    refine x_inv (pc' := 72) (ν := mX3_howMany) (av := [_, _]) (st := [_]) rfl rfl (dX3_isFinite 44 rfl rfl) (Nat.le_of_ble_eq_true rfl) wX3_howMany q213 (inv_V (k := 2) (dX3_isFinite 44 rfl rfl) q2392 q2393 q2394 wX3_howMany (by decide) lX3_howMany (by decide) s2.1) (exN (by decide)) rfl ?_
    refine C.mono hf (fun _ _ => KI.g (fun x8 h6 hf le7 => ?_))
    replace s2 := s2.le sc2 (le7)
    refine x_icmp_ne (pc' := 75) (tgt := 89) (dX3_isFinite 45 rfl rfl) (by decide) rfl (fun c9 => ?_) (fun c9 => ?_)
    · replace hf := hf.2 c9
      refine x_aload_n (pc' := 90) 2 (dX3_isFinite 53 rfl rfl) rfl rfl rfl ?_
      refine x_getR (pc' := 93) (dX3_isFinite 54 rfl rfl) g39 q488 (Or.inl rfl) rfl (hf_of 2 s2.1 rfl (by decide) m2_39) (s2.2 6 _ rfl rfl).1 ?_
      refine x_iload (pc' := 95) 5 (dX3_isFinite 55 rfl rfl) rfl rfl ?_
      refine x_iconst (pc' := 96) (v := 1) (dX3_isFinite 56 rfl rfl) (by decide) rfl ?_
      refine x_isub (pc' := 97) (dX3_isFinite 57 rfl rfl) rfl ?_
      refine x_dup2 (pc' := 98) (dX3_isFinite 58 rfl rfl) rfl rfl rfl ?_
      obtain ⟨i10, hf⟩ := hf
      refine x_iald (pc' := 99) (dX3_isFinite 59 rfl rfl) rfl (s2.2 6 _ rfl rfl).2.1 (by rw [(s2.2 6 _ rfl rfl).2.2.2 (by decide)]; exact i10) ?_
      refine x_iconst (pc' := 100) (v := 1) (dX3_isFinite 60 rfl rfl) (by decide) rfl ?_
      refine x_iadd (pc' := 101) (dX3_isFinite 61 rfl rfl) rfl ?_
      obtain ⟨i11, hf⟩ := hf
      refine x_iast (pc' := 102) (dX3_isFinite 62 rfl rfl) rfl (s2.2 6 _ rfl rfl).2.1 (Or.inl ⟨39, by decide, rfl, by decide⟩) (by rw [(s2.2 6 _ rfl rfl).2.2.2 (by decide)]; exact i11) (fun h12 e13 => ?_)
      replace hf := hf h12 e13
      replace s2 : So 2 (gW G) h12 := by rw [e13]; exact s2.le sc2 (sI_le )
      refine x_aload_n (pc' := 103) 2 (dX3_isFinite 63 rfl rfl) rfl rfl rfl ?_
      refine x_iload (pc' := 105) 1 (dX3_isFinite 64 rfl rfl) rfl rfl ?_
      refine x_iload (pc' := 107) 0 (dX3_isFinite 65 rfl rfl) rfl rfl ?_
      refine x_inv (pc' := 110) (ν := mX3_part) (av := [_, _, _]) (st := []) rfl rfl (dX3_isFinite 66 rfl rfl) (Nat.le_of_ble_eq_true rfl) wX3_part q213 (inv_V (k := 2) (dX3_isFinite 66 rfl rfl) q2396 q2397 q2398 wX3_part (by decide) lX3_part (by decide) s2.1) (exN (by decide)) rfl ?_
      refine C.mono hf (fun _ _ => KI.g (fun x16 h14 hf le15 => ?_))
      replace s2 := s2.le sc2 (le15)
      refine x_istore (pc' := 112) (dX3_isFinite 67 rfl rfl) (by decide) rfl rfl ?_
      refine x_aload_n (pc' := 113) 3 (dX3_isFinite 68 rfl rfl) rfl rfl rfl ?_
      refine x_getR (pc' := 116) (dX3_isFinite 69 rfl rfl) g33 q482 (Or.inl rfl) rfl (hf_of 2 s2.1 rfl (by decide) m2_33) (s2.2 3 _ rfl rfl).1 ?_
      refine x_iload (pc' := 118) 0 (dX3_isFinite 70 rfl rfl) rfl rfl ?_
      obtain ⟨i17, hf⟩ := hf
      refine x_iald (pc' := 119) (dX3_isFinite 71 rfl rfl) rfl (s2.2 3 _ rfl rfl).2.1 (by rw [(s2.2 3 _ rfl rfl).2.2.2 (by decide)]; exact i17) ?_
      refine x_iload_n (pc' := 120) 5 (dX3_isFinite 72 rfl rfl) rfl rfl rfl ?_
      refine x_icmp_ne (pc' := 123) (tgt := 126) (dX3_isFinite 73 rfl rfl) (by decide) rfl (fun c18 => ?_) (fun c18 => ?_)
      · replace hf := hf.2 c18
        refine x_aload_n (pc' := 127) 3 (dX3_isFinite 75 rfl rfl) rfl rfl rfl ?_
        refine x_getR (pc' := 130) (dX3_isFinite 76 rfl rfl) g33 q482 (Or.inl rfl) rfl (hf_of 2 s2.1 rfl (by decide) m2_33) (s2.2 3 _ rfl rfl).1 ?_
        refine x_iload (pc' := 132) 0 (dX3_isFinite 77 rfl rfl) rfl rfl ?_
        obtain ⟨i19, hf⟩ := hf
        refine x_iald (pc' := 133) (dX3_isFinite 78 rfl rfl) rfl (s2.2 3 _ rfl rfl).2.1 (by rw [(s2.2 3 _ rfl rfl).2.2.2 (by decide)]; exact i19) ?_
        refine x_iload_n (pc' := 134) 4 (dX3_isFinite 79 rfl rfl) rfl rfl rfl ?_
        refine x_icmp_ne (pc' := 137) (tgt := 139) (dX3_isFinite 80 rfl rfl) (by decide) rfl (fun c20 => ?_) (fun c20 => ?_)
        · replace hf := hf.2 c20
          refine x_aload_n (pc' := 140) 3 (dX3_isFinite 83 rfl rfl) rfl rfl rfl ?_
          refine x_getR (pc' := 143) (dX3_isFinite 84 rfl rfl) g33 q482 (Or.inl rfl) rfl (hf_of 2 s2.1 rfl (by decide) m2_33) (s2.2 3 _ rfl rfl).1 ?_
          refine x_iload (pc' := 145) 0 (dX3_isFinite 85 rfl rfl) rfl rfl ?_
          refine x_iload_n (pc' := 146) 4 (dX3_isFinite 86 rfl rfl) rfl rfl rfl ?_
          obtain ⟨i21, hf⟩ := hf
          refine x_iast (pc' := 147) (dX3_isFinite 87 rfl rfl) rfl (s2.2 3 _ rfl rfl).2.1 (Or.inl ⟨33, by decide, rfl, by decide⟩) (by rw [(s2.2 3 _ rfl rfl).2.2.2 (by decide)]; exact i21) (fun h22 e23 => ?_)
          replace hf := hf h22 e23
          replace s2 : So 2 (gW G) h22 := by rw [e23]; exact s2.le sc2 (sI_le )
          refine x_aload_n (pc' := 148) 3 (dX3_isFinite 88 rfl rfl) rfl rfl rfl ?_
          refine x_getR (pc' := 151) (dX3_isFinite 89 rfl rfl) g39 q488 (Or.inl rfl) rfl (hf_of 2 s2.1 rfl (by decide) m2_39) (s2.2 6 _ rfl rfl).1 ?_
          refine x_iload (pc' := 153) 6 (dX3_isFinite 90 rfl rfl) rfl rfl ?_
          refine x_iload (pc' := 155) 0 (dX3_isFinite 91 rfl rfl) rfl rfl ?_
          obtain ⟨i24, hf⟩ := hf
          refine x_iast (pc' := 156) (dX3_isFinite 92 rfl rfl) rfl (s2.2 6 _ rfl rfl).2.1 (Or.inl ⟨39, by decide, rfl, by decide⟩) (by rw [(s2.2 6 _ rfl rfl).2.2.2 (by decide)]; exact i24) (fun h25 e26 => ?_)
          replace hf := hf h25 e26
          replace s2 : So 2 (gW G) h25 := by rw [e26]; exact s2.le sc2 (sI_le )
          refine x_aload_n (pc' := 157) 3 (dX3_isFinite 93 rfl rfl) rfl rfl rfl ?_
          refine x_getR (pc' := 160) (dX3_isFinite 94 rfl rfl) g39 q488 (Or.inl rfl) rfl (hf_of 2 s2.1 rfl (by decide) m2_39) (s2.2 6 _ rfl rfl).1 ?_
          refine x_iload (pc' := 162) 6 (dX3_isFinite 95 rfl rfl) rfl rfl ?_
          refine x_iconst (pc' := 163) (v := 1) (dX3_isFinite 96 rfl rfl) (by decide) rfl ?_
          refine x_iadd (pc' := 164) (dX3_isFinite 97 rfl rfl) rfl ?_
          refine x_iconst (pc' := 165) (v := 0) (dX3_isFinite 98 rfl rfl) (by decide) rfl ?_
          obtain ⟨i27, hf⟩ := hf
          refine x_iast (pc' := 166) (dX3_isFinite 99 rfl rfl) rfl (s2.2 6 _ rfl rfl).2.1 (Or.inl ⟨39, by decide, rfl, by decide⟩) (by rw [(s2.2 6 _ rfl rfl).2.2.2 (by decide)]; exact i27) (fun h28 e29 => ?_)
          replace hf := hf h28 e29
          replace s2 : So 2 (gW G) h28 := by rw [e29]; exact s2.le sc2 (sI_le )
          replace hf := hf _ rfl
          refine x_iinc (pc' := 169) 6 (dX3_isFinite 100 rfl rfl) rfl (by rfl) (by decide) rfl rfl ?_
          refine x_goto (tgt := 37) (dX3_isFinite 101 rfl rfl) (by decide) ?_
          exact X.sub [4, 5, 6, 0] rfl (by simp) hf
        · replace hf := hf.1 (Classical.not_not.mp c20)
          replace c20 := Classical.not_not.mp c20
          refine x_iconst (pc' := 138) (v := 0) (dX3_isFinite 81 rfl rfl) (by decide) rfl ?_
          exact x_zret (ty := .boolean) (dX3_isFinite 82 rfl rfl) rfl (by decide) hf
      · replace hf := hf.1 (Classical.not_not.mp c18)
        replace c18 := Classical.not_not.mp c18
        refine x_goto (tgt := 37) (dX3_isFinite 74 rfl rfl) (by decide) ?_
        exact X.sub [3, 4, 5, 6] rfl (by simp) hf
    · replace hf := hf.1 (Classical.not_not.mp c9)
      replace c9 := Classical.not_not.mp c9
      refine x_aload_n (pc' := 76) 2 (dX3_isFinite 46 rfl rfl) rfl rfl rfl ?_
      refine x_getR (pc' := 79) (dX3_isFinite 47 rfl rfl) g33 q482 (Or.inl rfl) rfl (hf_of 2 s2.1 rfl (by decide) m2_33) (s2.2 3 _ rfl rfl).1 ?_
      refine x_iload (pc' := 81) 1 (dX3_isFinite 48 rfl rfl) rfl rfl ?_
      refine x_iload_n (pc' := 82) 4 (dX3_isFinite 49 rfl rfl) rfl rfl rfl ?_
      obtain ⟨i31, hf⟩ := hf
      refine x_iast (pc' := 83) (dX3_isFinite 50 rfl rfl) rfl (s2.2 3 _ rfl rfl).2.1 (Or.inl ⟨33, by decide, rfl, by decide⟩) (by rw [(s2.2 3 _ rfl rfl).2.2.2 (by decide)]; exact i31) (fun h32 e33 => ?_)
      replace hf := hf h32 e33
      replace s2 : So 2 (gW G) h32 := by rw [e33]; exact s2.le sc2 (sI_le )
      replace hf := hf _ rfl
      refine x_iinc (pc' := 86) 5 (dX3_isFinite 51 rfl rfl) rfl (by rfl) (by decide) rfl rfl ?_
      refine x_goto (tgt := 37) (dX3_isFinite 52 rfl rfl) (by decide) ?_
      exact X.sub [3, 4, 5, 0] rfl (by simp) hf
theorem bX3_copied (G : Gh) (d : Nat) (h : AH) (Q : Outcome → AH → Prop) (p1 : Int32) (p2 : Int32) (s2 : So 2 (gW G) h) (hf : C G mX3_found d [.ref (gW G 2), .int (p1)] h (KI Q (fun x3 h1 => vp_in x3 150000 ∧ (((aI h1 (gW G 1032) x3.toNatClampNeg) = ((-2)) → (vp_in x3 150000 ∧ (((aI h1 (gW G 1033) x3.toNatClampNeg) = p2 → (vp_in x3 150000 ∧ (Q (.returned (some (.int (aI h1 (gW G 1034) x3.toNatClampNeg)))) h1))) ∧ (¬ ((aI h1 (gW G 1033) x3.toNatClampNeg) = p2) → (vp_in x3 150000 ∧ ∀ h9, h9 = sI h1 (gW G 1033) x3.toNatClampNeg p2 → (vp_in x3 150000 ∧ ∀ h12, h12 = sI h9 (gW G 1034) x3.toNatClampNeg x3 → (vp_in x3 150000 ∧ (((aI h12 (gW G 1030) x3.toNatClampNeg) = ((-2)) → (C G mX3_variable d [.ref (gW G 2)] h12 (KI Q (fun x23 h21 => vp_in x3 150000 ∧ ∀ h25, h25 = sI h21 (gW G 1034) x3.toNatClampNeg x23 → (C G mX3_howMany d [.ref (gW G 2), .int (x3)] h25 (KI Q (fun x29 h27 => (x29 = 0 → (vp_in x3 150000 ∧ (Q (.returned (some (.int (aI h27 (gW G 1034) x3.toNatClampNeg)))) h27))) ∧ (¬ x29 = 0 → (X G mX3_copied (d + 1) none [] 103 [(0, .ref (gW G 2)), (2, .int (p2)), (3, .int (x3)), (4, .int (x29)), (5, .int (0)), (6, .int (0))] [] h27 Q))))))))) ∧ (¬ ((aI h12 (gW G 1030) x3.toNatClampNeg) = ((-2))) → (C G mX3_howMany d [.ref (gW G 2), .int (x3)] h12 (KI Q (fun x18 h16 => (x18 = 0 → (vp_in x3 150000 ∧ (Q (.returned (some (.int (aI h16 (gW G 1034) x3.toNatClampNeg)))) h16))) ∧ (¬ x18 = 0 → (X G mX3_copied (d + 1) none [] 103 [(0, .ref (gW G 2)), (2, .int (p2)), (3, .int (x3)), (4, .int (x18)), (5, .int (0)), (6, .int (0))] [] h16 Q)))))))))))))) ∧ (¬ ((aI h1 (gW G 1032) x3.toNatClampNeg) = ((-2))) → (vp_in x3 150000 ∧ ∀ h34, h34 = sI h1 (gW G 1034) x3.toNatClampNeg x3 → (Q (.returned (some (.int x3))) h34))))))) : C G mX3_copied (d + 1) [.ref (gW G 2), .int (p1), .int (p2)] h Q := by
  refine C.of_X (by decide +kernel) (Nat.le_of_ble_eq_true rfl) wX3_copied ?_
  show X G mX3_copied (d + 1) none [] 0 [(0, .ref (gW G 2)), (1, .int (p1)), (2, .int (p2))] [] h Q
  refine x_aload_n (pc' := 1) 0 (dX3_copied 0 rfl rfl) rfl rfl rfl ?_
  refine x_iload_n (pc' := 2) 1 (dX3_copied 1 rfl rfl) rfl rfl rfl ?_
  refine x_inv (pc' := 5) (ν := mX3_found) (av := [_, _]) (st := []) rfl rfl (dX3_copied 2 rfl rfl) (Nat.le_of_ble_eq_true rfl) wX3_found q213 (inv_V (k := 2) (dX3_copied 2 rfl rfl) q2388 q2389 q2390 wX3_found (by decide) lX3_found (by decide) s2.1) (exN (by decide)) rfl ?_
  refine C.mono hf (fun _ _ => KI.g (fun x3 h1 hf le2 => ?_))
  replace s2 := s2.le sc2 (le2)
  refine x_istore_n (pc' := 6) (dX3_copied 3 rfl rfl) rfl (by decide) rfl rfl ?_
  refine x_aload_n (pc' := 7) 1 (dX3_copied 4 rfl rfl) rfl rfl rfl ?_
  refine x_getR (pc' := 10) (dX3_copied 5 rfl rfl) g32 q481 (Or.inl rfl) rfl (hf_of 2 s2.1 rfl (by decide) m2_32) (s2.2 2 _ rfl rfl).1 ?_
  refine x_iload_n (pc' := 11) 0 (dX3_copied 6 rfl rfl) rfl rfl rfl ?_
  obtain ⟨i4, hf⟩ := hf
  refine x_iald (pc' := 12) (dX3_copied 7 rfl rfl) rfl (s2.2 2 _ rfl rfl).2.1 (by rw [(s2.2 2 _ rfl rfl).2.2.2 (by decide)]; exact i4) ?_
  refine x_bipush (pc' := 14) (v := -2) (dX3_copied 8 rfl rfl) (by decide) rfl ?_
  refine x_icmp_eq (pc' := 17) (tgt := 26) (dX3_copied 9 rfl rfl) (by decide) rfl (fun c5 => ?_) (fun c5 => ?_)
  · replace hf := hf.1 c5
    refine x_aload_n (pc' := 27) 1 (dX3_copied 17 rfl rfl) rfl rfl rfl ?_
    refine x_getR (pc' := 30) (dX3_copied 18 rfl rfl) g33 q482 (Or.inl rfl) rfl (hf_of 2 s2.1 rfl (by decide) m2_33) (s2.2 3 _ rfl rfl).1 ?_
    refine x_iload_n (pc' := 31) 0 (dX3_copied 19 rfl rfl) rfl rfl rfl ?_
    obtain ⟨i6, hf⟩ := hf
    refine x_iald (pc' := 32) (dX3_copied 20 rfl rfl) rfl (s2.2 3 _ rfl rfl).2.1 (by rw [(s2.2 3 _ rfl rfl).2.2.2 (by decide)]; exact i6) ?_
    refine x_iload_n (pc' := 33) 3 (dX3_copied 21 rfl rfl) rfl rfl rfl ?_
    refine x_icmp_ne (pc' := 36) (tgt := 43) (dX3_copied 22 rfl rfl) (by decide) rfl (fun c7 => ?_) (fun c7 => ?_)
    · replace hf := hf.2 c7
      refine x_aload_n (pc' := 44) 1 (dX3_copied 28 rfl rfl) rfl rfl rfl ?_
      refine x_getR (pc' := 47) (dX3_copied 29 rfl rfl) g33 q482 (Or.inl rfl) rfl (hf_of 2 s2.1 rfl (by decide) m2_33) (s2.2 3 _ rfl rfl).1 ?_
      refine x_iload_n (pc' := 48) 0 (dX3_copied 30 rfl rfl) rfl rfl rfl ?_
      refine x_iload_n (pc' := 49) 3 (dX3_copied 31 rfl rfl) rfl rfl rfl ?_
      obtain ⟨i8, hf⟩ := hf
      refine x_iast (pc' := 50) (dX3_copied 32 rfl rfl) rfl (s2.2 3 _ rfl rfl).2.1 (Or.inl ⟨33, by decide, rfl, by decide⟩) (by rw [(s2.2 3 _ rfl rfl).2.2.2 (by decide)]; exact i8) (fun h9 e10 => ?_)
      replace hf := hf h9 e10
      replace s2 : So 2 (gW G) h9 := by rw [e10]; exact s2.le sc2 (sI_le )
      refine x_aload_n (pc' := 51) 1 (dX3_copied 33 rfl rfl) rfl rfl rfl ?_
      refine x_getR (pc' := 54) (dX3_copied 34 rfl rfl) g34 q483 (Or.inl rfl) rfl (hf_of 2 s2.1 rfl (by decide) m2_34) (s2.2 4 _ rfl rfl).1 ?_
      refine x_iload_n (pc' := 55) 0 (dX3_copied 35 rfl rfl) rfl rfl rfl ?_
      refine x_iload_n (pc' := 56) 0 (dX3_copied 36 rfl rfl) rfl rfl rfl ?_
      obtain ⟨i11, hf⟩ := hf
      refine x_iast (pc' := 57) (dX3_copied 37 rfl rfl) rfl (s2.2 4 _ rfl rfl).2.1 (Or.inl ⟨34, by decide, rfl, by decide⟩) (by rw [(s2.2 4 _ rfl rfl).2.2.2 (by decide)]; exact i11) (fun h12 e13 => ?_)
      replace hf := hf h12 e13
      replace s2 : So 2 (gW G) h12 := by rw [e13]; exact s2.le sc2 (sI_le )
      refine x_aload_n (pc' := 58) 1 (dX3_copied 38 rfl rfl) rfl rfl rfl ?_
      refine x_getR (pc' := 61) (dX3_copied 39 rfl rfl) g30 q479 (Or.inl rfl) rfl (hf_of 2 s2.1 rfl (by decide) m2_30) (s2.2 0 _ rfl rfl).1 ?_
      refine x_iload_n (pc' := 62) 0 (dX3_copied 40 rfl rfl) rfl rfl rfl ?_
      obtain ⟨i14, hf⟩ := hf
      refine x_iald (pc' := 63) (dX3_copied 41 rfl rfl) rfl (s2.2 0 _ rfl rfl).2.1 (by rw [(s2.2 0 _ rfl rfl).2.2.2 (by decide)]; exact i14) ?_
      refine x_bipush (pc' := 65) (v := -2) (dX3_copied 42 rfl rfl) (by decide) rfl ?_
      refine x_icmp_ne (pc' := 68) (tgt := 78) (dX3_copied 43 rfl rfl) (by decide) rfl (fun c15 => ?_) (fun c15 => ?_)
      · replace hf := hf.2 c15
        refine x_aload_n (pc' := 79) 1 (dX3_copied 50 rfl rfl) rfl rfl rfl ?_
        refine x_iload_n (pc' := 80) 0 (dX3_copied 51 rfl rfl) rfl rfl rfl ?_
        refine x_inv (pc' := 83) (ν := mX3_howMany) (av := [_, _]) (st := []) rfl rfl (dX3_copied 52 rfl rfl) (Nat.le_of_ble_eq_true rfl) wX3_howMany q213 (inv_V (k := 2) (dX3_copied 52 rfl rfl) q2392 q2393 q2394 wX3_howMany (by decide) lX3_howMany (by decide) s2.1) (exN (by decide)) rfl ?_
        refine C.mono hf (fun _ _ => KI.g (fun x18 h16 hf le17 => ?_))
        replace s2 := s2.le sc2 (le17)
        refine x_istore (pc' := 85) (dX3_copied 53 rfl rfl) (by decide) rfl rfl ?_
        refine x_iload (pc' := 87) 0 (dX3_copied 54 rfl rfl) rfl rfl ?_
        refine x_if_ne (pc' := 90) (tgt := 97) (dX3_copied 55 rfl rfl) (by decide) rfl (fun c19 => ?_) (fun c19 => ?_)
        · replace hf := hf.2 c19
          refine x_iconst (pc' := 98) (v := 0) (dX3_copied 61 rfl rfl) (by decide) rfl ?_
          refine x_istore (pc' := 100) (dX3_copied 62 rfl rfl) (by decide) rfl rfl ?_
          refine x_iconst (pc' := 101) (v := 0) (dX3_copied 63 rfl rfl) (by decide) rfl ?_
          refine x_istore (pc' := 103) (dX3_copied 64 rfl rfl) (by decide) rfl rfl ?_
          exact X.sub [4, 6, 3, 2, 1, 0] rfl (by simp) hf
        · replace hf := hf.1 (Classical.not_not.mp c19)
          replace c19 := Classical.not_not.mp c19
          refine x_aload_n (pc' := 91) 2 (dX3_copied 56 rfl rfl) rfl rfl rfl ?_
          refine x_getR (pc' := 94) (dX3_copied 57 rfl rfl) g34 q483 (Or.inl rfl) rfl (hf_of 2 s2.1 rfl (by decide) m2_34) (s2.2 4 _ rfl rfl).1 ?_
          refine x_iload_n (pc' := 95) 1 (dX3_copied 58 rfl rfl) rfl rfl rfl ?_
          obtain ⟨i20, hf⟩ := hf
          refine x_iald (pc' := 96) (dX3_copied 59 rfl rfl) rfl (s2.2 4 _ rfl rfl).2.1 (by rw [(s2.2 4 _ rfl rfl).2.2.2 (by decide)]; exact i20) ?_
          exact x_iret (dX3_copied 60 rfl rfl) rfl hf
      · replace hf := hf.1 (Classical.not_not.mp c15)
        replace c15 := Classical.not_not.mp c15
        refine x_aload_n (pc' := 69) 1 (dX3_copied 44 rfl rfl) rfl rfl rfl ?_
        refine x_getR (pc' := 72) (dX3_copied 45 rfl rfl) g34 q483 (Or.inl rfl) rfl (hf_of 2 s2.1 rfl (by decide) m2_34) (s2.2 4 _ rfl rfl).1 ?_
        refine x_iload_n (pc' := 73) 0 (dX3_copied 46 rfl rfl) rfl rfl rfl ?_
        refine x_aload_n (pc' := 74) 1 (dX3_copied 47 rfl rfl) rfl rfl rfl ?_
        refine x_inv (pc' := 77) (ν := mX3_variable) (av := [_]) (st := [_, _]) rfl rfl (dX3_copied 48 rfl rfl) (Nat.le_of_ble_eq_true rfl) wX3_variable q213 (inv_V (k := 2) (dX3_copied 48 rfl rfl) q2452 q2341 q2342 wX3_variable (by decide) lX3_variable (by decide) s2.1) (exN (by decide)) rfl ?_
        refine C.mono hf (fun _ _ => KI.g (fun x23 h21 hf le22 => ?_))
        replace s2 := s2.le sc2 (le22)
        obtain ⟨i24, hf⟩ := hf
        refine x_iast (pc' := 78) (dX3_copied 49 rfl rfl) rfl (s2.2 4 _ rfl rfl).2.1 (Or.inl ⟨34, by decide, rfl, by decide⟩) (by rw [(s2.2 4 _ rfl rfl).2.2.2 (by decide)]; exact i24) (fun h25 e26 => ?_)
        replace hf := hf h25 e26
        replace s2 : So 2 (gW G) h25 := by rw [e26]; exact s2.le sc2 (sI_le )
        refine x_aload_n (pc' := 79) 1 (dX3_copied 50 rfl rfl) rfl rfl rfl ?_
        refine x_iload_n (pc' := 80) 0 (dX3_copied 51 rfl rfl) rfl rfl rfl ?_
        refine x_inv (pc' := 83) (ν := mX3_howMany) (av := [_, _]) (st := []) rfl rfl (dX3_copied 52 rfl rfl) (Nat.le_of_ble_eq_true rfl) wX3_howMany q213 (inv_V (k := 2) (dX3_copied 52 rfl rfl) q2392 q2393 q2394 wX3_howMany (by decide) lX3_howMany (by decide) s2.1) (exN (by decide)) rfl ?_
        refine C.mono hf (fun _ _ => KI.g (fun x29 h27 hf le28 => ?_))
        replace s2 := s2.le sc2 (le28)
        refine x_istore (pc' := 85) (dX3_copied 53 rfl rfl) (by decide) rfl rfl ?_
        refine x_iload (pc' := 87) 0 (dX3_copied 54 rfl rfl) rfl rfl ?_
        refine x_if_ne (pc' := 90) (tgt := 97) (dX3_copied 55 rfl rfl) (by decide) rfl (fun c30 => ?_) (fun c30 => ?_)
        · replace hf := hf.2 c30
          refine x_iconst (pc' := 98) (v := 0) (dX3_copied 61 rfl rfl) (by decide) rfl ?_
          refine x_istore (pc' := 100) (dX3_copied 62 rfl rfl) (by decide) rfl rfl ?_
          refine x_iconst (pc' := 101) (v := 0) (dX3_copied 63 rfl rfl) (by decide) rfl ?_
          refine x_istore (pc' := 103) (dX3_copied 64 rfl rfl) (by decide) rfl rfl ?_
          exact X.sub [4, 6, 3, 2, 1, 0] rfl (by simp) hf
        · replace hf := hf.1 (Classical.not_not.mp c30)
          replace c30 := Classical.not_not.mp c30
          refine x_aload_n (pc' := 91) 2 (dX3_copied 56 rfl rfl) rfl rfl rfl ?_
          refine x_getR (pc' := 94) (dX3_copied 57 rfl rfl) g34 q483 (Or.inl rfl) rfl (hf_of 2 s2.1 rfl (by decide) m2_34) (s2.2 4 _ rfl rfl).1 ?_
          refine x_iload_n (pc' := 95) 1 (dX3_copied 58 rfl rfl) rfl rfl rfl ?_
          obtain ⟨i31, hf⟩ := hf
          refine x_iald (pc' := 96) (dX3_copied 59 rfl rfl) rfl (s2.2 4 _ rfl rfl).2.1 (by rw [(s2.2 4 _ rfl rfl).2.2.2 (by decide)]; exact i31) ?_
          exact x_iret (dX3_copied 60 rfl rfl) rfl hf
    · replace hf := hf.1 (Classical.not_not.mp c7)
      replace c7 := Classical.not_not.mp c7
      refine x_aload_n (pc' := 37) 1 (dX3_copied 23 rfl rfl) rfl rfl rfl ?_
      refine x_getR (pc' := 40) (dX3_copied 24 rfl rfl) g34 q483 (Or.inl rfl) rfl (hf_of 2 s2.1 rfl (by decide) m2_34) (s2.2 4 _ rfl rfl).1 ?_
      refine x_iload_n (pc' := 41) 0 (dX3_copied 25 rfl rfl) rfl rfl rfl ?_
      obtain ⟨i32, hf⟩ := hf
      refine x_iald (pc' := 42) (dX3_copied 26 rfl rfl) rfl (s2.2 4 _ rfl rfl).2.1 (by rw [(s2.2 4 _ rfl rfl).2.2.2 (by decide)]; exact i32) ?_
      exact x_iret (dX3_copied 27 rfl rfl) rfl hf
  · replace hf := hf.2 c5
    refine x_aload_n (pc' := 18) 1 (dX3_copied 10 rfl rfl) rfl rfl rfl ?_
    refine x_getR (pc' := 21) (dX3_copied 11 rfl rfl) g34 q483 (Or.inl rfl) rfl (hf_of 2 s2.1 rfl (by decide) m2_34) (s2.2 4 _ rfl rfl).1 ?_
    refine x_iload_n (pc' := 22) 0 (dX3_copied 12 rfl rfl) rfl rfl rfl ?_
    refine x_iload_n (pc' := 23) 0 (dX3_copied 13 rfl rfl) rfl rfl rfl ?_
    obtain ⟨i33, hf⟩ := hf
    refine x_iast (pc' := 24) (dX3_copied 14 rfl rfl) rfl (s2.2 4 _ rfl rfl).2.1 (Or.inl ⟨34, by decide, rfl, by decide⟩) (by rw [(s2.2 4 _ rfl rfl).2.2.2 (by decide)]; exact i33) (fun h34 e35 => ?_)
    replace hf := hf h34 e35
    replace s2 : So 2 (gW G) h34 := by rw [e35]; exact s2.le sc2 (sI_le )
    refine x_iload_n (pc' := 25) 0 (dX3_copied 15 rfl rfl) rfl rfl rfl ?_
    exact x_iret (dX3_copied 16 rfl rfl) rfl hf
theorem bX3_copied_103 (G : Gh) (d : Nat) (h : AH) (Q : Outcome → AH → Prop) (l2 : Int32) (l3 : Int32) (l4 : Int32) (l5 : Int32) (l6 : Int32) (s2 : So 2 (gW G) h) (hf : (l4 ≤ l6 → ((l5 = 0 → (Q (.returned (some (.int l3))) h)) ∧ (¬ l5 = 0 → (vp_in l3 150000 ∧ (C G mX3_node d [.ref (gW G 2), .int (aI h (gW G 1030) l3.toNatClampNeg)] h (KI Q (fun x6 h4 => ∀ h7, h7 = pI h4 (gW G 2) 37 ((fI h4 (gW G 2) 37) + l4) → (X G mX3_copied (d + 1) none [] 183 [(0, .ref (gW G 2)), (3, .int (l3)), (4, .int (l4)), (6, .int (x6)), (7, .int (0))] [] h7 Q)))))))) ∧ (¬ (l4 ≤ l6) → (C G mX3_part d [.ref (gW G 2), .int (l3), .int (l6)] h (KI Q (fun x11 h9 => C G mX3_copied d [.ref (gW G 2), .int (x11), .int (l2)] h9 (KI Q (fun x14 h12 => C G mX3_part d [.ref (gW G 2), .int (l3), .int (l6)] h12 (KI Q (fun x17 h15 => (x14 = x17 → ((l5 = 0 → (∀ x21 : Int32, x21 = l6 + 1 → (X G mX3_copied (d + 1) none [] 103 [(0, .ref (gW G 2)), (2, .int (l2)), (3, .int (l3)), (4, .int (l4)), (5, .int (0)), (6, .int (x21))] [] h15 Q))) ∧ (¬ l5 = 0 → (∀ x22 : Int32, x22 = l6 + 1 → (X G mX3_copied (d + 1) none [] 103 [(0, .ref (gW G 2)), (2, .int (l2)), (3, .int (l3)), (4, .int (l4)), (5, .int (1)), (6, .int (x22))] [] h15 Q))))) ∧ (¬ x14 = x17 → (∀ x19 : Int32, x19 = l6 + 1 → (X G mX3_copied (d + 1) none [] 103 [(0, .ref (gW G 2)), (2, .int (l2)), (3, .int (l3)), (4, .int (l4)), (5, .int (1)), (6, .int (x19))] [] h15 Q)))))))))))) : X G mX3_copied (d + 1) none [] 103 [(0, .ref (gW G 2)), (2, .int (l2)), (3, .int (l3)), (4, .int (l4)), (5, .int (l5)), (6, .int (l6))] [] h Q := by
  refine x_iload (pc' := 105) 5 (dX3_copied 65 rfl rfl) rfl rfl ?_
  refine x_iload (pc' := 107) 3 (dX3_copied 66 rfl rfl) rfl rfl ?_
  refine x_icmp_ge (pc' := 110) (tgt := 150) (dX3_copied 67 rfl rfl) (by decide) rfl (fun c1 => ?_) (fun c1 => ?_)
  · replace hf := hf.1 c1
    refine x_iload (pc' := 152) 4 (dX3_copied 88 rfl rfl) rfl rfl ?_
    refine x_if_ne (pc' := 155) (tgt := 157) (dX3_copied 89 rfl rfl) (by decide) rfl (fun c2 => ?_) (fun c2 => ?_)
    · replace hf := hf.2 c2
      refine x_aload_n (pc' := 158) 0 (dX3_copied 92 rfl rfl) rfl rfl rfl ?_
      refine x_aload_n (pc' := 159) 0 (dX3_copied 93 rfl rfl) rfl rfl rfl ?_
      refine x_getR (pc' := 162) (dX3_copied 94 rfl rfl) g30 q479 (Or.inl rfl) rfl (hf_of 2 s2.1 rfl (by decide) m2_30) (s2.2 0 _ rfl rfl).1 ?_
      refine x_iload_n (pc' := 163) 2 (dX3_copied 95 rfl rfl) rfl rfl rfl ?_
      obtain ⟨i3, hf⟩ := hf
      refine x_iald (pc' := 164) (dX3_copied 96 rfl rfl) rfl (s2.2 0 _ rfl rfl).2.1 (by rw [(s2.2 0 _ rfl rfl).2.2.2 (by decide)]; exact i3) ?_
      refine x_inv (pc' := 167) (ν := mX3_node) (av := [_, _]) (st := []) rfl rfl (dX3_copied 97 rfl rfl) (Nat.le_of_ble_eq_true rfl) wX3_node q213 (inv_V (k := 2) (dX3_copied 97 rfl rfl) q475 q477 qs1 wX3_node (by decide) lX3_node (by decide) s2.1) (exN (by decide)) rfl ?_
      refine C.mono hf (fun _ _ => KI.g (fun x6 h4 hf le5 => ?_))
      replace s2 := s2.le sc2 (le5)
      refine x_istore (pc' := 169) (dX3_copied 98 rfl rfl) (by decide) rfl rfl ?_
      refine x_aload_n (pc' := 170) 1 (dX3_copied 99 rfl rfl) rfl rfl rfl ?_
      refine x_dup (pc' := 171) (dX3_copied 100 rfl rfl) rfl rfl ?_
      refine x_getI (pc' := 174) (dX3_copied 101 rfl rfl) g37 q486 (Or.inl rfl) rfl (hf_of 2 s2.1 rfl (by decide) m2_37) ?_
      refine x_iload (pc' := 176) 4 (dX3_copied 102 rfl rfl) rfl rfl ?_
      refine x_iadd (pc' := 177) (dX3_copied 103 rfl rfl) rfl ?_
      refine x_putI (pc' := 180) (dX3_copied 104 rfl rfl) g37 q486 (Or.inl rfl) (Or.inl rfl) (Or.inl (by decide)) rfl (hf_of 2 s2.1 rfl (by decide) m2_37) (fun h7 e8 => ?_)
      replace hf := hf h7 e8
      replace s2 : So 2 (gW G) h7 := by rw [e8]; exact s2.le sc2 (pI_le (Or.inl rfl))
      refine x_iconst (pc' := 181) (v := 0) (dX3_copied 105 rfl rfl) (by decide) rfl ?_
      refine x_istore (pc' := 183) (dX3_copied 106 rfl rfl) (by decide) rfl rfl ?_
      exact X.sub [2, 4, 5, 1, 0] rfl (by simp) hf
    · replace hf := hf.1 (Classical.not_not.mp c2)
      replace c2 := Classical.not_not.mp c2
      refine x_iload_n (pc' := 156) 2 (dX3_copied 90 rfl rfl) rfl rfl rfl ?_
      exact x_iret (dX3_copied 91 rfl rfl) rfl hf
  · replace hf := hf.2 c1
    refine x_aload_n (pc' := 111) 0 (dX3_copied 68 rfl rfl) rfl rfl rfl ?_
    refine x_aload_n (pc' := 112) 0 (dX3_copied 69 rfl rfl) rfl rfl rfl ?_
    refine x_iload_n (pc' := 113) 2 (dX3_copied 70 rfl rfl) rfl rfl rfl ?_
    refine x_iload (pc' := 115) 5 (dX3_copied 71 rfl rfl) rfl rfl ?_
    refine x_inv (pc' := 118) (ν := mX3_part) (av := [_, _, _]) (st := [_]) rfl rfl (dX3_copied 72 rfl rfl) (Nat.le_of_ble_eq_true rfl) wX3_part q213 (inv_V (k := 2) (dX3_copied 72 rfl rfl) q2396 q2397 q2398 wX3_part (by decide) lX3_part (by decide) s2.1) (exN (by decide)) rfl ?_
    refine C.mono hf (fun _ _ => KI.g (fun x11 h9 hf le10 => ?_))
    replace s2 := s2.le sc2 (le10)
    refine x_iload_n (pc' := 119) 1 (dX3_copied 73 rfl rfl) rfl rfl rfl ?_
    refine x_inv (pc' := 122) (ν := mX3_copied) (av := [_, _, _]) (st := []) rfl rfl (dX3_copied 74 rfl rfl) (Nat.le_of_ble_eq_true rfl) wX3_copied q213 (inv_V (k := 2) (dX3_copied 74 rfl rfl) q2667 q2664 q2665 wX3_copied (by decide) lX3_copied (by decide) s2.1) (exN (by decide)) rfl ?_
    refine C.mono hf (fun _ _ => KI.g (fun x14 h12 hf le13 => ?_))
    replace s2 := s2.le sc2 (le13)
    refine x_aload_n (pc' := 123) 0 (dX3_copied 75 rfl rfl) rfl rfl rfl ?_
    refine x_iload_n (pc' := 124) 2 (dX3_copied 76 rfl rfl) rfl rfl rfl ?_
    refine x_iload (pc' := 126) 5 (dX3_copied 77 rfl rfl) rfl rfl ?_
    refine x_inv (pc' := 129) (ν := mX3_part) (av := [_, _, _]) (st := [_]) rfl rfl (dX3_copied 78 rfl rfl) (Nat.le_of_ble_eq_true rfl) wX3_part q213 (inv_V (k := 2) (dX3_copied 78 rfl rfl) q2396 q2397 q2398 wX3_part (by decide) lX3_part (by decide) s2.1) (exN (by decide)) rfl ?_
    refine C.mono hf (fun _ _ => KI.g (fun x17 h15 hf le16 => ?_))
    replace s2 := s2.le sc2 (le16)
    refine x_icmp_ne (pc' := 132) (tgt := 137) (dX3_copied 79 rfl rfl) (by decide) rfl (fun c18 => ?_) (fun c18 => ?_)
    · replace hf := hf.2 c18
      refine x_iconst (pc' := 138) (v := 1) (dX3_copied 82 rfl rfl) (by decide) rfl ?_
      refine x_goto (tgt := 142) (dX3_copied 83 rfl rfl) (by decide) ?_
      refine x_istore (pc' := 144) (dX3_copied 85 rfl rfl) (by decide) rfl rfl ?_
      replace hf := hf _ rfl
      refine x_iinc (pc' := 147) 5 (dX3_copied 86 rfl rfl) rfl (by rfl) (by decide) rfl rfl ?_
      refine x_goto (tgt := 103) (dX3_copied 87 rfl rfl) (by decide) ?_
      exact X.sub [2, 3, 4, 5, 1, 0] rfl (by simp) hf
    · replace hf := hf.1 (Classical.not_not.mp c18)
      replace c18 := Classical.not_not.mp c18
      refine x_iload (pc' := 134) 4 (dX3_copied 80 rfl rfl) rfl rfl ?_
      refine x_if_eq (pc' := 137) (tgt := 141) (dX3_copied 81 rfl rfl) (by decide) rfl (fun c20 => ?_) (fun c20 => ?_)
      · replace hf := hf.1 c20
        refine x_iconst (pc' := 142) (v := 0) (dX3_copied 84 rfl rfl) (by decide) rfl ?_
        refine x_istore (pc' := 144) (dX3_copied 85 rfl rfl) (by decide) rfl rfl ?_
        replace hf := hf _ rfl
        refine x_iinc (pc' := 147) 5 (dX3_copied 86 rfl rfl) rfl (by rfl) (by decide) rfl rfl ?_
        refine x_goto (tgt := 103) (dX3_copied 87 rfl rfl) (by decide) ?_
        exact X.sub [2, 3, 4, 5, 1, 0] rfl (by simp) hf
      · replace hf := hf.2 c20
        refine x_iconst (pc' := 138) (v := 1) (dX3_copied 82 rfl rfl) (by decide) rfl ?_
        refine x_goto (tgt := 142) (dX3_copied 83 rfl rfl) (by decide) ?_
        refine x_istore (pc' := 144) (dX3_copied 85 rfl rfl) (by decide) rfl rfl ?_
        replace hf := hf _ rfl
        refine x_iinc (pc' := 147) 5 (dX3_copied 86 rfl rfl) rfl (by rfl) (by decide) rfl rfl ?_
        refine x_goto (tgt := 103) (dX3_copied 87 rfl rfl) (by decide) ?_
        exact X.sub [2, 3, 4, 5, 1, 0] rfl (by simp) hf
theorem bX3_copied_183 (G : Gh) (d : Nat) (h : AH) (Q : Outcome → AH → Prop) (l3 : Int32) (l4 : Int32) (l6 : Int32) (l7 : Int32) (s2 : So 2 (gW G) h) (hf : (l4 ≤ l7 → (vp_in l3 150000 ∧ ∀ h3, h3 = sI h (gW G 1034) l3.toNatClampNeg l6 → (Q (.returned (some (.int l6))) h3))) ∧ (¬ (l4 ≤ l7) → (vp_in l6 150000 ∧ (C G mX3_part d [.ref (gW G 2), .int (l3), .int (l7)] h (KI Q (fun x8 h6 => vp_in x8 150000 ∧ (vp_in ((aI h (gW G 1031) l6.toNatClampNeg) + l7) 150000 ∧ ∀ h11, h11 = sI h6 (gW G 1035) ((aI h (gW G 1031) l6.toNatClampNeg) + l7).toNatClampNeg (aI h6 (gW G 1034) x8.toNatClampNeg) → (∀ x13 : Int32, x13 = l7 + 1 → (X G mX3_copied (d + 1) none [] 183 [(0, .ref (gW G 2)), (3, .int (l3)), (4, .int (l4)), (6, .int (l6)), (7, .int (x13))] [] h11 Q))))))))) : X G mX3_copied (d + 1) none [] 183 [(0, .ref (gW G 2)), (3, .int (l3)), (4, .int (l4)), (6, .int (l6)), (7, .int (l7))] [] h Q := by
  refine x_iload (pc' := 185) 4 (dX3_copied 107 rfl rfl) rfl rfl ?_
  refine x_iload (pc' := 187) 2 (dX3_copied 108 rfl rfl) rfl rfl ?_
  refine x_icmp_ge (pc' := 190) (tgt := 223) (dX3_copied 109 rfl rfl) (by decide) rfl (fun c1 => ?_) (fun c1 => ?_)
  · replace hf := hf.1 c1
    refine x_aload_n (pc' := 224) 0 (dX3_copied 128 rfl rfl) rfl rfl rfl ?_
    refine x_getR (pc' := 227) (dX3_copied 129 rfl rfl) g34 q483 (Or.inl rfl) rfl (hf_of 2 s2.1 rfl (by decide) m2_34) (s2.2 4 _ rfl rfl).1 ?_
    refine x_iload_n (pc' := 228) 1 (dX3_copied 130 rfl rfl) rfl rfl rfl ?_
    refine x_iload (pc' := 230) 3 (dX3_copied 131 rfl rfl) rfl rfl ?_
    obtain ⟨i2, hf⟩ := hf
    refine x_iast (pc' := 231) (dX3_copied 132 rfl rfl) rfl (s2.2 4 _ rfl rfl).2.1 (Or.inl ⟨34, by decide, rfl, by decide⟩) (by rw [(s2.2 4 _ rfl rfl).2.2.2 (by decide)]; exact i2) (fun h3 e4 => ?_)
    replace hf := hf h3 e4
    replace s2 : So 2 (gW G) h3 := by rw [e4]; exact s2.le sc2 (sI_le )
    refine x_iload (pc' := 233) 3 (dX3_copied 133 rfl rfl) rfl rfl ?_
    exact x_iret (dX3_copied 134 rfl rfl) rfl hf
  · replace hf := hf.2 c1
    refine x_aload_n (pc' := 191) 0 (dX3_copied 110 rfl rfl) rfl rfl rfl ?_
    refine x_getR (pc' := 194) (dX3_copied 111 rfl rfl) g35 q484 (Or.inl rfl) rfl (hf_of 2 s2.1 rfl (by decide) m2_35) (s2.2 5 _ rfl rfl).1 ?_
    refine x_aload_n (pc' := 195) 0 (dX3_copied 112 rfl rfl) rfl rfl rfl ?_
    refine x_getR (pc' := 198) (dX3_copied 113 rfl rfl) g31 q480 (Or.inl rfl) rfl (hf_of 2 s2.1 rfl (by decide) m2_31) (s2.2 1 _ rfl rfl).1 ?_
    refine x_iload (pc' := 200) 3 (dX3_copied 114 rfl rfl) rfl rfl ?_
    obtain ⟨i5, hf⟩ := hf
    refine x_iald (pc' := 201) (dX3_copied 115 rfl rfl) rfl (s2.2 1 _ rfl rfl).2.1 (by rw [(s2.2 1 _ rfl rfl).2.2.2 (by decide)]; exact i5) ?_
    refine x_iload (pc' := 203) 4 (dX3_copied 116 rfl rfl) rfl rfl ?_
    refine x_iadd (pc' := 204) (dX3_copied 117 rfl rfl) rfl ?_
    refine x_aload_n (pc' := 205) 0 (dX3_copied 118 rfl rfl) rfl rfl rfl ?_
    refine x_getR (pc' := 208) (dX3_copied 119 rfl rfl) g34 q483 (Or.inl rfl) rfl (hf_of 2 s2.1 rfl (by decide) m2_34) (s2.2 4 _ rfl rfl).1 ?_
    refine x_aload_n (pc' := 209) 0 (dX3_copied 120 rfl rfl) rfl rfl rfl ?_
    refine x_iload_n (pc' := 210) 1 (dX3_copied 121 rfl rfl) rfl rfl rfl ?_
    refine x_iload (pc' := 212) 4 (dX3_copied 122 rfl rfl) rfl rfl ?_
    refine x_inv (pc' := 215) (ν := mX3_part) (av := [_, _, _]) (st := [_, _, _]) rfl rfl (dX3_copied 123 rfl rfl) (Nat.le_of_ble_eq_true rfl) wX3_part q213 (inv_V (k := 2) (dX3_copied 123 rfl rfl) q2396 q2397 q2398 wX3_part (by decide) lX3_part (by decide) s2.1) (exN (by decide)) rfl ?_
    refine C.mono hf (fun _ _ => KI.g (fun x8 h6 hf le7 => ?_))
    replace s2 := s2.le sc2 (le7)
    obtain ⟨i9, hf⟩ := hf
    refine x_iald (pc' := 216) (dX3_copied 124 rfl rfl) rfl (s2.2 4 _ rfl rfl).2.1 (by rw [(s2.2 4 _ rfl rfl).2.2.2 (by decide)]; exact i9) ?_
    obtain ⟨i10, hf⟩ := hf
    refine x_iast (pc' := 217) (dX3_copied 125 rfl rfl) rfl (s2.2 5 _ rfl rfl).2.1 (Or.inl ⟨35, by decide, rfl, by decide⟩) (by rw [(s2.2 5 _ rfl rfl).2.2.2 (by decide)]; exact i10) (fun h11 e12 => ?_)
    replace hf := hf h11 e12
    replace s2 : So 2 (gW G) h11 := by rw [e12]; exact s2.le sc2 (sI_le )
    replace hf := hf _ rfl
    refine x_iinc (pc' := 220) 4 (dX3_copied 126 rfl rfl) rfl (by rfl) (by decide) rfl rfl ?_
    refine x_goto (tgt := 183) (dX3_copied 127 rfl rfl) (by decide) ?_
    exact X.sub [1, 2, 3, 4, 0] rfl (by simp) hf
theorem bX3_touch (G : Gh) (d : Nat) (h : AH) (Q : Outcome → AH → Prop) (p1 : Int32) (p2 : Int32) (s2 : So 2 (gW G) h) (hf : C G mX3_found d [.ref (gW G 2), .int (p1)] h (KI Q (fun x3 h1 => vp_in x3 150000 ∧ (((aI h1 (gW G 1033) x3.toNatClampNeg) = p2 → (Q (.returned none) h1)) ∧ (¬ ((aI h1 (gW G 1033) x3.toNatClampNeg) = p2) → (C G mX3_found d [.ref (gW G 2), .int (p1)] h1 (KI Q (fun x8 h6 => vp_in 0 300000 ∧ ∀ h10, h10 = sI h6 (gW G 1039) (0 : Int32).toNatClampNeg x8 → (vp_in 0 300000 ∧ (vp_in (aI h10 (gW G 1039) (0 : Int32).toNatClampNeg) 150000 ∧ ∀ h14, h14 = sI h10 (gW G 1033) (aI h10 (gW G 1039) (0 : Int32).toNatClampNeg).toNatClampNeg p2 → (X G mX3_touch (d + 1) none [] 42 [(0, .ref (gW G 2)), (2, .int (p2)), (3, .int (1))] [] h14 Q))))))))))) : C G mX3_touch (d + 1) [.ref (gW G 2), .int (p1), .int (p2)] h Q := by
  refine C.of_X (by decide +kernel) (Nat.le_of_ble_eq_true rfl) wX3_touch ?_
  show X G mX3_touch (d + 1) none [] 0 [(0, .ref (gW G 2)), (1, .int (p1)), (2, .int (p2))] [] h Q
  refine x_iconst (pc' := 1) (v := 0) (dX3_touch 0 rfl rfl) (by decide) rfl ?_
  refine x_istore_n (pc' := 2) (dX3_touch 1 rfl rfl) rfl (by decide) rfl rfl ?_
  refine x_aload_n (pc' := 3) 1 (dX3_touch 2 rfl rfl) rfl rfl rfl ?_
  refine x_getR (pc' := 6) (dX3_touch 3 rfl rfl) g33 q482 (Or.inl rfl) rfl (hf_of 2 s2.1 rfl (by decide) m2_33) (s2.2 3 _ rfl rfl).1 ?_
  refine x_aload_n (pc' := 7) 1 (dX3_touch 4 rfl rfl) rfl rfl rfl ?_
  refine x_iload_n (pc' := 8) 2 (dX3_touch 5 rfl rfl) rfl rfl rfl ?_
  refine x_inv (pc' := 11) (ν := mX3_found) (av := [_, _]) (st := [_]) rfl rfl (dX3_touch 6 rfl rfl) (Nat.le_of_ble_eq_true rfl) wX3_found q213 (inv_V (k := 2) (dX3_touch 6 rfl rfl) q2388 q2389 q2390 wX3_found (by decide) lX3_found (by decide) s2.1) (exN (by decide)) rfl ?_
  refine C.mono hf (fun _ _ => KI.g (fun x3 h1 hf le2 => ?_))
  replace s2 := s2.le sc2 (le2)
  obtain ⟨i4, hf⟩ := hf
  refine x_iald (pc' := 12) (dX3_touch 7 rfl rfl) rfl (s2.2 3 _ rfl rfl).2.1 (by rw [(s2.2 3 _ rfl rfl).2.2.2 (by decide)]; exact i4) ?_
  refine x_iload_n (pc' := 13) 3 (dX3_touch 8 rfl rfl) rfl rfl rfl ?_
  refine x_icmp_ne (pc' := 16) (tgt := 17) (dX3_touch 9 rfl rfl) (by decide) rfl (fun c5 => ?_) (fun c5 => ?_)
  · replace hf := hf.2 c5
    refine x_aload_n (pc' := 18) 1 (dX3_touch 11 rfl rfl) rfl rfl rfl ?_
    refine x_getR (pc' := 21) (dX3_touch 12 rfl rfl) g39 q488 (Or.inl rfl) rfl (hf_of 2 s2.1 rfl (by decide) m2_39) (s2.2 6 _ rfl rfl).1 ?_
    refine x_iconst (pc' := 22) (v := 0) (dX3_touch 13 rfl rfl) (by decide) rfl ?_
    refine x_aload_n (pc' := 23) 1 (dX3_touch 14 rfl rfl) rfl rfl rfl ?_
    refine x_iload_n (pc' := 24) 2 (dX3_touch 15 rfl rfl) rfl rfl rfl ?_
    refine x_inv (pc' := 27) (ν := mX3_found) (av := [_, _]) (st := [_, _]) rfl rfl (dX3_touch 16 rfl rfl) (Nat.le_of_ble_eq_true rfl) wX3_found q213 (inv_V (k := 2) (dX3_touch 16 rfl rfl) q2388 q2389 q2390 wX3_found (by decide) lX3_found (by decide) s2.1) (exN (by decide)) rfl ?_
    refine C.mono hf (fun _ _ => KI.g (fun x8 h6 hf le7 => ?_))
    replace s2 := s2.le sc2 (le7)
    obtain ⟨i9, hf⟩ := hf
    refine x_iast (pc' := 28) (dX3_touch 17 rfl rfl) rfl (s2.2 6 _ rfl rfl).2.1 (Or.inl ⟨39, by decide, rfl, by decide⟩) (by rw [(s2.2 6 _ rfl rfl).2.2.2 (by decide)]; exact i9) (fun h10 e11 => ?_)
    replace hf := hf h10 e11
    replace s2 : So 2 (gW G) h10 := by rw [e11]; exact s2.le sc2 (sI_le )
    refine x_aload_n (pc' := 29) 1 (dX3_touch 18 rfl rfl) rfl rfl rfl ?_
    refine x_getR (pc' := 32) (dX3_touch 19 rfl rfl) g33 q482 (Or.inl rfl) rfl (hf_of 2 s2.1 rfl (by decide) m2_33) (s2.2 3 _ rfl rfl).1 ?_
    refine x_aload_n (pc' := 33) 1 (dX3_touch 20 rfl rfl) rfl rfl rfl ?_
    refine x_getR (pc' := 36) (dX3_touch 21 rfl rfl) g39 q488 (Or.inl rfl) rfl (hf_of 2 s2.1 rfl (by decide) m2_39) (s2.2 6 _ rfl rfl).1 ?_
    refine x_iconst (pc' := 37) (v := 0) (dX3_touch 22 rfl rfl) (by decide) rfl ?_
    obtain ⟨i12, hf⟩ := hf
    refine x_iald (pc' := 38) (dX3_touch 23 rfl rfl) rfl (s2.2 6 _ rfl rfl).2.1 (by rw [(s2.2 6 _ rfl rfl).2.2.2 (by decide)]; exact i12) ?_
    refine x_iload_n (pc' := 39) 3 (dX3_touch 24 rfl rfl) rfl rfl rfl ?_
    obtain ⟨i13, hf⟩ := hf
    refine x_iast (pc' := 40) (dX3_touch 25 rfl rfl) rfl (s2.2 3 _ rfl rfl).2.1 (Or.inl ⟨33, by decide, rfl, by decide⟩) (by rw [(s2.2 3 _ rfl rfl).2.2.2 (by decide)]; exact i13) (fun h14 e15 => ?_)
    replace hf := hf h14 e15
    replace s2 : So 2 (gW G) h14 := by rw [e15]; exact s2.le sc2 (sI_le )
    refine x_iconst (pc' := 41) (v := 1) (dX3_touch 26 rfl rfl) (by decide) rfl ?_
    refine x_istore_n (pc' := 42) (dX3_touch 27 rfl rfl) rfl (by decide) rfl rfl ?_
    exact X.sub [1, 3, 0] rfl (by simp) hf
  · replace hf := hf.1 (Classical.not_not.mp c5)
    replace c5 := Classical.not_not.mp c5
    exact x_vret (dX3_touch 10 rfl rfl) rfl hf
theorem bX3_touch_42 (G : Gh) (d : Nat) (h : AH) (Q : Outcome → AH → Prop) (l2 : Int32) (l3 : Int32) (s2 : So 2 (gW G) h) (hf : (l3 ≤ 0 → (Q (.returned none) h)) ∧ (¬ (l3 ≤ 0) → (∀ x2 : Int32, x2 = l3 + (-1) → (vp_in x2 300000 ∧ (∀ x4 : Int32, x4 = aI h (gW G 1039) x2.toNatClampNeg → (C G mX3_howMany d [.ref (gW G 2), .int (x4)] h (KI Q (fun x7 h5 => X G mX3_touch (d + 1) none [] 68 [(0, .ref (gW G 2)), (2, .int (l2)), (3, .int (x2)), (4, .int (x4)), (5, .int (x7)), (6, .int (0))] [] h5 Q)))))))) : X G mX3_touch (d + 1) none [] 42 [(0, .ref (gW G 2)), (2, .int (l2)), (3, .int (l3))] [] h Q := by
  refine x_iload_n (pc' := 43) 2 (dX3_touch 28 rfl rfl) rfl rfl rfl ?_
  refine x_if_le (pc' := 46) (tgt := 127) (dX3_touch 29 rfl rfl) (by decide) rfl (fun c1 => ?_) (fun c1 => ?_)
  · replace hf := hf.1 c1
    exact x_vret (dX3_touch 71 rfl rfl) rfl hf
  · replace hf := hf.2 c1
    replace hf := hf _ rfl
    refine x_iinc (pc' := 49) 2 (dX3_touch 30 rfl rfl) rfl (by rfl) (by decide) rfl rfl ?_
    refine x_aload_n (pc' := 50) 1 (dX3_touch 31 rfl rfl) rfl rfl rfl ?_
    refine x_getR (pc' := 53) (dX3_touch 32 rfl rfl) g39 q488 (Or.inl rfl) rfl (hf_of 2 s2.1 rfl (by decide) m2_39) (s2.2 6 _ rfl rfl).1 ?_
    refine x_iload_n (pc' := 54) 0 (dX3_touch 33 rfl rfl) rfl rfl rfl ?_
    obtain ⟨i3, hf⟩ := hf
    refine x_iald (pc' := 55) (dX3_touch 34 rfl rfl) rfl (s2.2 6 _ rfl rfl).2.1 (by rw [(s2.2 6 _ rfl rfl).2.2.2 (by decide)]; exact i3) ?_
    replace hf := hf _ rfl
    refine x_istore (pc' := 57) (dX3_touch 35 rfl rfl) (by decide) rfl rfl ?_
    refine x_aload_n (pc' := 58) 2 (dX3_touch 36 rfl rfl) rfl rfl rfl ?_
    refine x_iload (pc' := 60) 0 (dX3_touch 37 rfl rfl) rfl rfl ?_
    refine x_inv (pc' := 63) (ν := mX3_howMany) (av := [_, _]) (st := []) rfl rfl (dX3_touch 38 rfl rfl) (Nat.le_of_ble_eq_true rfl) wX3_howMany q213 (inv_V (k := 2) (dX3_touch 38 rfl rfl) q2392 q2393 q2394 wX3_howMany (by decide) lX3_howMany (by decide) s2.1) (exN (by decide)) rfl ?_
    refine C.mono hf (fun _ _ => KI.g (fun x7 h5 hf le6 => ?_))
    replace s2 := s2.le sc2 (le6)
    refine x_istore (pc' := 65) (dX3_touch 39 rfl rfl) (by decide) rfl rfl ?_
    refine x_iconst (pc' := 66) (v := 0) (dX3_touch 40 rfl rfl) (by decide) rfl ?_
    refine x_istore (pc' := 68) (dX3_touch 41 rfl rfl) (by decide) rfl rfl ?_
    exact X.sub [4, 5, 3, 2, 1, 0] rfl (by simp) hf
theorem bX3_touch_68 (G : Gh) (d : Nat) (h : AH) (Q : Outcome → AH → Prop) (l2 : Int32) (l3 : Int32) (l4 : Int32) (l5 : Int32) (l6 : Int32) (s2 : So 2 (gW G) h) (hf : (l5 ≤ l6 → (X G mX3_touch (d + 1) none [] 42 [(0, .ref (gW G 2)), (2, .int (l2)), (3, .int (l3))] [] h Q)) ∧ (¬ (l5 ≤ l6) → (C G mX3_part d [.ref (gW G 2), .int (l4), .int (l6)] h (KI Q (fun x4 h2 => vp_in x4 150000 ∧ (((aI h2 (gW G 1033) x4.toNatClampNeg) = l2 → (∀ x15 : Int32, x15 = l6 + 1 → (X G mX3_touch (d + 1) none [] 68 [(0, .ref (gW G 2)), (2, .int (l2)), (3, .int (l3)), (4, .int (l4)), (5, .int (l5)), (6, .int (x15))] [] h2 Q))) ∧ (¬ ((aI h2 (gW G 1033) x4.toNatClampNeg) = l2) → (vp_in x4 150000 ∧ ∀ h8, h8 = sI h2 (gW G 1033) x4.toNatClampNeg l2 → (vp_in l3 300000 ∧ ∀ h11, h11 = sI h8 (gW G 1039) l3.toNatClampNeg x4 → (∀ x13 : Int32, x13 = l3 + 1 → (∀ x14 : Int32, x14 = l6 + 1 → (X G mX3_touch (d + 1) none [] 68 [(0, .ref (gW G 2)), (2, .int (l2)), (3, .int (x13)), (4, .int (l4)), (5, .int (l5)), (6, .int (x14))] [] h11 Q)))))))))))) : X G mX3_touch (d + 1) none [] 68 [(0, .ref (gW G 2)), (2, .int (l2)), (3, .int (l3)), (4, .int (l4)), (5, .int (l5)), (6, .int (l6))] [] h Q := by
  refine x_iload (pc' := 70) 5 (dX3_touch 42 rfl rfl) rfl rfl ?_
  refine x_iload (pc' := 72) 4 (dX3_touch 43 rfl rfl) rfl rfl ?_
  refine x_icmp_ge (pc' := 75) (tgt := 124) (dX3_touch 44 rfl rfl) (by decide) rfl (fun c1 => ?_) (fun c1 => ?_)
  · replace hf := hf.1 c1
    refine x_goto (tgt := 42) (dX3_touch 70 rfl rfl) (by decide) ?_
    exact X.sub [0, 1, 2] rfl (by simp) hf
  · replace hf := hf.2 c1
    refine x_aload_n (pc' := 76) 0 (dX3_touch 45 rfl rfl) rfl rfl rfl ?_
    refine x_iload (pc' := 78) 3 (dX3_touch 46 rfl rfl) rfl rfl ?_
    refine x_iload (pc' := 80) 5 (dX3_touch 47 rfl rfl) rfl rfl ?_
    refine x_inv (pc' := 83) (ν := mX3_part) (av := [_, _, _]) (st := []) rfl rfl (dX3_touch 48 rfl rfl) (Nat.le_of_ble_eq_true rfl) wX3_part q213 (inv_V (k := 2) (dX3_touch 48 rfl rfl) q2396 q2397 q2398 wX3_part (by decide) lX3_part (by decide) s2.1) (exN (by decide)) rfl ?_
    refine C.mono hf (fun _ _ => KI.g (fun x4 h2 hf le3 => ?_))
    replace s2 := s2.le sc2 (le3)
    refine x_istore (pc' := 85) (dX3_touch 49 rfl rfl) (by decide) rfl rfl ?_
    refine x_aload_n (pc' := 86) 1 (dX3_touch 50 rfl rfl) rfl rfl rfl ?_
    refine x_getR (pc' := 89) (dX3_touch 51 rfl rfl) g33 q482 (Or.inl rfl) rfl (hf_of 2 s2.1 rfl (by decide) m2_33) (s2.2 3 _ rfl rfl).1 ?_
    refine x_iload (pc' := 91) 0 (dX3_touch 52 rfl rfl) rfl rfl ?_
    obtain ⟨i5, hf⟩ := hf
    refine x_iald (pc' := 92) (dX3_touch 53 rfl rfl) rfl (s2.2 3 _ rfl rfl).2.1 (by rw [(s2.2 3 _ rfl rfl).2.2.2 (by decide)]; exact i5) ?_
    refine x_iload_n (pc' := 93) 2 (dX3_touch 54 rfl rfl) rfl rfl rfl ?_
    refine x_icmp_ne (pc' := 96) (tgt := 99) (dX3_touch 55 rfl rfl) (by decide) rfl (fun c6 => ?_) (fun c6 => ?_)
    · replace hf := hf.2 c6
      refine x_aload_n (pc' := 100) 1 (dX3_touch 57 rfl rfl) rfl rfl rfl ?_
      refine x_getR (pc' := 103) (dX3_touch 58 rfl rfl) g33 q482 (Or.inl rfl) rfl (hf_of 2 s2.1 rfl (by decide) m2_33) (s2.2 3 _ rfl rfl).1 ?_
      refine x_iload (pc' := 105) 0 (dX3_touch 59 rfl rfl) rfl rfl ?_
      refine x_iload_n (pc' := 106) 2 (dX3_touch 60 rfl rfl) rfl rfl rfl ?_
      obtain ⟨i7, hf⟩ := hf
      refine x_iast (pc' := 107) (dX3_touch 61 rfl rfl) rfl (s2.2 3 _ rfl rfl).2.1 (Or.inl ⟨33, by decide, rfl, by decide⟩) (by rw [(s2.2 3 _ rfl rfl).2.2.2 (by decide)]; exact i7) (fun h8 e9 => ?_)
      replace hf := hf h8 e9
      replace s2 : So 2 (gW G) h8 := by rw [e9]; exact s2.le sc2 (sI_le )
      refine x_aload_n (pc' := 108) 1 (dX3_touch 62 rfl rfl) rfl rfl rfl ?_
      refine x_getR (pc' := 111) (dX3_touch 63 rfl rfl) g39 q488 (Or.inl rfl) rfl (hf_of 2 s2.1 rfl (by decide) m2_39) (s2.2 6 _ rfl rfl).1 ?_
      refine x_iload_n (pc' := 112) 3 (dX3_touch 64 rfl rfl) rfl rfl rfl ?_
      refine x_iload (pc' := 114) 0 (dX3_touch 65 rfl rfl) rfl rfl ?_
      obtain ⟨i10, hf⟩ := hf
      refine x_iast (pc' := 115) (dX3_touch 66 rfl rfl) rfl (s2.2 6 _ rfl rfl).2.1 (Or.inl ⟨39, by decide, rfl, by decide⟩) (by rw [(s2.2 6 _ rfl rfl).2.2.2 (by decide)]; exact i10) (fun h11 e12 => ?_)
      replace hf := hf h11 e12
      replace s2 : So 2 (gW G) h11 := by rw [e12]; exact s2.le sc2 (sI_le )
      replace hf := hf _ rfl
      refine x_iinc (pc' := 118) 3 (dX3_touch 67 rfl rfl) rfl (by rfl) (by decide) rfl rfl ?_
      replace hf := hf _ rfl
      refine x_iinc (pc' := 121) 6 (dX3_touch 68 rfl rfl) rfl (by rfl) (by decide) rfl rfl ?_
      refine x_goto (tgt := 68) (dX3_touch 69 rfl rfl) (by decide) ?_
      exact X.sub [3, 4, 1, 5, 6, 0] rfl (by simp) hf
    · replace hf := hf.1 (Classical.not_not.mp c6)
      replace c6 := Classical.not_not.mp c6
      refine x_goto (tgt := 118) (dX3_touch 56 rfl rfl) (by decide) ?_
      replace hf := hf _ rfl
      refine x_iinc (pc' := 121) 6 (dX3_touch 68 rfl rfl) rfl (by rfl) (by decide) rfl rfl ?_
      refine x_goto (tgt := 68) (dX3_touch 69 rfl rfl) (by decide) ?_
      exact X.sub [2, 3, 4, 5, 6, 0] rfl (by simp) hf
theorem bX3_generalise (G : Gh) (d : Nat) (h : AH) (Q : Outcome → AH → Prop) (p1 : Int32) (p2 : Int32) (p3 : Int32) (s2 : So 2 (gW G) h) (hf : C G mX3_found d [.ref (gW G 2), .int (p1)] h (KI Q (fun x3 h1 => vp_in x3 150000 ∧ (((aI h1 (gW G 1033) x3.toNatClampNeg) = p2 → (Q (.returned (some (.int 0))) h1)) ∧ (¬ ((aI h1 (gW G 1033) x3.toNatClampNeg) = p2) → (vp_in x3 150000 ∧ (((aI h1 (gW G 1033) x3.toNatClampNeg) = p3 → (vp_in x3 150000 ∧ (((aI h1 (gW G 1032) x3.toNatClampNeg) = ((-2)) → (Q (.returned (some (.int 1))) h1)) ∧ (¬ ((aI h1 (gW G 1032) x3.toNatClampNeg) = ((-2))) → (Q (.returned (some (.int 0))) h1))))) ∧ (¬ ((aI h1 (gW G 1033) x3.toNatClampNeg) = p3) → (vp_in x3 150000 ∧ ∀ h9, h9 = sI h1 (gW G 1033) x3.toNatClampNeg p3 → (vp_in x3 150000 ∧ ((0 ≤ (aI h9 (gW G 1030) x3.toNatClampNeg) → (C G mX3_howMany d [.ref (gW G 2), .int (x3)] h9 (KI Q (fun x16 h14 => X G mX3_generalise (d + 1) none [] 99 [(0, .ref (gW G 2)), (2, .int (p2)), (3, .int (p3)), (4, .int (x3)), (5, .int (0)), (6, .int (x16)), (7, .int (0))] [] h14 Q)))) ∧ (¬ (0 ≤ (aI h9 (gW G 1030) x3.toNatClampNeg)) → (vp_in x3 150000 ∧ ∀ h19, h19 = sI h9 (gW G 1030) x3.toNatClampNeg ((-2)) → (C G mX3_howMany d [.ref (gW G 2), .int (x3)] h19 (KI Q (fun x23 h21 => X G mX3_generalise (d + 1) none [] 99 [(0, .ref (gW G 2)), (2, .int (p2)), (3, .int (p3)), (4, .int (x3)), (5, .int (1)), (6, .int (x23)), (7, .int (0))] [] h21 Q)))))))))))))))) : C G mX3_generalise (d + 1) [.ref (gW G 2), .int (p1), .int (p2), .int (p3)] h Q := by
  refine C.of_X (by decide +kernel) (Nat.le_of_ble_eq_true rfl) wX3_generalise ?_
  show X G mX3_generalise (d + 1) none [] 0 [(0, .ref (gW G 2)), (1, .int (p1)), (2, .int (p2)), (3, .int (p3))] [] h Q
  refine x_aload_n (pc' := 1) 0 (dX3_generalise 0 rfl rfl) rfl rfl rfl ?_
  refine x_iload_n (pc' := 2) 1 (dX3_generalise 1 rfl rfl) rfl rfl rfl ?_
  refine x_inv (pc' := 5) (ν := mX3_found) (av := [_, _]) (st := []) rfl rfl (dX3_generalise 2 rfl rfl) (Nat.le_of_ble_eq_true rfl) wX3_found q213 (inv_V (k := 2) (dX3_generalise 2 rfl rfl) q2388 q2389 q2390 wX3_found (by decide) lX3_found (by decide) s2.1) (exN (by decide)) rfl ?_
  refine C.mono hf (fun _ _ => KI.g (fun x3 h1 hf le2 => ?_))
  replace s2 := s2.le sc2 (le2)
  refine x_istore (pc' := 7) (dX3_generalise 3 rfl rfl) (by decide) rfl rfl ?_
  refine x_aload_n (pc' := 8) 1 (dX3_generalise 4 rfl rfl) rfl rfl rfl ?_
  refine x_getR (pc' := 11) (dX3_generalise 5 rfl rfl) g33 q482 (Or.inl rfl) rfl (hf_of 2 s2.1 rfl (by decide) m2_33) (s2.2 3 _ rfl rfl).1 ?_
  refine x_iload (pc' := 13) 0 (dX3_generalise 6 rfl rfl) rfl rfl ?_
  obtain ⟨i4, hf⟩ := hf
  refine x_iald (pc' := 14) (dX3_generalise 7 rfl rfl) rfl (s2.2 3 _ rfl rfl).2.1 (by rw [(s2.2 3 _ rfl rfl).2.2.2 (by decide)]; exact i4) ?_
  refine x_iload_n (pc' := 15) 3 (dX3_generalise 8 rfl rfl) rfl rfl rfl ?_
  refine x_icmp_ne (pc' := 18) (tgt := 20) (dX3_generalise 9 rfl rfl) (by decide) rfl (fun c5 => ?_) (fun c5 => ?_)
  · replace hf := hf.2 c5
    refine x_aload_n (pc' := 21) 1 (dX3_generalise 12 rfl rfl) rfl rfl rfl ?_
    refine x_getR (pc' := 24) (dX3_generalise 13 rfl rfl) g33 q482 (Or.inl rfl) rfl (hf_of 2 s2.1 rfl (by decide) m2_33) (s2.2 3 _ rfl rfl).1 ?_
    refine x_iload (pc' := 26) 0 (dX3_generalise 14 rfl rfl) rfl rfl ?_
    obtain ⟨i6, hf⟩ := hf
    refine x_iald (pc' := 27) (dX3_generalise 15 rfl rfl) rfl (s2.2 3 _ rfl rfl).2.1 (by rw [(s2.2 3 _ rfl rfl).2.2.2 (by decide)]; exact i6) ?_
    refine x_iload_n (pc' := 28) 4 (dX3_generalise 16 rfl rfl) rfl rfl rfl ?_
    refine x_icmp_ne (pc' := 31) (tgt := 49) (dX3_generalise 17 rfl rfl) (by decide) rfl (fun c7 => ?_) (fun c7 => ?_)
    · replace hf := hf.2 c7
      refine x_aload_n (pc' := 50) 1 (dX3_generalise 28 rfl rfl) rfl rfl rfl ?_
      refine x_getR (pc' := 53) (dX3_generalise 29 rfl rfl) g33 q482 (Or.inl rfl) rfl (hf_of 2 s2.1 rfl (by decide) m2_33) (s2.2 3 _ rfl rfl).1 ?_
      refine x_iload (pc' := 55) 0 (dX3_generalise 30 rfl rfl) rfl rfl ?_
      refine x_iload_n (pc' := 56) 4 (dX3_generalise 31 rfl rfl) rfl rfl rfl ?_
      obtain ⟨i8, hf⟩ := hf
      refine x_iast (pc' := 57) (dX3_generalise 32 rfl rfl) rfl (s2.2 3 _ rfl rfl).2.1 (Or.inl ⟨33, by decide, rfl, by decide⟩) (by rw [(s2.2 3 _ rfl rfl).2.2.2 (by decide)]; exact i8) (fun h9 e10 => ?_)
      replace hf := hf h9 e10
      replace s2 : So 2 (gW G) h9 := by rw [e10]; exact s2.le sc2 (sI_le )
      refine x_aload_n (pc' := 58) 1 (dX3_generalise 33 rfl rfl) rfl rfl rfl ?_
      refine x_getR (pc' := 61) (dX3_generalise 34 rfl rfl) g30 q479 (Or.inl rfl) rfl (hf_of 2 s2.1 rfl (by decide) m2_30) (s2.2 0 _ rfl rfl).1 ?_
      refine x_iload (pc' := 63) 0 (dX3_generalise 35 rfl rfl) rfl rfl ?_
      obtain ⟨i11, hf⟩ := hf
      refine x_iald (pc' := 64) (dX3_generalise 36 rfl rfl) rfl (s2.2 0 _ rfl rfl).2.1 (by rw [(s2.2 0 _ rfl rfl).2.2.2 (by decide)]; exact i11) ?_
      refine x_if_ge (pc' := 67) (tgt := 71) (dX3_generalise 37 rfl rfl) (by decide) rfl (fun c12 => ?_) (fun c12 => ?_)
      · replace hf := hf.1 c12
        refine x_iconst (pc' := 72) (v := 0) (dX3_generalise 40 rfl rfl) (by decide) rfl ?_
        refine x_istore (pc' := 74) (dX3_generalise 41 rfl rfl) (by decide) rfl rfl ?_
        refine x_iload (pc' := 76) 0 (dX3_generalise 42 rfl rfl) rfl rfl ?_
        refine x_if_eq (pc' := 79) (tgt := 88) (dX3_generalise 43 rfl rfl) (by decide) rfl (fun c13 => ?_) (fun c13 => ?_)
        · refine x_aload_n (pc' := 89) 2 (dX3_generalise 49 rfl rfl) rfl rfl rfl ?_
          refine x_iload (pc' := 91) 1 (dX3_generalise 50 rfl rfl) rfl rfl ?_
          refine x_inv (pc' := 94) (ν := mX3_howMany) (av := [_, _]) (st := []) rfl rfl (dX3_generalise 51 rfl rfl) (Nat.le_of_ble_eq_true rfl) wX3_howMany q213 (inv_V (k := 2) (dX3_generalise 51 rfl rfl) q2392 q2393 q2394 wX3_howMany (by decide) lX3_howMany (by decide) s2.1) (exN (by decide)) rfl ?_
          refine C.mono hf (fun _ _ => KI.g (fun x16 h14 hf le15 => ?_))
          replace s2 := s2.le sc2 (le15)
          refine x_istore (pc' := 96) (dX3_generalise 52 rfl rfl) (by decide) rfl rfl ?_
          refine x_iconst (pc' := 97) (v := 0) (dX3_generalise 53 rfl rfl) (by decide) rfl ?_
          refine x_istore (pc' := 99) (dX3_generalise 54 rfl rfl) (by decide) rfl rfl ?_
          exact X.sub [4, 6, 7, 3, 2, 1, 0] rfl (by simp) hf
        · exact absurd (by decide) c13
      · replace hf := hf.2 c12
        refine x_iconst (pc' := 68) (v := 1) (dX3_generalise 38 rfl rfl) (by decide) rfl ?_
        refine x_goto (tgt := 72) (dX3_generalise 39 rfl rfl) (by decide) ?_
        refine x_istore (pc' := 74) (dX3_generalise 41 rfl rfl) (by decide) rfl rfl ?_
        refine x_iload (pc' := 76) 0 (dX3_generalise 42 rfl rfl) rfl rfl ?_
        refine x_if_eq (pc' := 79) (tgt := 88) (dX3_generalise 43 rfl rfl) (by decide) rfl (fun c17 => ?_) (fun c17 => ?_)
        · exact absurd c17 (by decide)
        · refine x_aload_n (pc' := 80) 2 (dX3_generalise 44 rfl rfl) rfl rfl rfl ?_
          refine x_getR (pc' := 83) (dX3_generalise 45 rfl rfl) g30 q479 (Or.inl rfl) rfl (hf_of 2 s2.1 rfl (by decide) m2_30) (s2.2 0 _ rfl rfl).1 ?_
          refine x_iload (pc' := 85) 1 (dX3_generalise 46 rfl rfl) rfl rfl ?_
          refine x_bipush (pc' := 87) (v := -2) (dX3_generalise 47 rfl rfl) (by decide) rfl ?_
          obtain ⟨i18, hf⟩ := hf
          refine x_iast (pc' := 88) (dX3_generalise 48 rfl rfl) rfl (s2.2 0 _ rfl rfl).2.1 (Or.inl ⟨30, by decide, rfl, by decide⟩) (by rw [(s2.2 0 _ rfl rfl).2.2.2 (by decide)]; exact i18) (fun h19 e20 => ?_)
          replace hf := hf h19 e20
          replace s2 : So 2 (gW G) h19 := by rw [e20]; exact s2.le sc2 (sI_le )
          refine x_aload_n (pc' := 89) 2 (dX3_generalise 49 rfl rfl) rfl rfl rfl ?_
          refine x_iload (pc' := 91) 1 (dX3_generalise 50 rfl rfl) rfl rfl ?_
          refine x_inv (pc' := 94) (ν := mX3_howMany) (av := [_, _]) (st := []) rfl rfl (dX3_generalise 51 rfl rfl) (Nat.le_of_ble_eq_true rfl) wX3_howMany q213 (inv_V (k := 2) (dX3_generalise 51 rfl rfl) q2392 q2393 q2394 wX3_howMany (by decide) lX3_howMany (by decide) s2.1) (exN (by decide)) rfl ?_
          refine C.mono hf (fun _ _ => KI.g (fun x23 h21 hf le22 => ?_))
          replace s2 := s2.le sc2 (le22)
          refine x_istore (pc' := 96) (dX3_generalise 52 rfl rfl) (by decide) rfl rfl ?_
          refine x_iconst (pc' := 97) (v := 0) (dX3_generalise 53 rfl rfl) (by decide) rfl ?_
          refine x_istore (pc' := 99) (dX3_generalise 54 rfl rfl) (by decide) rfl rfl ?_
          exact X.sub [4, 6, 7, 3, 2, 1, 0] rfl (by simp) hf
    · replace hf := hf.1 (Classical.not_not.mp c7)
      replace c7 := Classical.not_not.mp c7
      refine x_aload_n (pc' := 32) 1 (dX3_generalise 18 rfl rfl) rfl rfl rfl ?_
      refine x_getR (pc' := 35) (dX3_generalise 19 rfl rfl) g32 q481 (Or.inl rfl) rfl (hf_of 2 s2.1 rfl (by decide) m2_32) (s2.2 2 _ rfl rfl).1 ?_
      refine x_iload (pc' := 37) 0 (dX3_generalise 20 rfl rfl) rfl rfl ?_
      obtain ⟨i24, hf⟩ := hf
      refine x_iald (pc' := 38) (dX3_generalise 21 rfl rfl) rfl (s2.2 2 _ rfl rfl).2.1 (by rw [(s2.2 2 _ rfl rfl).2.2.2 (by decide)]; exact i24) ?_
      refine x_bipush (pc' := 40) (v := -2) (dX3_generalise 22 rfl rfl) (by decide) rfl ?_
      refine x_icmp_ne (pc' := 43) (tgt := 47) (dX3_generalise 23 rfl rfl) (by decide) rfl (fun c25 => ?_) (fun c25 => ?_)
      · replace hf := hf.2 c25
        refine x_iconst (pc' := 48) (v := 0) (dX3_generalise 26 rfl rfl) (by decide) rfl ?_
        exact x_zret (ty := .boolean) (dX3_generalise 27 rfl rfl) rfl (by decide) hf
      · replace hf := hf.1 (Classical.not_not.mp c25)
        replace c25 := Classical.not_not.mp c25
        refine x_iconst (pc' := 44) (v := 1) (dX3_generalise 24 rfl rfl) (by decide) rfl ?_
        refine x_goto (tgt := 48) (dX3_generalise 25 rfl rfl) (by decide) ?_
        exact x_zret (ty := .boolean) (dX3_generalise 27 rfl rfl) rfl (by decide) hf
  · replace hf := hf.1 (Classical.not_not.mp c5)
    replace c5 := Classical.not_not.mp c5
    refine x_iconst (pc' := 19) (v := 0) (dX3_generalise 10 rfl rfl) (by decide) rfl ?_
    exact x_zret (ty := .boolean) (dX3_generalise 11 rfl rfl) rfl (by decide) hf
theorem bX3_generalise_99 (G : Gh) (d : Nat) (h : AH) (Q : Outcome → AH → Prop) (l2 : Int32) (l3 : Int32) (l4 : Int32) (l5 : Int32) (l6 : Int32) (l7 : Int32) (s2 : So 2 (gW G) h) (hf : (l6 ≤ l7 → ((l5 = 0 → ((l5 = 0 ∨ l5 = 1) ∧ Q (.returned (some (.int l5))) h)) ∧ (¬ l5 = 0 → (vp_in l4 150000 ∧ ∀ h4, h4 = sI h (gW G 1032) l4.toNatClampNeg ((-2)) → ((l5 = 0 ∨ l5 = 1) ∧ Q (.returned (some (.int l5))) h4))))) ∧ (¬ (l6 ≤ l7) → (C G mX3_part d [.ref (gW G 2), .int (l4), .int (l7)] h (KI Q (fun x8 h6 => C G mX3_generalise d [.ref (gW G 2), .int (x8), .int (l2), .int (l3)] h6 (KI Q (fun x11 h9 => (x11 = 0 → ((l5 = 0 → (∀ x15 : Int32, x15 = l7 + 1 → (X G mX3_generalise (d + 1) none [] 99 [(0, .ref (gW G 2)), (2, .int (l2)), (3, .int (l3)), (4, .int (l4)), (5, .int (0)), (6, .int (l6)), (7, .int (x15))] [] h9 Q))) ∧ (¬ l5 = 0 → (∀ x16 : Int32, x16 = l7 + 1 → (X G mX3_generalise (d + 1) none [] 99 [(0, .ref (gW G 2)), (2, .int (l2)), (3, .int (l3)), (4, .int (l4)), (5, .int (1)), (6, .int (l6)), (7, .int (x16))] [] h9 Q))))) ∧ (¬ x11 = 0 → (∀ x13 : Int32, x13 = l7 + 1 → (X G mX3_generalise (d + 1) none [] 99 [(0, .ref (gW G 2)), (2, .int (l2)), (3, .int (l3)), (4, .int (l4)), (5, .int (1)), (6, .int (l6)), (7, .int (x13))] [] h9 Q)))))))))) : X G mX3_generalise (d + 1) none [] 99 [(0, .ref (gW G 2)), (2, .int (l2)), (3, .int (l3)), (4, .int (l4)), (5, .int (l5)), (6, .int (l6)), (7, .int (l7))] [] h Q := by
  refine x_iload (pc' := 101) 6 (dX3_generalise 55 rfl rfl) rfl rfl ?_
  refine x_iload (pc' := 103) 5 (dX3_generalise 56 rfl rfl) rfl rfl ?_
  refine x_icmp_ge (pc' := 106) (tgt := 141) (dX3_generalise 57 rfl rfl) (by decide) rfl (fun c1 => ?_) (fun c1 => ?_)
  · replace hf := hf.1 c1
    refine x_iload (pc' := 143) 4 (dX3_generalise 75 rfl rfl) rfl rfl ?_
    refine x_if_eq (pc' := 146) (tgt := 155) (dX3_generalise 76 rfl rfl) (by decide) rfl (fun c2 => ?_) (fun c2 => ?_)
    · replace hf := hf.1 c2
      refine x_iload (pc' := 157) 4 (dX3_generalise 82 rfl rfl) rfl rfl ?_
      obtain ⟨z0, hf⟩ := hf
      exact x_zret (ty := .boolean) (dX3_generalise 83 rfl rfl) rfl (nar_z z0) hf
    · replace hf := hf.2 c2
      refine x_aload_n (pc' := 147) 0 (dX3_generalise 77 rfl rfl) rfl rfl rfl ?_
      refine x_getR (pc' := 150) (dX3_generalise 78 rfl rfl) g32 q481 (Or.inl rfl) rfl (hf_of 2 s2.1 rfl (by decide) m2_32) (s2.2 2 _ rfl rfl).1 ?_
      refine x_iload (pc' := 152) 3 (dX3_generalise 79 rfl rfl) rfl rfl ?_
      refine x_bipush (pc' := 154) (v := -2) (dX3_generalise 80 rfl rfl) (by decide) rfl ?_
      obtain ⟨i3, hf⟩ := hf
      refine x_iast (pc' := 155) (dX3_generalise 81 rfl rfl) rfl (s2.2 2 _ rfl rfl).2.1 (Or.inl ⟨32, by decide, rfl, by decide⟩) (by rw [(s2.2 2 _ rfl rfl).2.2.2 (by decide)]; exact i3) (fun h4 e5 => ?_)
      replace hf := hf h4 e5
      replace s2 : So 2 (gW G) h4 := by rw [e5]; exact s2.le sc2 (sI_le )
      refine x_iload (pc' := 157) 4 (dX3_generalise 82 rfl rfl) rfl rfl ?_
      obtain ⟨z0, hf⟩ := hf
      exact x_zret (ty := .boolean) (dX3_generalise 83 rfl rfl) rfl (nar_z z0) hf
  · replace hf := hf.2 c1
    refine x_aload_n (pc' := 107) 0 (dX3_generalise 58 rfl rfl) rfl rfl rfl ?_
    refine x_aload_n (pc' := 108) 0 (dX3_generalise 59 rfl rfl) rfl rfl rfl ?_
    refine x_iload (pc' := 110) 3 (dX3_generalise 60 rfl rfl) rfl rfl ?_
    refine x_iload (pc' := 112) 6 (dX3_generalise 61 rfl rfl) rfl rfl ?_
    refine x_inv (pc' := 115) (ν := mX3_part) (av := [_, _, _]) (st := [_]) rfl rfl (dX3_generalise 62 rfl rfl) (Nat.le_of_ble_eq_true rfl) wX3_part q213 (inv_V (k := 2) (dX3_generalise 62 rfl rfl) q2396 q2397 q2398 wX3_part (by decide) lX3_part (by decide) s2.1) (exN (by decide)) rfl ?_
    refine C.mono hf (fun _ _ => KI.g (fun x8 h6 hf le7 => ?_))
    replace s2 := s2.le sc2 (le7)
    refine x_iload_n (pc' := 116) 1 (dX3_generalise 63 rfl rfl) rfl rfl rfl ?_
    refine x_iload_n (pc' := 117) 2 (dX3_generalise 64 rfl rfl) rfl rfl rfl ?_
    refine x_inv (pc' := 120) (ν := mX3_generalise) (av := [_, _, _, _]) (st := []) rfl rfl (dX3_generalise 65 rfl rfl) (Nat.le_of_ble_eq_true rfl) wX3_generalise q213 (inv_V (k := 2) (dX3_generalise 65 rfl rfl) q2754 q2751 q2752 wX3_generalise (by decide) lX3_generalise (by decide) s2.1) (exN (by decide)) rfl ?_
    refine C.mono hf (fun _ _ => KI.g (fun x11 h9 hf le10 => ?_))
    replace s2 := s2.le sc2 (le10)
    refine x_if_ne (pc' := 123) (tgt := 128) (dX3_generalise 66 rfl rfl) (by decide) rfl (fun c12 => ?_) (fun c12 => ?_)
    · replace hf := hf.2 c12
      refine x_iconst (pc' := 129) (v := 1) (dX3_generalise 69 rfl rfl) (by decide) rfl ?_
      refine x_goto (tgt := 133) (dX3_generalise 70 rfl rfl) (by decide) ?_
      refine x_istore (pc' := 135) (dX3_generalise 72 rfl rfl) (by decide) rfl rfl ?_
      replace hf := hf _ rfl
      refine x_iinc (pc' := 138) 6 (dX3_generalise 73 rfl rfl) rfl (by rfl) (by decide) rfl rfl ?_
      refine x_goto (tgt := 99) (dX3_generalise 74 rfl rfl) (by decide) ?_
      exact X.sub [2, 3, 4, 5, 1, 6, 0] rfl (by simp) hf
    · replace hf := hf.1 (Classical.not_not.mp c12)
      replace c12 := Classical.not_not.mp c12
      refine x_iload (pc' := 125) 4 (dX3_generalise 67 rfl rfl) rfl rfl ?_
      refine x_if_eq (pc' := 128) (tgt := 132) (dX3_generalise 68 rfl rfl) (by decide) rfl (fun c14 => ?_) (fun c14 => ?_)
      · replace hf := hf.1 c14
        refine x_iconst (pc' := 133) (v := 0) (dX3_generalise 71 rfl rfl) (by decide) rfl ?_
        refine x_istore (pc' := 135) (dX3_generalise 72 rfl rfl) (by decide) rfl rfl ?_
        replace hf := hf _ rfl
        refine x_iinc (pc' := 138) 6 (dX3_generalise 73 rfl rfl) rfl (by rfl) (by decide) rfl rfl ?_
        refine x_goto (tgt := 99) (dX3_generalise 74 rfl rfl) (by decide) ?_
        exact X.sub [2, 3, 4, 5, 1, 6, 0] rfl (by simp) hf
      · replace hf := hf.2 c14
        refine x_iconst (pc' := 129) (v := 1) (dX3_generalise 69 rfl rfl) (by decide) rfl ?_
        refine x_goto (tgt := 133) (dX3_generalise 70 rfl rfl) (by decide) ?_
        refine x_istore (pc' := 135) (dX3_generalise 72 rfl rfl) (by decide) rfl rfl ?_
        replace hf := hf _ rfl
        refine x_iinc (pc' := 138) 6 (dX3_generalise 73 rfl rfl) rfl (by rfl) (by decide) rfl rfl ?_
        refine x_goto (tgt := 99) (dX3_generalise 74 rfl rfl) (by decide) ?_
        exact X.sub [2, 3, 4, 5, 1, 6, 0] rfl (by simp) hf
theorem bX3_settle (G : Gh) (d : Nat) (h : AH) (Q : Outcome → AH → Prop) (p1 : Int32) (s2 : So 2 (gW G) h) (hf : C G mX3_found d [.ref (gW G 2), .int (p1)] h (KI Q (fun x3 h1 => vp_in x3 150000 ∧ (((aI h1 (gW G 1030) x3.toNatClampNeg) = ((-1)) → (vp_in x3 150000 ∧ ∀ h10, h10 = sI h1 (gW G 1032) x3.toNatClampNeg (fI h1 (gW G 2) 44) → (C G mX3_howMany d [.ref (gW G 2), .int (x3)] h10 (KI Q (fun x14 h12 => X G mX3_settle (d + 1) none [] 35 [(0, .ref (gW G 2)), (2, .int (x3)), (3, .int (x14)), (4, .int (0))] [] h12 Q))))) ∧ (¬ ((aI h1 (gW G 1030) x3.toNatClampNeg) = ((-1))) → (C G mX3_howMany d [.ref (gW G 2), .int (x3)] h1 (KI Q (fun x8 h6 => X G mX3_settle (d + 1) none [] 35 [(0, .ref (gW G 2)), (2, .int (x3)), (3, .int (x8)), (4, .int (0))] [] h6 Q)))))))) : C G mX3_settle (d + 1) [.ref (gW G 2), .int (p1)] h Q := by
  refine C.of_X (by decide +kernel) (Nat.le_of_ble_eq_true rfl) wX3_settle ?_
  show X G mX3_settle (d + 1) none [] 0 [(0, .ref (gW G 2)), (1, .int (p1))] [] h Q
  refine x_aload_n (pc' := 1) 0 (dX3_settle 0 rfl rfl) rfl rfl rfl ?_
  refine x_iload_n (pc' := 2) 1 (dX3_settle 1 rfl rfl) rfl rfl rfl ?_
  refine x_inv (pc' := 5) (ν := mX3_found) (av := [_, _]) (st := []) rfl rfl (dX3_settle 2 rfl rfl) (Nat.le_of_ble_eq_true rfl) wX3_found q213 (inv_V (k := 2) (dX3_settle 2 rfl rfl) q2388 q2389 q2390 wX3_found (by decide) lX3_found (by decide) s2.1) (exN (by decide)) rfl ?_
  refine C.mono hf (fun _ _ => KI.g (fun x3 h1 hf le2 => ?_))
  replace s2 := s2.le sc2 (le2)
  refine x_istore_n (pc' := 6) (dX3_settle 3 rfl rfl) rfl (by decide) rfl rfl ?_
  refine x_aload_n (pc' := 7) 1 (dX3_settle 4 rfl rfl) rfl rfl rfl ?_
  refine x_getR (pc' := 10) (dX3_settle 5 rfl rfl) g30 q479 (Or.inl rfl) rfl (hf_of 2 s2.1 rfl (by decide) m2_30) (s2.2 0 _ rfl rfl).1 ?_
  refine x_iload_n (pc' := 11) 0 (dX3_settle 6 rfl rfl) rfl rfl rfl ?_
  obtain ⟨i4, hf⟩ := hf
  refine x_iald (pc' := 12) (dX3_settle 7 rfl rfl) rfl (s2.2 0 _ rfl rfl).2.1 (by rw [(s2.2 0 _ rfl rfl).2.2.2 (by decide)]; exact i4) ?_
  refine x_iconst (pc' := 13) (v := -1) (dX3_settle 8 rfl rfl) (by decide) rfl ?_
  refine x_icmp_ne (pc' := 16) (tgt := 26) (dX3_settle 9 rfl rfl) (by decide) rfl (fun c5 => ?_) (fun c5 => ?_)
  · replace hf := hf.2 c5
    refine x_aload_n (pc' := 27) 1 (dX3_settle 16 rfl rfl) rfl rfl rfl ?_
    refine x_iload_n (pc' := 28) 0 (dX3_settle 17 rfl rfl) rfl rfl rfl ?_
    refine x_inv (pc' := 31) (ν := mX3_howMany) (av := [_, _]) (st := []) rfl rfl (dX3_settle 18 rfl rfl) (Nat.le_of_ble_eq_true rfl) wX3_howMany q213 (inv_V (k := 2) (dX3_settle 18 rfl rfl) q2392 q2393 q2394 wX3_howMany (by decide) lX3_howMany (by decide) s2.1) (exN (by decide)) rfl ?_
    refine C.mono hf (fun _ _ => KI.g (fun x8 h6 hf le7 => ?_))
    replace s2 := s2.le sc2 (le7)
    refine x_istore_n (pc' := 32) (dX3_settle 19 rfl rfl) rfl (by decide) rfl rfl ?_
    refine x_iconst (pc' := 33) (v := 0) (dX3_settle 20 rfl rfl) (by decide) rfl ?_
    refine x_istore (pc' := 35) (dX3_settle 21 rfl rfl) (by decide) rfl rfl ?_
    exact X.sub [3, 2, 1, 0] rfl (by simp) hf
  · replace hf := hf.1 (Classical.not_not.mp c5)
    replace c5 := Classical.not_not.mp c5
    refine x_aload_n (pc' := 17) 1 (dX3_settle 10 rfl rfl) rfl rfl rfl ?_
    refine x_getR (pc' := 20) (dX3_settle 11 rfl rfl) g32 q481 (Or.inl rfl) rfl (hf_of 2 s2.1 rfl (by decide) m2_32) (s2.2 2 _ rfl rfl).1 ?_
    refine x_iload_n (pc' := 21) 0 (dX3_settle 12 rfl rfl) rfl rfl rfl ?_
    refine x_aload_n (pc' := 22) 1 (dX3_settle 13 rfl rfl) rfl rfl rfl ?_
    refine x_getI (pc' := 25) (dX3_settle 14 rfl rfl) g44 q502 (Or.inl rfl) rfl (hf_of 2 s2.1 rfl (by decide) m2_44) ?_
    obtain ⟨i9, hf⟩ := hf
    refine x_iast (pc' := 26) (dX3_settle 15 rfl rfl) rfl (s2.2 2 _ rfl rfl).2.1 (Or.inl ⟨32, by decide, rfl, by decide⟩) (by rw [(s2.2 2 _ rfl rfl).2.2.2 (by decide)]; exact i9) (fun h10 e11 => ?_)
    replace hf := hf h10 e11
    replace s2 : So 2 (gW G) h10 := by rw [e11]; exact s2.le sc2 (sI_le )
    refine x_aload_n (pc' := 27) 1 (dX3_settle 16 rfl rfl) rfl rfl rfl ?_
    refine x_iload_n (pc' := 28) 0 (dX3_settle 17 rfl rfl) rfl rfl rfl ?_
    refine x_inv (pc' := 31) (ν := mX3_howMany) (av := [_, _]) (st := []) rfl rfl (dX3_settle 18 rfl rfl) (Nat.le_of_ble_eq_true rfl) wX3_howMany q213 (inv_V (k := 2) (dX3_settle 18 rfl rfl) q2392 q2393 q2394 wX3_howMany (by decide) lX3_howMany (by decide) s2.1) (exN (by decide)) rfl ?_
    refine C.mono hf (fun _ _ => KI.g (fun x14 h12 hf le13 => ?_))
    replace s2 := s2.le sc2 (le13)
    refine x_istore_n (pc' := 32) (dX3_settle 19 rfl rfl) rfl (by decide) rfl rfl ?_
    refine x_iconst (pc' := 33) (v := 0) (dX3_settle 20 rfl rfl) (by decide) rfl ?_
    refine x_istore (pc' := 35) (dX3_settle 21 rfl rfl) (by decide) rfl rfl ?_
    exact X.sub [3, 2, 1, 0] rfl (by simp) hf
theorem bX3_settle_35 (G : Gh) (d : Nat) (h : AH) (Q : Outcome → AH → Prop) (l2 : Int32) (l3 : Int32) (l4 : Int32) (s2 : So 2 (gW G) h) (hf : (l3 ≤ l4 → (Q (.returned none) h)) ∧ (¬ (l3 ≤ l4) → (C G mX3_part d [.ref (gW G 2), .int (l2), .int (l4)] h (KI Q (fun x4 h2 => C G mX3_settle d [.ref (gW G 2), .int (x4)] h2 (KV Q (fun h5 => ∀ x7 : Int32, x7 = l4 + 1 → (X G mX3_settle (d + 1) none [] 35 [(0, .ref (gW G 2)), (2, .int (l2)), (3, .int (l3)), (4, .int (x7))] [] h5 Q)))))))) : X G mX3_settle (d + 1) none [] 35 [(0, .ref (gW G 2)), (2, .int (l2)), (3, .int (l3)), (4, .int (l4))] [] h Q := by
  refine x_iload (pc' := 37) 3 (dX3_settle 22 rfl rfl) rfl rfl ?_
  refine x_iload_n (pc' := 38) 2 (dX3_settle 23 rfl rfl) rfl rfl rfl ?_
  refine x_icmp_ge (pc' := 41) (tgt := 58) (dX3_settle 24 rfl rfl) (by decide) rfl (fun c1 => ?_) (fun c1 => ?_)
  · replace hf := hf.1 c1
    exact x_vret (dX3_settle 33 rfl rfl) rfl hf
  · replace hf := hf.2 c1
    refine x_aload_n (pc' := 42) 0 (dX3_settle 25 rfl rfl) rfl rfl rfl ?_
    refine x_aload_n (pc' := 43) 0 (dX3_settle 26 rfl rfl) rfl rfl rfl ?_
    refine x_iload_n (pc' := 44) 1 (dX3_settle 27 rfl rfl) rfl rfl rfl ?_
    refine x_iload (pc' := 46) 3 (dX3_settle 28 rfl rfl) rfl rfl ?_
    refine x_inv (pc' := 49) (ν := mX3_part) (av := [_, _, _]) (st := [_]) rfl rfl (dX3_settle 29 rfl rfl) (Nat.le_of_ble_eq_true rfl) wX3_part q213 (inv_V (k := 2) (dX3_settle 29 rfl rfl) q2396 q2397 q2398 wX3_part (by decide) lX3_part (by decide) s2.1) (exN (by decide)) rfl ?_
    refine C.mono hf (fun _ _ => KI.g (fun x4 h2 hf le3 => ?_))
    replace s2 := s2.le sc2 (le3)
    refine x_inv (pc' := 52) (ν := mX3_settle) (av := [_, _]) (st := []) rfl rfl (dX3_settle 30 rfl rfl) (Nat.le_of_ble_eq_true rfl) wX3_settle q213 (inv_V (k := 2) (dX3_settle 30 rfl rfl) q2819 q2816 q2817 wX3_settle (by decide) lX3_settle (by decide) s2.1) (exN (by decide)) rfl ?_
    refine C.mono hf (fun _ _ => KV.g (fun h5 hf le6 => ?_))
    replace s2 := s2.le sc2 (le6)
    replace hf := hf _ rfl
    refine x_iinc (pc' := 55) 3 (dX3_settle 31 rfl rfl) rfl (by rfl) (by decide) rfl rfl ?_
    refine x_goto (tgt := 35) (dX3_settle 32 rfl rfl) (by decide) ?_
    exact X.sub [1, 2, 3, 0] rfl (by simp) hf
theorem bX4_spelled (G : Gh) (d : Nat) (h : AH) (Q : Outcome → AH → Prop) (p0 : Nat) (hf : X G mX4_spelled (d + 1) none [] 4 [(0, .ref (p0)), (1, .long (0)), (3, .int (0))] [] h Q) : C G mX4_spelled (d + 1) [.ref (p0)] h Q := by
  refine C.of_X (by decide +kernel) (Nat.le_of_ble_eq_true rfl) wX4_spelled ?_
  show X G mX4_spelled (d + 1) none [] 0 [(0, .ref (p0))] [] h Q
  refine x_lconst (pc' := 1) (v := 0) (dX4_spelled 0 rfl rfl) (by decide) rfl ?_
  refine x_lstore_n (pc' := 2) (dX4_spelled 1 rfl rfl) rfl (by decide) rfl rfl ?_
  refine x_iconst (pc' := 3) (v := 0) (dX4_spelled 2 rfl rfl) (by decide) rfl ?_
  refine x_istore_n (pc' := 4) (dX4_spelled 3 rfl rfl) rfl (by decide) rfl rfl ?_
  exact X.sub [2, 1, 0] rfl (by simp) hf
theorem bX4_spelled_4 (G : Gh) (d : Nat) (h : AH) (Q : Outcome → AH → Prop) (l0 : Nat) (l1 : Int64) (l3 : Int32) (hf : ∃ n3, n3 < slen.length ∧ l0 = G.2.2.2.1 n3 ∧ (C G mJ0_length d [.ref (l0)] h (KI Q (fun x4 h1 => (x4 ≤ l3 → (Q (.returned (some (.long l1))) h1)) ∧ (¬ (x4 ≤ l3) → (∃ n8, n8 < slen.length ∧ l0 = G.2.2.2.1 n8 ∧ (C G mJ0_charAt d [.ref (l0), .int (l3)] h1 (KI Q (fun x9 h6 => ∀ y10 : Int64, y10 = (l1 <<< ((8 : Int32).toInt64 &&& 63)) ||| ((x9 : Int32).toInt64) → (∀ x11 : Int32, x11 = l3 + 1 → (X G mX4_spelled (d + 1) none [] 4 [(0, .ref (l0)), (1, .long (y10)), (3, .int (x11))] [] h6 Q))))))))))) : X G mX4_spelled (d + 1) none [] 4 [(0, .ref (l0)), (1, .long (l1)), (3, .int (l3))] [] h Q := by
  refine x_iload_n (pc' := 5) 2 (dX4_spelled 4 rfl rfl) rfl rfl rfl ?_
  refine x_aload_n (pc' := 6) 0 (dX4_spelled 5 rfl rfl) rfl rfl rfl ?_
  obtain ⟨n3, n3l, n3e, hf⟩ := hf
  refine x_inv (pc' := 9) (ν := mJ0_length) (av := [_]) (st := [_]) rfl rfl (dX4_spelled 6 rfl rfl) (Nat.le_of_ble_eq_true rfl) wJ0_length q215 (inv_VSa n3e (dX4_spelled 6 rfl rfl) q380 q381 q382 wJ0_length (by decide) lJ0_length n3l) (exN (by decide)) rfl ?_
  refine C.mono hf (fun _ _ => KI.g (fun x4 h1 hf le2 => ?_))
  refine x_icmp_ge (pc' := 12) (tgt := 30) (dX4_spelled 7 rfl rfl) (by decide) rfl (fun c5 => ?_) (fun c5 => ?_)
  · replace hf := hf.1 c5
    refine x_lload_n (pc' := 31) 1 (dX4_spelled 19 rfl rfl) rfl rfl rfl ?_
    exact x_lret (dX4_spelled 20 rfl rfl) rfl hf
  · replace hf := hf.2 c5
    refine x_lload_n (pc' := 13) 1 (dX4_spelled 8 rfl rfl) rfl rfl rfl ?_
    refine x_bipush (pc' := 15) (v := 8) (dX4_spelled 9 rfl rfl) (by decide) rfl ?_
    refine x_lshl (pc' := 16) (dX4_spelled 10 rfl rfl) rfl ?_
    refine x_aload_n (pc' := 17) 0 (dX4_spelled 11 rfl rfl) rfl rfl rfl ?_
    refine x_iload_n (pc' := 18) 2 (dX4_spelled 12 rfl rfl) rfl rfl rfl ?_
    obtain ⟨n8, n8l, n8e, hf⟩ := hf
    refine x_inv (pc' := 21) (ν := mJ0_charAt) (av := [_, _]) (st := [_]) rfl rfl (dX4_spelled 13 rfl rfl) (Nat.le_of_ble_eq_true rfl) wJ0_charAt q215 (inv_VSa n8e (dX4_spelled 13 rfl rfl) q390 q391 q392 wJ0_charAt (by decide) lJ0_charAt n8l) (exN (by decide)) rfl ?_
    refine C.mono hf (fun _ _ => KI.g (fun x9 h6 hf le7 => ?_))
    refine x_i2l (pc' := 22) (dX4_spelled 14 rfl rfl) rfl ?_
    refine x_lor (pc' := 23) (dX4_spelled 15 rfl rfl) rfl ?_
    replace hf := hf _ rfl
    refine x_lstore_n (pc' := 24) (dX4_spelled 16 rfl rfl) rfl (by decide) rfl rfl ?_
    replace hf := hf _ rfl
    refine x_iinc (pc' := 27) 2 (dX4_spelled 17 rfl rfl) rfl (by rfl) (by decide) rfl rfl ?_
    refine x_goto (tgt := 4) (dX4_spelled 18 rfl rfl) (by decide) ?_
    exact X.sub [2, 1, 0] rfl (by simp) hf
theorem bX5_init (G : Gh) (d : Nat) (hd1 : 1 ≤ d) (h : AH) (Q : Outcome → AH → Prop) (a0 : Nat) (p1 : Int64) (p3 : Int64) (p5 : Int32) (p6 : Int32) (hf : hK h a0 = 4 ∧ (∀ h2, h2 = pJ h a0 49 p1 → (∀ h3, h3 = pJ h2 a0 50 p3 → (∀ h4, h4 = pI h3 a0 51 p5 → (∀ h5, h5 = pI h4 a0 52 p6 → (Q (.returned none) h5)))))) : C G mX5_init d [.ref (a0), .long (p1), .long (p3), .int (p5), .int (p6)] h Q := by
  refine C.of_X (by decide +kernel) (Nat.le_of_ble_eq_true rfl) wX5_init ?_
  show X G mX5_init d (some a0) [] 0 [(0, .ref (a0)), (1, .long (p1)), (3, .long (p3)), (5, .int (p5)), (6, .int (p6))] [] h Q
  refine x_aload_n (pc' := 1) 0 (dX5_init 0 rfl rfl) rfl rfl rfl ?_
  refine x_objInit (pc' := 4) (dX5_init 1 rfl rfl) q436 q288 q289 (by decide) (by omega) rfl ?_
  refine x_aload_n (pc' := 5) 0 (dX5_init 2 rfl rfl) rfl rfl rfl ?_
  refine x_lload_n (pc' := 6) 1 (dX5_init 3 rfl rfl) rfl rfl rfl ?_
  obtain ⟨k1, hf⟩ := hf
  refine x_putJ (pc' := 9) (dX5_init 4 rfl rfl) g49 q437 (Or.inl rfl) (Or.inr ⟨rfl, rfl, rfl, rfl⟩) (Or.inr rfl) rfl (hf_of 3 k1 rfl (by decide) m3_49) (fun h2 e9 => ?_)
  replace hf := hf h2 e9
  replace k1 : hK h2 a0 = 4 := by rw [e9]; exact k1
  refine x_aload_n (pc' := 10) 0 (dX5_init 5 rfl rfl) rfl rfl rfl ?_
  refine x_lload_n (pc' := 11) 2 (dX5_init 6 rfl rfl) rfl rfl rfl ?_
  refine x_putJ (pc' := 14) (dX5_init 7 rfl rfl) g50 q440 (Or.inl rfl) (Or.inr ⟨rfl, rfl, rfl, rfl⟩) (Or.inr rfl) rfl (hf_of 3 k1 rfl (by decide) m3_50) (fun h3 e8 => ?_)
  replace hf := hf h3 e8
  replace k1 : hK h3 a0 = 4 := by rw [e8]; exact k1
  refine x_aload_n (pc' := 15) 0 (dX5_init 8 rfl rfl) rfl rfl rfl ?_
  refine x_iload (pc' := 17) 3 (dX5_init 9 rfl rfl) rfl rfl ?_
  refine x_putI (pc' := 20) (dX5_init 10 rfl rfl) g51 q443 (Or.inl rfl) (Or.inr ⟨rfl, rfl, rfl, rfl⟩) (Or.inr rfl) rfl (hf_of 3 k1 rfl (by decide) m3_51) (fun h4 e7 => ?_)
  replace hf := hf h4 e7
  replace k1 : hK h4 a0 = 4 := by rw [e7]; exact k1
  refine x_aload_n (pc' := 21) 0 (dX5_init 11 rfl rfl) rfl rfl rfl ?_
  refine x_iload (pc' := 23) 4 (dX5_init 12 rfl rfl) rfl rfl ?_
  refine x_putI (pc' := 26) (dX5_init 13 rfl rfl) g52 q447 (Or.inl rfl) (Or.inr ⟨rfl, rfl, rfl, rfl⟩) (Or.inr rfl) rfl (hf_of 3 k1 rfl (by decide) m3_52) (fun h5 e6 => ?_)
  replace hf := hf h5 e6
  replace k1 : hK h5 a0 = 4 := by rw [e6]; exact k1
  exact x_vret (dX5_init 14 rfl rfl) rfl hf
theorem bX6_init (G : Gh) (d : Nat) (h : AH) (Q : Outcome → AH → Prop) (a0 : Nat) (hf : (¬ (960100 : Int32) < 0) ∧ (hc h + 1 ≤ MC) ∧ (hs h + (960100 : Int32).toNatClampNeg ≤ MS) ∧ ∀ q1, hK h q1 = 0 → ∀ h3, h3 = nA h q1 0 (960100 : Int32).toNatClampNeg → (hK h3 a0 = 5 ∧ (∀ h8, h8 = pR h3 a0 55 (some q1) → ((hc h8 + 1 ≤ MC) ∧ (hs h8 + 2 ≤ MS) ∧ ∀ q9, hK h8 q9 = 0 → ∀ h11, h11 = nO h8 q9 5 → (C G mX7_init d [.ref (q9)] h11 (KV Q (fun h14 => ∀ h16, h16 = pR h14 a0 57 (some q9) → ((hc h16 + 1 ≤ MC) ∧ (hs h16 + 2 ≤ MS) ∧ ∀ q17, hK h16 q17 = 0 → ∀ h19, h19 = nO h16 q17 5 → (C G mX7_init d [.ref (q17)] h19 (KV Q (fun h22 => ∀ h24, h24 = pR h22 a0 58 (some q17) → ((hc h24 + 1 ≤ MC) ∧ (hs h24 + 2 ≤ MS) ∧ ∀ q25, hK h24 q25 = 0 → ∀ h27, h27 = nO h24 q25 5 → (C G mX7_init d [.ref (q25)] h27 (KV Q (fun h30 => ∀ h32, h32 = pR h30 a0 59 (some q25) → ((¬ (31000 : Int32) < 0) ∧ (hc h32 + 1 ≤ MC) ∧ (hs h32 + (31000 : Int32).toNatClampNeg ≤ MS) ∧ ∀ q33, hK h32 q33 = 0 → ∀ h35, h35 = nA h32 q33 0 (31000 : Int32).toNatClampNeg → (∀ h39, h39 = pR h35 a0 60 (some q33) → ((¬ (31000 : Int32) < 0) ∧ (hc h39 + 1 ≤ MC) ∧ (hs h39 + (31000 : Int32).toNatClampNeg ≤ MS) ∧ ∀ q40, hK h39 q40 = 0 → ∀ h42, h42 = nA h39 q40 0 (31000 : Int32).toNatClampNeg → (∀ h46, h46 = pR h42 a0 61 (some q40) → ((¬ (31000 : Int32) < 0) ∧ (hc h46 + 1 ≤ MC) ∧ (hs h46 + (31000 : Int32).toNatClampNeg ≤ MS) ∧ ∀ q47, hK h46 q47 = 0 → ∀ h49, h49 = nA h46 q47 0 (31000 : Int32).toNatClampNeg → (∀ h53, h53 = pR h49 a0 62 (some q47) → ((¬ (31000 : Int32) < 0) ∧ (hc h53 + 1 ≤ MC) ∧ (hs h53 + (31000 : Int32).toNatClampNeg ≤ MS) ∧ ∀ q54, hK h53 q54 = 0 → ∀ h56, h56 = nA h53 q54 0 (31000 : Int32).toNatClampNeg → (∀ h60, h60 = pR h56 a0 64 (some q54) → ((¬ (30 : Int32) < 0) ∧ (hc h60 + 1 ≤ MC) ∧ (hs h60 + (30 : Int32).toNatClampNeg ≤ MS) ∧ ∀ q61, hK h60 q61 = 0 → ∀ h63, h63 = nA h60 q61 0 (30 : Int32).toNatClampNeg → (∀ h67, h67 = pR h63 a0 66 (some q61) → (C G mX6_clear d [.ref (a0)] h67 (KV Q (fun h68 => Q (.returned none) h68)))))))))))))))))))))))))))) : C G mX6_init (d + 1) [.ref (a0)] h Q := by
  refine C.of_X (by decide +kernel) (Nat.le_of_ble_eq_true rfl) wX6_init ?_
  show X G mX6_init (d + 1) (some a0) [] 0 [(0, .ref (a0))] [] h Q
  refine x_aload_n (pc' := 1) 0 (dX6_init 0 rfl rfl) rfl rfl rfl ?_
  refine x_objInit (pc' := 4) (dX6_init 1 rfl rfl) q555 q288 q289 (by decide) (by omega) rfl ?_
  refine x_aload_n (pc' := 5) 0 (dX6_init 2 rfl rfl) rfl rfl rfl ?_
  refine x_ldc (pc' := 7) (dX6_init 3 rfl rfl) q556 rfl ?_
  obtain ⟨z5, n1, n2, hf⟩ := hf
  refine x_newa0 (pc' := 9) (dX6_init 4 rfl rfl) rfl z5 (by decide) n1 n2 (fun q1 h3 k2 e4 => ?_)
  replace hf := hf q1 k2 h3 e4
  have k6 : hK h3 q1 = 1000 := by rw [e4]; exact kNAs
  obtain ⟨k7, hf⟩ := hf
  refine x_putR (pc' := 12) (dX6_init 5 rfl rfl) g55 q603 (Or.inl rfl) (Or.inr ⟨rfl, rfl, rfl, rfl⟩) (Or.inr rfl) rfl (hf_of 4 k7 rfl (by decide) m4_55) (fun h8 e78 => ?_)
  replace hf := hf h8 e78
  replace k6 : hK h8 q1 = 1000 := by rw [e78]; exact k6
  replace k7 : hK h8 a0 = 5 := by rw [e78]; exact k7
  refine x_aload_n (pc' := 13) 0 (dX6_init 6 rfl rfl) rfl rfl rfl ?_
  obtain ⟨n1, n2, hf⟩ := hf
  refine x_new (pc' := 16) (k := 5) (dX6_init 7 rfl rfl) q557 (by decide) rfl (by decide) n1 n2 (fun q9 h11 k10 e12 => ?_)
  replace hf := hf q9 k10 h11 e12
  replace k6 : hK h11 q1 = 1000 := by rw [e12]; exact kNO k6 (by decide) k10
  replace k7 : hK h11 a0 = 5 := by rw [e12]; exact kNO k7 (by decide) k10
  have k13 : hK h11 q9 = 6 := by rw [e12]; exact kNOs
  refine x_dup (pc' := 17) (dX6_init 8 rfl rfl) rfl rfl ?_
  refine x_inv (pc' := 20) (ν := mX7_init) (av := [_]) (st := [_, _]) rfl rfl (dX6_init 9 rfl rfl) (Nat.le_of_ble_eq_true rfl) wX7_init q221 (inv_N (host := "LetMill") (dX6_init 9 rfl rfl) (by decide) q560 q561 rfl (by decide) lX7_init) (fun b hb => by exact Or.inl (by have e : some _ = some b := hb; cases e; simp)) rfl ?_
  refine C.mono hf (fun _ _ => KV.g (fun h14 hf le15 => ?_))
  have k6 := leK le15 k6 (by decide)
  have k7 := leK le15 k7 (by decide)
  have k13 := leK le15 k13 (by decide)
  refine x_putR (pc' := 23) (dX6_init 10 rfl rfl) g57 q605 (Or.inl rfl) (Or.inr ⟨rfl, rfl, rfl, rfl⟩) (Or.inr rfl) rfl (hf_of 4 k7 rfl (by decide) m4_57) (fun h16 e77 => ?_)
  replace hf := hf h16 e77
  replace k6 : hK h16 q1 = 1000 := by rw [e77]; exact k6
  replace k7 : hK h16 a0 = 5 := by rw [e77]; exact k7
  replace k13 : hK h16 q9 = 6 := by rw [e77]; exact k13
  refine x_aload_n (pc' := 24) 0 (dX6_init 11 rfl rfl) rfl rfl rfl ?_
  obtain ⟨n1, n2, hf⟩ := hf
  refine x_new (pc' := 27) (k := 5) (dX6_init 12 rfl rfl) q557 (by decide) rfl (by decide) n1 n2 (fun q17 h19 k18 e20 => ?_)
  replace hf := hf q17 k18 h19 e20
  replace k6 : hK h19 q1 = 1000 := by rw [e20]; exact kNO k6 (by decide) k18
  replace k7 : hK h19 a0 = 5 := by rw [e20]; exact kNO k7 (by decide) k18
  replace k13 : hK h19 q9 = 6 := by rw [e20]; exact kNO k13 (by decide) k18
  have k21 : hK h19 q17 = 6 := by rw [e20]; exact kNOs
  refine x_dup (pc' := 28) (dX6_init 13 rfl rfl) rfl rfl ?_
  refine x_inv (pc' := 31) (ν := mX7_init) (av := [_]) (st := [_, _]) rfl rfl (dX6_init 14 rfl rfl) (Nat.le_of_ble_eq_true rfl) wX7_init q221 (inv_N (host := "LetMill") (dX6_init 14 rfl rfl) (by decide) q560 q561 rfl (by decide) lX7_init) (fun b hb => by exact Or.inl (by have e : some _ = some b := hb; cases e; simp)) rfl ?_
  refine C.mono hf (fun _ _ => KV.g (fun h22 hf le23 => ?_))
  have k6 := leK le23 k6 (by decide)
  have k7 := leK le23 k7 (by decide)
  have k13 := leK le23 k13 (by decide)
  have k21 := leK le23 k21 (by decide)
  refine x_putR (pc' := 34) (dX6_init 15 rfl rfl) g58 q606 (Or.inl rfl) (Or.inr ⟨rfl, rfl, rfl, rfl⟩) (Or.inr rfl) rfl (hf_of 4 k7 rfl (by decide) m4_58) (fun h24 e76 => ?_)
  replace hf := hf h24 e76
  replace k6 : hK h24 q1 = 1000 := by rw [e76]; exact k6
  replace k7 : hK h24 a0 = 5 := by rw [e76]; exact k7
  replace k13 : hK h24 q9 = 6 := by rw [e76]; exact k13
  replace k21 : hK h24 q17 = 6 := by rw [e76]; exact k21
  refine x_aload_n (pc' := 35) 0 (dX6_init 16 rfl rfl) rfl rfl rfl ?_
  obtain ⟨n1, n2, hf⟩ := hf
  refine x_new (pc' := 38) (k := 5) (dX6_init 17 rfl rfl) q557 (by decide) rfl (by decide) n1 n2 (fun q25 h27 k26 e28 => ?_)
  replace hf := hf q25 k26 h27 e28
  replace k6 : hK h27 q1 = 1000 := by rw [e28]; exact kNO k6 (by decide) k26
  replace k7 : hK h27 a0 = 5 := by rw [e28]; exact kNO k7 (by decide) k26
  replace k13 : hK h27 q9 = 6 := by rw [e28]; exact kNO k13 (by decide) k26
  replace k21 : hK h27 q17 = 6 := by rw [e28]; exact kNO k21 (by decide) k26
  have k29 : hK h27 q25 = 6 := by rw [e28]; exact kNOs
  refine x_dup (pc' := 39) (dX6_init 18 rfl rfl) rfl rfl ?_
  refine x_inv (pc' := 42) (ν := mX7_init) (av := [_]) (st := [_, _]) rfl rfl (dX6_init 19 rfl rfl) (Nat.le_of_ble_eq_true rfl) wX7_init q221 (inv_N (host := "LetMill") (dX6_init 19 rfl rfl) (by decide) q560 q561 rfl (by decide) lX7_init) (fun b hb => by exact Or.inl (by have e : some _ = some b := hb; cases e; simp)) rfl ?_
  refine C.mono hf (fun _ _ => KV.g (fun h30 hf le31 => ?_))
  have k6 := leK le31 k6 (by decide)
  have k7 := leK le31 k7 (by decide)
  have k13 := leK le31 k13 (by decide)
  have k21 := leK le31 k21 (by decide)
  have k29 := leK le31 k29 (by decide)
  refine x_putR (pc' := 45) (dX6_init 20 rfl rfl) g59 q607 (Or.inl rfl) (Or.inr ⟨rfl, rfl, rfl, rfl⟩) (Or.inr rfl) rfl (hf_of 4 k7 rfl (by decide) m4_59) (fun h32 e75 => ?_)
  replace hf := hf h32 e75
  replace k6 : hK h32 q1 = 1000 := by rw [e75]; exact k6
  replace k7 : hK h32 a0 = 5 := by rw [e75]; exact k7
  replace k13 : hK h32 q9 = 6 := by rw [e75]; exact k13
  replace k21 : hK h32 q17 = 6 := by rw [e75]; exact k21
  replace k29 : hK h32 q25 = 6 := by rw [e75]; exact k29
  refine x_aload_n (pc' := 46) 0 (dX6_init 21 rfl rfl) rfl rfl rfl ?_
  refine x_sipush (pc' := 49) (v := 31000) (dX6_init 22 rfl rfl) (by decide) rfl ?_
  obtain ⟨z37, n1, n2, hf⟩ := hf
  refine x_newa0 (pc' := 51) (dX6_init 23 rfl rfl) rfl z37 (by decide) n1 n2 (fun q33 h35 k34 e36 => ?_)
  replace hf := hf q33 k34 h35 e36
  replace k6 : hK h35 q1 = 1000 := by rw [e36]; exact kNA k6 (by decide) k34
  replace k7 : hK h35 a0 = 5 := by rw [e36]; exact kNA k7 (by decide) k34
  replace k13 : hK h35 q9 = 6 := by rw [e36]; exact kNA k13 (by decide) k34
  replace k21 : hK h35 q17 = 6 := by rw [e36]; exact kNA k21 (by decide) k34
  replace k29 : hK h35 q25 = 6 := by rw [e36]; exact kNA k29 (by decide) k34
  have k38 : hK h35 q33 = 1000 := by rw [e36]; exact kNAs
  refine x_putR (pc' := 54) (dX6_init 24 rfl rfl) g60 q609 (Or.inl rfl) (Or.inr ⟨rfl, rfl, rfl, rfl⟩) (Or.inr rfl) rfl (hf_of 4 k7 rfl (by decide) m4_60) (fun h39 e74 => ?_)
  replace hf := hf h39 e74
  replace k6 : hK h39 q1 = 1000 := by rw [e74]; exact k6
  replace k7 : hK h39 a0 = 5 := by rw [e74]; exact k7
  replace k13 : hK h39 q9 = 6 := by rw [e74]; exact k13
  replace k21 : hK h39 q17 = 6 := by rw [e74]; exact k21
  replace k29 : hK h39 q25 = 6 := by rw [e74]; exact k29
  replace k38 : hK h39 q33 = 1000 := by rw [e74]; exact k38
  refine x_aload_n (pc' := 55) 0 (dX6_init 25 rfl rfl) rfl rfl rfl ?_
  refine x_sipush (pc' := 58) (v := 31000) (dX6_init 26 rfl rfl) (by decide) rfl ?_
  obtain ⟨z44, n1, n2, hf⟩ := hf
  refine x_newa0 (pc' := 60) (dX6_init 27 rfl rfl) rfl z44 (by decide) n1 n2 (fun q40 h42 k41 e43 => ?_)
  replace hf := hf q40 k41 h42 e43
  replace k6 : hK h42 q1 = 1000 := by rw [e43]; exact kNA k6 (by decide) k41
  replace k7 : hK h42 a0 = 5 := by rw [e43]; exact kNA k7 (by decide) k41
  replace k13 : hK h42 q9 = 6 := by rw [e43]; exact kNA k13 (by decide) k41
  replace k21 : hK h42 q17 = 6 := by rw [e43]; exact kNA k21 (by decide) k41
  replace k29 : hK h42 q25 = 6 := by rw [e43]; exact kNA k29 (by decide) k41
  replace k38 : hK h42 q33 = 1000 := by rw [e43]; exact kNA k38 (by decide) k41
  have k45 : hK h42 q40 = 1000 := by rw [e43]; exact kNAs
  refine x_putR (pc' := 63) (dX6_init 28 rfl rfl) g61 q610 (Or.inl rfl) (Or.inr ⟨rfl, rfl, rfl, rfl⟩) (Or.inr rfl) rfl (hf_of 4 k7 rfl (by decide) m4_61) (fun h46 e73 => ?_)
  replace hf := hf h46 e73
  replace k6 : hK h46 q1 = 1000 := by rw [e73]; exact k6
  replace k7 : hK h46 a0 = 5 := by rw [e73]; exact k7
  replace k13 : hK h46 q9 = 6 := by rw [e73]; exact k13
  replace k21 : hK h46 q17 = 6 := by rw [e73]; exact k21
  replace k29 : hK h46 q25 = 6 := by rw [e73]; exact k29
  replace k38 : hK h46 q33 = 1000 := by rw [e73]; exact k38
  replace k45 : hK h46 q40 = 1000 := by rw [e73]; exact k45
  refine x_aload_n (pc' := 64) 0 (dX6_init 29 rfl rfl) rfl rfl rfl ?_
  refine x_sipush (pc' := 67) (v := 31000) (dX6_init 30 rfl rfl) (by decide) rfl ?_
  obtain ⟨z51, n1, n2, hf⟩ := hf
  refine x_newa0 (pc' := 69) (dX6_init 31 rfl rfl) rfl z51 (by decide) n1 n2 (fun q47 h49 k48 e50 => ?_)
  replace hf := hf q47 k48 h49 e50
  replace k6 : hK h49 q1 = 1000 := by rw [e50]; exact kNA k6 (by decide) k48
  replace k7 : hK h49 a0 = 5 := by rw [e50]; exact kNA k7 (by decide) k48
  replace k13 : hK h49 q9 = 6 := by rw [e50]; exact kNA k13 (by decide) k48
  replace k21 : hK h49 q17 = 6 := by rw [e50]; exact kNA k21 (by decide) k48
  replace k29 : hK h49 q25 = 6 := by rw [e50]; exact kNA k29 (by decide) k48
  replace k38 : hK h49 q33 = 1000 := by rw [e50]; exact kNA k38 (by decide) k48
  replace k45 : hK h49 q40 = 1000 := by rw [e50]; exact kNA k45 (by decide) k48
  have k52 : hK h49 q47 = 1000 := by rw [e50]; exact kNAs
  refine x_putR (pc' := 72) (dX6_init 32 rfl rfl) g62 q611 (Or.inl rfl) (Or.inr ⟨rfl, rfl, rfl, rfl⟩) (Or.inr rfl) rfl (hf_of 4 k7 rfl (by decide) m4_62) (fun h53 e72 => ?_)
  replace hf := hf h53 e72
  replace k6 : hK h53 q1 = 1000 := by rw [e72]; exact k6
  replace k7 : hK h53 a0 = 5 := by rw [e72]; exact k7
  replace k13 : hK h53 q9 = 6 := by rw [e72]; exact k13
  replace k21 : hK h53 q17 = 6 := by rw [e72]; exact k21
  replace k29 : hK h53 q25 = 6 := by rw [e72]; exact k29
  replace k38 : hK h53 q33 = 1000 := by rw [e72]; exact k38
  replace k45 : hK h53 q40 = 1000 := by rw [e72]; exact k45
  replace k52 : hK h53 q47 = 1000 := by rw [e72]; exact k52
  refine x_aload_n (pc' := 73) 0 (dX6_init 33 rfl rfl) rfl rfl rfl ?_
  refine x_sipush (pc' := 76) (v := 31000) (dX6_init 34 rfl rfl) (by decide) rfl ?_
  obtain ⟨z58, n1, n2, hf⟩ := hf
  refine x_newa0 (pc' := 78) (dX6_init 35 rfl rfl) rfl z58 (by decide) n1 n2 (fun q54 h56 k55 e57 => ?_)
  replace hf := hf q54 k55 h56 e57
  replace k6 : hK h56 q1 = 1000 := by rw [e57]; exact kNA k6 (by decide) k55
  replace k7 : hK h56 a0 = 5 := by rw [e57]; exact kNA k7 (by decide) k55
  replace k13 : hK h56 q9 = 6 := by rw [e57]; exact kNA k13 (by decide) k55
  replace k21 : hK h56 q17 = 6 := by rw [e57]; exact kNA k21 (by decide) k55
  replace k29 : hK h56 q25 = 6 := by rw [e57]; exact kNA k29 (by decide) k55
  replace k38 : hK h56 q33 = 1000 := by rw [e57]; exact kNA k38 (by decide) k55
  replace k45 : hK h56 q40 = 1000 := by rw [e57]; exact kNA k45 (by decide) k55
  replace k52 : hK h56 q47 = 1000 := by rw [e57]; exact kNA k52 (by decide) k55
  have k59 : hK h56 q54 = 1000 := by rw [e57]; exact kNAs
  refine x_putR (pc' := 81) (dX6_init 36 rfl rfl) g64 q613 (Or.inl rfl) (Or.inr ⟨rfl, rfl, rfl, rfl⟩) (Or.inr rfl) rfl (hf_of 4 k7 rfl (by decide) m4_64) (fun h60 e71 => ?_)
  replace hf := hf h60 e71
  replace k6 : hK h60 q1 = 1000 := by rw [e71]; exact k6
  replace k7 : hK h60 a0 = 5 := by rw [e71]; exact k7
  replace k13 : hK h60 q9 = 6 := by rw [e71]; exact k13
  replace k21 : hK h60 q17 = 6 := by rw [e71]; exact k21
  replace k29 : hK h60 q25 = 6 := by rw [e71]; exact k29
  replace k38 : hK h60 q33 = 1000 := by rw [e71]; exact k38
  replace k45 : hK h60 q40 = 1000 := by rw [e71]; exact k45
  replace k52 : hK h60 q47 = 1000 := by rw [e71]; exact k52
  replace k59 : hK h60 q54 = 1000 := by rw [e71]; exact k59
  refine x_aload_n (pc' := 82) 0 (dX6_init 37 rfl rfl) rfl rfl rfl ?_
  refine x_bipush (pc' := 84) (v := 30) (dX6_init 38 rfl rfl) (by decide) rfl ?_
  obtain ⟨z65, n1, n2, hf⟩ := hf
  refine x_newa0 (pc' := 86) (dX6_init 39 rfl rfl) rfl z65 (by decide) n1 n2 (fun q61 h63 k62 e64 => ?_)
  replace hf := hf q61 k62 h63 e64
  replace k6 : hK h63 q1 = 1000 := by rw [e64]; exact kNA k6 (by decide) k62
  replace k7 : hK h63 a0 = 5 := by rw [e64]; exact kNA k7 (by decide) k62
  replace k13 : hK h63 q9 = 6 := by rw [e64]; exact kNA k13 (by decide) k62
  replace k21 : hK h63 q17 = 6 := by rw [e64]; exact kNA k21 (by decide) k62
  replace k29 : hK h63 q25 = 6 := by rw [e64]; exact kNA k29 (by decide) k62
  replace k38 : hK h63 q33 = 1000 := by rw [e64]; exact kNA k38 (by decide) k62
  replace k45 : hK h63 q40 = 1000 := by rw [e64]; exact kNA k45 (by decide) k62
  replace k52 : hK h63 q47 = 1000 := by rw [e64]; exact kNA k52 (by decide) k62
  replace k59 : hK h63 q54 = 1000 := by rw [e64]; exact kNA k59 (by decide) k62
  have k66 : hK h63 q61 = 1000 := by rw [e64]; exact kNAs
  refine x_putR (pc' := 89) (dX6_init 40 rfl rfl) g66 q615 (Or.inl rfl) (Or.inr ⟨rfl, rfl, rfl, rfl⟩) (Or.inr rfl) rfl (hf_of 4 k7 rfl (by decide) m4_66) (fun h67 e70 => ?_)
  replace hf := hf h67 e70
  replace k6 : hK h67 q1 = 1000 := by rw [e70]; exact k6
  replace k7 : hK h67 a0 = 5 := by rw [e70]; exact k7
  replace k13 : hK h67 q9 = 6 := by rw [e70]; exact k13
  replace k21 : hK h67 q17 = 6 := by rw [e70]; exact k21
  replace k29 : hK h67 q25 = 6 := by rw [e70]; exact k29
  replace k38 : hK h67 q33 = 1000 := by rw [e70]; exact k38
  replace k45 : hK h67 q40 = 1000 := by rw [e70]; exact k45
  replace k52 : hK h67 q47 = 1000 := by rw [e70]; exact k52
  replace k59 : hK h67 q54 = 1000 := by rw [e70]; exact k59
  replace k66 : hK h67 q61 = 1000 := by rw [e70]; exact k66
  refine x_aload_n (pc' := 90) 0 (dX6_init 41 rfl rfl) rfl rfl rfl ?_
  refine x_inv (pc' := 93) (ν := mX6_clear) (av := [_]) (st := []) rfl rfl (dX6_init 42 rfl rfl) (Nat.le_of_ble_eq_true rfl) wX6_clear q220 (inv_V (k := 4) (dX6_init 42 rfl rfl) q585 q586 q587 wX6_clear (by decide) lX6_clear (by decide) k7) (exN (by decide)) rfl ?_
  refine C.mono hf (fun _ _ => KV.g (fun h68 hf le69 => ?_))
  have k6 := leK le69 k6 (by decide)
  have k7 := leK le69 k7 (by decide)
  have k13 := leK le69 k13 (by decide)
  have k21 := leK le69 k21 (by decide)
  have k29 := leK le69 k29 (by decide)
  have k38 := leK le69 k38 (by decide)
  have k45 := leK le69 k45 (by decide)
  have k52 := leK le69 k52 (by decide)
  have k59 := leK le69 k59 (by decide)
  have k66 := leK le69 k66 (by decide)
  exact x_vret (dX6_init 43 rfl rfl) rfl hf
theorem bX6_clear (G : Gh) (d : Nat) (h : AH) (Q : Outcome → AH → Prop)  (s3 : So 3 (gW G) h) (hf : ∀ h1, h1 = pI h (gW G 3) 56 5 → (X G mX6_clear (d + 1) none [] 7 [(0, .ref (gW G 3)), (1, .int (0))] [] h1 Q)) : C G mX6_clear (d + 1) [.ref (gW G 3)] h Q := by
  refine C.of_X (by decide +kernel) (Nat.le_of_ble_eq_true rfl) wX6_clear ?_
  show X G mX6_clear (d + 1) none [] 0 [(0, .ref (gW G 3))] [] h Q
  refine x_aload_n (pc' := 1) 0 (dX6_clear 0 rfl rfl) rfl rfl rfl ?_
  refine x_iconst (pc' := 2) (v := 5) (dX6_clear 1 rfl rfl) (by decide) rfl ?_
  refine x_putI (pc' := 5) (dX6_clear 2 rfl rfl) g56 q604 (Or.inl rfl) (Or.inl rfl) (Or.inl (by decide)) rfl (hf_of 4 s3.1 rfl (by decide) m4_56) (fun h1 e2 => ?_)
  replace hf := hf h1 e2
  replace s3 : So 3 (gW G) h1 := by rw [e2]; exact s3.le sc3 (pI_le (Or.inl rfl))
  refine x_iconst (pc' := 6) (v := 0) (dX6_clear 3 rfl rfl) (by decide) rfl ?_
  refine x_istore_n (pc' := 7) (dX6_clear 4 rfl rfl) rfl (by decide) rfl rfl ?_
  exact X.sub [1, 0] rfl (by simp) hf
theorem bX6_clear_7 (G : Gh) (d : Nat) (h : AH) (Q : Outcome → AH → Prop) (l1 : Int32) (s3 : So 3 (gW G) h) (hf : (7 ≤ l1 → (∀ h2, h2 = pI h (gW G 1058) 78 0 → (C G mX7_add d [.ref (gW G 1058), .ref (gW G 1057)] h2 (KV Q (fun h3 => ∀ h5, h5 = pI h3 (gW G 1059) 78 0 → (∀ h6, h6 = pI h5 (gW G 1057) 78 0 → (∀ h7, h7 = pI h6 (gW G 3) 70 0 → (∀ h8, h8 = pI h7 (gW G 3) 71 0 → (∀ h9, h9 = pI h8 (gW G 3) 76 0 → (Q (.returned none) h9)))))))))) ∧ (¬ (7 ≤ l1) → (vp_in (fI h (gW G 3) 56) 960100 ∧ ∀ h17, h17 = sI h (gW G 1055) (fI h (gW G 3) 56).toNatClampNeg 8 → (vp_in ((fI h17 (gW G 3) 56) + 1) 960100 ∧ ∀ h20, h20 = sI h17 (gW G 1055) ((fI h17 (gW G 3) 56) + 1).toNatClampNeg l1 → (∀ h22, h22 = pI h20 (gW G 3) 56 ((fI h20 (gW G 3) 56) + 2) → (∀ x23 : Int32, x23 = l1 + 1 → (X G mX6_clear (d + 1) none [] 7 [(0, .ref (gW G 3)), (1, .int (x23))] [] h22 Q))))))) : X G mX6_clear (d + 1) none [] 7 [(0, .ref (gW G 3)), (1, .int (l1))] [] h Q := by
  refine x_iload_n (pc' := 8) 1 (dX6_clear 5 rfl rfl) rfl rfl rfl ?_
  refine x_bipush (pc' := 10) (v := 7) (dX6_clear 6 rfl rfl) (by decide) rfl ?_
  refine x_icmp_ge (pc' := 13) (tgt := 52) (dX6_clear 7 rfl rfl) (by decide) rfl (fun c1 => ?_) (fun c1 => ?_)
  · replace hf := hf.1 c1
    refine x_aload_n (pc' := 53) 0 (dX6_clear 30 rfl rfl) rfl rfl rfl ?_
    refine x_getR (pc' := 56) (dX6_clear 31 rfl rfl) g58 q606 (Or.inl rfl) rfl (hf_of 4 s3.1 rfl (by decide) m4_58) (s3.2 2 _ rfl rfl).1 ?_
    refine x_iconst (pc' := 57) (v := 0) (dX6_clear 32 rfl rfl) (by decide) rfl ?_
    refine x_putI (pc' := 60) (dX6_clear 33 rfl rfl) g78 q574 (Or.inl rfl) (Or.inl rfl) (Or.inl (by decide)) rfl (hf_of 5 (s3.2 2 _ rfl rfl).2.1 rfl (by decide) m5_78) (fun h2 e15 => ?_)
    replace hf := hf h2 e15
    replace s3 : So 3 (gW G) h2 := by rw [e15]; exact s3.le sc3 (pI_le (Or.inl rfl))
    refine x_aload_n (pc' := 61) 0 (dX6_clear 34 rfl rfl) rfl rfl rfl ?_
    refine x_getR (pc' := 64) (dX6_clear 35 rfl rfl) g58 q606 (Or.inl rfl) rfl (hf_of 4 s3.1 rfl (by decide) m4_58) (s3.2 2 _ rfl rfl).1 ?_
    refine x_aload_n (pc' := 65) 0 (dX6_clear 36 rfl rfl) rfl rfl rfl ?_
    refine x_getR (pc' := 68) (dX6_clear 37 rfl rfl) g57 q605 (Or.inl rfl) rfl (hf_of 4 s3.1 rfl (by decide) m4_57) (s3.2 1 _ rfl rfl).1 ?_
    refine x_inv (pc' := 71) (ν := mX7_add) (av := [_, _]) (st := []) rfl rfl (dX6_clear 38 rfl rfl) (Nat.le_of_ble_eq_true rfl) wX7_add q221 (inv_V (k := 5) (dX6_clear 38 rfl rfl) q589 q590 q591 wX7_add (by decide) lX7_add (by decide) (s3.2 2 _ rfl rfl).2.1) (exN (by decide)) rfl ?_
    refine C.mono hf (fun _ _ => KV.g (fun h3 hf le4 => ?_))
    replace s3 := s3.le sc3 (le4)
    refine x_aload_n (pc' := 72) 0 (dX6_clear 39 rfl rfl) rfl rfl rfl ?_
    refine x_getR (pc' := 75) (dX6_clear 40 rfl rfl) g59 q607 (Or.inl rfl) rfl (hf_of 4 s3.1 rfl (by decide) m4_59) (s3.2 3 _ rfl rfl).1 ?_
    refine x_iconst (pc' := 76) (v := 0) (dX6_clear 41 rfl rfl) (by decide) rfl ?_
    refine x_putI (pc' := 79) (dX6_clear 42 rfl rfl) g78 q574 (Or.inl rfl) (Or.inl rfl) (Or.inl (by decide)) rfl (hf_of 5 (s3.2 3 _ rfl rfl).2.1 rfl (by decide) m5_78) (fun h5 e14 => ?_)
    replace hf := hf h5 e14
    replace s3 : So 3 (gW G) h5 := by rw [e14]; exact s3.le sc3 (pI_le (Or.inl rfl))
    refine x_aload_n (pc' := 80) 0 (dX6_clear 43 rfl rfl) rfl rfl rfl ?_
    refine x_getR (pc' := 83) (dX6_clear 44 rfl rfl) g57 q605 (Or.inl rfl) rfl (hf_of 4 s3.1 rfl (by decide) m4_57) (s3.2 1 _ rfl rfl).1 ?_
    refine x_iconst (pc' := 84) (v := 0) (dX6_clear 45 rfl rfl) (by decide) rfl ?_
    refine x_putI (pc' := 87) (dX6_clear 46 rfl rfl) g78 q574 (Or.inl rfl) (Or.inl rfl) (Or.inl (by decide)) rfl (hf_of 5 (s3.2 1 _ rfl rfl).2.1 rfl (by decide) m5_78) (fun h6 e13 => ?_)
    replace hf := hf h6 e13
    replace s3 : So 3 (gW G) h6 := by rw [e13]; exact s3.le sc3 (pI_le (Or.inl rfl))
    refine x_aload_n (pc' := 88) 0 (dX6_clear 47 rfl rfl) rfl rfl rfl ?_
    refine x_iconst (pc' := 89) (v := 0) (dX6_clear 48 rfl rfl) (by decide) rfl ?_
    refine x_putI (pc' := 92) (dX6_clear 49 rfl rfl) g70 q619 (Or.inl rfl) (Or.inl rfl) (Or.inl (by decide)) rfl (hf_of 4 s3.1 rfl (by decide) m4_70) (fun h7 e12 => ?_)
    replace hf := hf h7 e12
    replace s3 : So 3 (gW G) h7 := by rw [e12]; exact s3.le sc3 (pI_le (Or.inl rfl))
    refine x_aload_n (pc' := 93) 0 (dX6_clear 50 rfl rfl) rfl rfl rfl ?_
    refine x_iconst (pc' := 94) (v := 0) (dX6_clear 51 rfl rfl) (by decide) rfl ?_
    refine x_putI (pc' := 97) (dX6_clear 52 rfl rfl) g71 q621 (Or.inl rfl) (Or.inl rfl) (Or.inl (by decide)) rfl (hf_of 4 s3.1 rfl (by decide) m4_71) (fun h8 e11 => ?_)
    replace hf := hf h8 e11
    replace s3 : So 3 (gW G) h8 := by rw [e11]; exact s3.le sc3 (pI_le (Or.inl rfl))
    refine x_aload_n (pc' := 98) 0 (dX6_clear 53 rfl rfl) rfl rfl rfl ?_
    refine x_iconst (pc' := 99) (v := 0) (dX6_clear 54 rfl rfl) (by decide) rfl ?_
    refine x_putI (pc' := 102) (dX6_clear 55 rfl rfl) g76 q627 (Or.inl rfl) (Or.inl rfl) (Or.inl (by decide)) rfl (hf_of 4 s3.1 rfl (by decide) m4_76) (fun h9 e10 => ?_)
    replace hf := hf h9 e10
    replace s3 : So 3 (gW G) h9 := by rw [e10]; exact s3.le sc3 (pI_le (Or.inl rfl))
    exact x_vret (dX6_clear 56 rfl rfl) rfl hf
  · replace hf := hf.2 c1
    refine x_aload_n (pc' := 14) 0 (dX6_clear 8 rfl rfl) rfl rfl rfl ?_
    refine x_getR (pc' := 17) (dX6_clear 9 rfl rfl) g55 q603 (Or.inl rfl) rfl (hf_of 4 s3.1 rfl (by decide) m4_55) (s3.2 0 _ rfl rfl).1 ?_
    refine x_aload_n (pc' := 18) 0 (dX6_clear 10 rfl rfl) rfl rfl rfl ?_
    refine x_getI (pc' := 21) (dX6_clear 11 rfl rfl) g56 q604 (Or.inl rfl) rfl (hf_of 4 s3.1 rfl (by decide) m4_56) ?_
    refine x_bipush (pc' := 23) (v := 8) (dX6_clear 12 rfl rfl) (by decide) rfl ?_
    obtain ⟨i16, hf⟩ := hf
    refine x_iast (pc' := 24) (dX6_clear 13 rfl rfl) rfl (s3.2 0 _ rfl rfl).2.1 (Or.inl ⟨55, by decide, rfl, by decide⟩) (by rw [(s3.2 0 _ rfl rfl).2.2.2 (by decide)]; exact i16) (fun h17 e18 => ?_)
    replace hf := hf h17 e18
    replace s3 : So 3 (gW G) h17 := by rw [e18]; exact s3.le sc3 (sI_le )
    refine x_aload_n (pc' := 25) 0 (dX6_clear 14 rfl rfl) rfl rfl rfl ?_
    refine x_getR (pc' := 28) (dX6_clear 15 rfl rfl) g55 q603 (Or.inl rfl) rfl (hf_of 4 s3.1 rfl (by decide) m4_55) (s3.2 0 _ rfl rfl).1 ?_
    refine x_aload_n (pc' := 29) 0 (dX6_clear 16 rfl rfl) rfl rfl rfl ?_
    refine x_getI (pc' := 32) (dX6_clear 17 rfl rfl) g56 q604 (Or.inl rfl) rfl (hf_of 4 s3.1 rfl (by decide) m4_56) ?_
    refine x_iconst (pc' := 33) (v := 1) (dX6_clear 18 rfl rfl) (by decide) rfl ?_
    refine x_iadd (pc' := 34) (dX6_clear 19 rfl rfl) rfl ?_
    refine x_iload_n (pc' := 35) 1 (dX6_clear 20 rfl rfl) rfl rfl rfl ?_
    obtain ⟨i19, hf⟩ := hf
    refine x_iast (pc' := 36) (dX6_clear 21 rfl rfl) rfl (s3.2 0 _ rfl rfl).2.1 (Or.inl ⟨55, by decide, rfl, by decide⟩) (by rw [(s3.2 0 _ rfl rfl).2.2.2 (by decide)]; exact i19) (fun h20 e21 => ?_)
    replace hf := hf h20 e21
    replace s3 : So 3 (gW G) h20 := by rw [e21]; exact s3.le sc3 (sI_le )
    refine x_aload_n (pc' := 37) 0 (dX6_clear 22 rfl rfl) rfl rfl rfl ?_
    refine x_dup (pc' := 38) (dX6_clear 23 rfl rfl) rfl rfl ?_
    refine x_getI (pc' := 41) (dX6_clear 24 rfl rfl) g56 q604 (Or.inl rfl) rfl (hf_of 4 s3.1 rfl (by decide) m4_56) ?_
    refine x_iconst (pc' := 42) (v := 2) (dX6_clear 25 rfl rfl) (by decide) rfl ?_
    refine x_iadd (pc' := 43) (dX6_clear 26 rfl rfl) rfl ?_
    refine x_putI (pc' := 46) (dX6_clear 27 rfl rfl) g56 q604 (Or.inl rfl) (Or.inl rfl) (Or.inl (by decide)) rfl (hf_of 4 s3.1 rfl (by decide) m4_56) (fun h22 e24 => ?_)
    replace hf := hf h22 e24
    replace s3 : So 3 (gW G) h22 := by rw [e24]; exact s3.le sc3 (pI_le (Or.inl rfl))
    replace hf := hf _ rfl
    refine x_iinc (pc' := 49) 1 (dX6_clear 28 rfl rfl) rfl (by rfl) (by decide) rfl rfl ?_
    refine x_goto (tgt := 7) (dX6_clear 29 rfl rfl) (by decide) ?_
    exact X.sub [1, 0] rfl (by simp) hf
theorem bX6_builtIn (G : Gh) (d : Nat) (h : AH) (Q : Outcome → AH → Prop) (p1 : Int32) (hf : Q (.returned (some (.int (5 + (2 * p1))))) h) : C G mX6_builtIn d [.ref (gW G 3), .int (p1)] h Q := by
  refine C.of_X (by decide +kernel) (Nat.le_of_ble_eq_true rfl) wX6_builtIn ?_
  show X G mX6_builtIn d none [] 0 [(0, .ref (gW G 3)), (1, .int (p1))] [] h Q
  refine x_iconst (pc' := 1) (v := 5) (dX6_builtIn 0 rfl rfl) (by decide) rfl ?_
  refine x_iconst (pc' := 2) (v := 2) (dX6_builtIn 1 rfl rfl) (by decide) rfl ?_
  refine x_iload_n (pc' := 3) 1 (dX6_builtIn 2 rfl rfl) rfl rfl rfl ?_
  refine x_imul (pc' := 4) (dX6_builtIn 3 rfl rfl) rfl ?_
  refine x_iadd (pc' := 5) (dX6_builtIn 4 rfl rfl) rfl ?_
  exact x_iret (dX6_builtIn 5 rfl rfl) rfl hf
theorem bX6_run (G : Gh) (d : Nat) (h : AH) (Q : Outcome → AH → Prop) (p1 : Nat) (p2 : Int32) (s3 : So 3 (gW G) h) (hf : ∀ h1, h1 = pI h (gW G 3) 70 0 → (∀ h2, h2 = pI h1 (gW G 3) 72 p2 → (∀ h3, h3 = pI h2 (gW G 3) 73 0 → (∀ h4, h4 = pI h3 (gW G 3) 63 0 → (∀ h5, h5 = pI h4 (gW G 3) 65 0 → (∀ h6, h6 = pI h5 (gW G 3) 74 0 → (C G mX6_next d [.ref (gW G 3), .ref (p1), .int (0)] h6 (KV Q (fun h7 => X G mX6_run (d + 1) none [] 36 [(0, .ref (gW G 3))] [] h7 Q))))))))) : C G mX6_run (d + 1) [.ref (gW G 3), .ref (p1), .int (p2)] h Q := by
  refine C.of_X (by decide +kernel) (Nat.le_of_ble_eq_true rfl) wX6_run ?_
  show X G mX6_run (d + 1) none [] 0 [(0, .ref (gW G 3)), (1, .ref (p1)), (2, .int (p2))] [] h Q
  refine x_aload_n (pc' := 1) 0 (dX6_run 0 rfl rfl) rfl rfl rfl ?_
  refine x_iconst (pc' := 2) (v := 0) (dX6_run 1 rfl rfl) (by decide) rfl ?_
  refine x_putI (pc' := 5) (dX6_run 2 rfl rfl) g70 q619 (Or.inl rfl) (Or.inl rfl) (Or.inl (by decide)) rfl (hf_of 4 s3.1 rfl (by decide) m4_70) (fun h1 e14 => ?_)
  replace hf := hf h1 e14
  replace s3 : So 3 (gW G) h1 := by rw [e14]; exact s3.le sc3 (pI_le (Or.inl rfl))
  refine x_aload_n (pc' := 6) 0 (dX6_run 3 rfl rfl) rfl rfl rfl ?_
  refine x_iload_n (pc' := 7) 2 (dX6_run 4 rfl rfl) rfl rfl rfl ?_
  refine x_putI (pc' := 10) (dX6_run 5 rfl rfl) g72 q623 (Or.inl rfl) (Or.inl rfl) (Or.inl (by decide)) rfl (hf_of 4 s3.1 rfl (by decide) m4_72) (fun h2 e13 => ?_)
  replace hf := hf h2 e13
  replace s3 : So 3 (gW G) h2 := by rw [e13]; exact s3.le sc3 (pI_le (Or.inl rfl))
  refine x_aload_n (pc' := 11) 0 (dX6_run 6 rfl rfl) rfl rfl rfl ?_
  refine x_iconst (pc' := 12) (v := 0) (dX6_run 7 rfl rfl) (by decide) rfl ?_
  refine x_putI (pc' := 15) (dX6_run 8 rfl rfl) g73 q624 (Or.inl rfl) (Or.inl rfl) (Or.inl (by decide)) rfl (hf_of 4 s3.1 rfl (by decide) m4_73) (fun h3 e12 => ?_)
  replace hf := hf h3 e12
  replace s3 : So 3 (gW G) h3 := by rw [e12]; exact s3.le sc3 (pI_le (Or.inl rfl))
  refine x_aload_n (pc' := 16) 0 (dX6_run 9 rfl rfl) rfl rfl rfl ?_
  refine x_iconst (pc' := 17) (v := 0) (dX6_run 10 rfl rfl) (by decide) rfl ?_
  refine x_putI (pc' := 20) (dX6_run 11 rfl rfl) g63 q612 (Or.inl rfl) (Or.inl rfl) (Or.inl (by decide)) rfl (hf_of 4 s3.1 rfl (by decide) m4_63) (fun h4 e11 => ?_)
  replace hf := hf h4 e11
  replace s3 : So 3 (gW G) h4 := by rw [e11]; exact s3.le sc3 (pI_le (Or.inl rfl))
  refine x_aload_n (pc' := 21) 0 (dX6_run 12 rfl rfl) rfl rfl rfl ?_
  refine x_iconst (pc' := 22) (v := 0) (dX6_run 13 rfl rfl) (by decide) rfl ?_
  refine x_putI (pc' := 25) (dX6_run 14 rfl rfl) g65 q614 (Or.inl rfl) (Or.inl rfl) (Or.inl (by decide)) rfl (hf_of 4 s3.1 rfl (by decide) m4_65) (fun h5 e10 => ?_)
  replace hf := hf h5 e10
  replace s3 : So 3 (gW G) h5 := by rw [e10]; exact s3.le sc3 (pI_le (Or.inl rfl))
  refine x_aload_n (pc' := 26) 0 (dX6_run 15 rfl rfl) rfl rfl rfl ?_
  refine x_iconst (pc' := 27) (v := 0) (dX6_run 16 rfl rfl) (by decide) rfl ?_
  refine x_putZ (pc' := 30) (dX6_run 17 rfl rfl) g74 q625 (Or.inl rfl) (Or.inl rfl) (Or.inl (by decide)) rfl (hf_of 4 s3.1 rfl (by decide) m4_74) (by decide) (fun h6 e9 => ?_)
  replace hf := hf h6 e9
  replace s3 : So 3 (gW G) h6 := by rw [e9]; exact s3.le sc3 (pI_le (Or.inl rfl))
  refine x_aload_n (pc' := 31) 0 (dX6_run 18 rfl rfl) rfl rfl rfl ?_
  refine x_aload_n (pc' := 32) 1 (dX6_run 19 rfl rfl) rfl rfl rfl ?_
  refine x_iconst (pc' := 33) (v := 0) (dX6_run 20 rfl rfl) (by decide) rfl ?_
  refine x_inv (pc' := 36) (ν := mX6_next) (av := [_, _, _]) (st := []) rfl rfl (dX6_run 21 rfl rfl) (Nat.le_of_ble_eq_true rfl) wX6_next q220 (inv_V (k := 4) (dX6_run 21 rfl rfl) q2880 q2881 q2882 wX6_next (by decide) lX6_next (by decide) s3.1) (exN (by decide)) rfl ?_
  refine C.mono hf (fun _ _ => KV.g (fun h7 hf le8 => ?_))
  replace s3 := s3.le sc3 (le8)
  exact X.sub [0] rfl (by simp) hf
theorem bX6_run_36 (G : Gh) (d : Nat) (h : AH) (Q : Outcome → AH → Prop)  (s3 : So 3 (gW G) h) (hf : ((fI h (gW G 3) 74) = 0 → (((fI h (gW G 3) 73) = 0 → (OC (fR h (gW G 3) 67) (∀ h13, h13 = pI h (gW G 3) 63 ((fI h (gW G 3) 63) - 1) → (vp_in (fI h13 (gW G 3) 63) 31000 ∧ (C G mX7_get d [.ref (gW G 1057), .int (aI h13 (gW G 1060) (fI h13 (gW G 3) 63).toNatClampNeg)] h13 (KR Q (fun b17 h15 => CT h15 b17 "LetMill$Exp" ∧ (vp_in (fI h15 (gW G 3) 63) 31000 ∧ (vp_in (fI h15 (gW G 3) 63) 31000 ∧ (∃ (k : Nat) (ν : Mu), VT yX16_resume VMExp_resume k ν ∧ hK h15 b17 = k + 1 ∧ C G ν d [.ref (b17), .ref (gW G 3), .int (aI h15 (gW G 1061) (fI h15 (gW G 3) 63).toNatClampNeg), .int (aI h15 (gW G 1062) (fI h15 (gW G 3) 63).toNatClampNeg), .int (fI h15 (gW G 3) 69)] h15 (KV Q (fun h21 => X G mX6_run (d + 1) none [] 36 [(0, .ref (gW G 3))] [] h21 Q)))))))))) (fun b11 => OC (fR h (gW G 3) 67) (∀ h29, h29 = pR h (gW G 3) 67 none → (False)) (fun b27 => ∀ h31, h31 = pR h (gW G 3) 67 none → (∃ (k : Nat) (ν : Mu), VT ⟨"LetMill$Exp", "begin", "(LLetMill$Machine;I)V"⟩ VMExp_begin k ν ∧ hK h31 b27 = k + 1 ∧ C G ν d [.ref (b27), .ref (gW G 3), .int (fI h31 (gW G 3) 68)] h31 (KV Q (fun h32 => X G mX6_run (d + 1) none [] 36 [(0, .ref (gW G 3))] [] h32 Q))))))) ∧ (¬ ((fI h (gW G 3) 73) = 0) → (∀ h7, h7 = pR h (gW G 3) 67 none → (∀ h8, h8 = pI h7 (gW G 3) 71 ((fI h7 (gW G 3) 71) + (fI h7 (gW G 3) 70)) → (Q (.returned (some (.int (fI h8 (gW G 3) 73)))) h8)))))) ∧ (¬ ((fI h (gW G 3) 74) = 0) → (∀ h2, h2 = pR h (gW G 3) 67 none → (∀ h3, h3 = pI h2 (gW G 3) 71 ((fI h2 (gW G 3) 71) + (fI h2 (gW G 3) 70)) → (Q (.returned (some (.int (fI h3 (gW G 3) 73)))) h3))))) : X G mX6_run (d + 1) none [] 36 [(0, .ref (gW G 3))] [] h Q := by
  refine x_aload_n (pc' := 37) 0 (dX6_run 22 rfl rfl) rfl rfl rfl ?_
  refine x_getZ (pc' := 40) (dX6_run 23 rfl rfl) g74 q625 (Or.inl rfl) rfl (hf_of 4 s3.1 rfl (by decide) m4_74) ?_
  refine x_if_ne (pc' := 43) (tgt := 139) (dX6_run 24 rfl rfl) (by decide) rfl (fun c1 => ?_) (fun c1 => ?_)
  · replace hf := hf.2 c1
    refine x_aload_n (pc' := 140) 0 (dX6_run 75 rfl rfl) rfl rfl rfl ?_
    refine x_null (pc' := 141) (dX6_run 76 rfl rfl) rfl ?_
    refine x_putN (pc' := 144) (dX6_run 77 rfl rfl) g67 q616 (Or.inl rfl) (Or.inl rfl) (Or.inl (by decide)) rfl (hf_of 4 s3.1 rfl (by decide) m4_67) (fun h2 e5 => ?_)
    replace hf := hf h2 e5
    replace s3 : So 3 (gW G) h2 := by rw [e5]; exact s3.le sc3 (pR_le (Or.inl rfl))
    refine x_aload_n (pc' := 145) 0 (dX6_run 78 rfl rfl) rfl rfl rfl ?_
    refine x_dup (pc' := 146) (dX6_run 79 rfl rfl) rfl rfl ?_
    refine x_getI (pc' := 149) (dX6_run 80 rfl rfl) g71 q621 (Or.inl rfl) rfl (hf_of 4 s3.1 rfl (by decide) m4_71) ?_
    refine x_aload_n (pc' := 150) 0 (dX6_run 81 rfl rfl) rfl rfl rfl ?_
    refine x_getI (pc' := 153) (dX6_run 82 rfl rfl) g70 q619 (Or.inl rfl) rfl (hf_of 4 s3.1 rfl (by decide) m4_70) ?_
    refine x_iadd (pc' := 154) (dX6_run 83 rfl rfl) rfl ?_
    refine x_putI (pc' := 157) (dX6_run 84 rfl rfl) g71 q621 (Or.inl rfl) (Or.inl rfl) (Or.inl (by decide)) rfl (hf_of 4 s3.1 rfl (by decide) m4_71) (fun h3 e4 => ?_)
    replace hf := hf h3 e4
    replace s3 : So 3 (gW G) h3 := by rw [e4]; exact s3.le sc3 (pI_le (Or.inl rfl))
    refine x_aload_n (pc' := 158) 0 (dX6_run 85 rfl rfl) rfl rfl rfl ?_
    refine x_getI (pc' := 161) (dX6_run 86 rfl rfl) g73 q624 (Or.inl rfl) rfl (hf_of 4 s3.1 rfl (by decide) m4_73) ?_
    exact x_iret (dX6_run 87 rfl rfl) rfl hf
  · replace hf := hf.1 (Classical.not_not.mp c1)
    replace c1 := Classical.not_not.mp c1
    refine x_aload_n (pc' := 44) 0 (dX6_run 25 rfl rfl) rfl rfl rfl ?_
    refine x_getI (pc' := 47) (dX6_run 26 rfl rfl) g73 q624 (Or.inl rfl) rfl (hf_of 4 s3.1 rfl (by decide) m4_73) ?_
    refine x_if_ne (pc' := 50) (tgt := 139) (dX6_run 27 rfl rfl) (by decide) rfl (fun c6 => ?_) (fun c6 => ?_)
    · replace hf := hf.2 c6
      refine x_aload_n (pc' := 140) 0 (dX6_run 75 rfl rfl) rfl rfl rfl ?_
      refine x_null (pc' := 141) (dX6_run 76 rfl rfl) rfl ?_
      refine x_putN (pc' := 144) (dX6_run 77 rfl rfl) g67 q616 (Or.inl rfl) (Or.inl rfl) (Or.inl (by decide)) rfl (hf_of 4 s3.1 rfl (by decide) m4_67) (fun h7 e10 => ?_)
      replace hf := hf h7 e10
      replace s3 : So 3 (gW G) h7 := by rw [e10]; exact s3.le sc3 (pR_le (Or.inl rfl))
      refine x_aload_n (pc' := 145) 0 (dX6_run 78 rfl rfl) rfl rfl rfl ?_
      refine x_dup (pc' := 146) (dX6_run 79 rfl rfl) rfl rfl ?_
      refine x_getI (pc' := 149) (dX6_run 80 rfl rfl) g71 q621 (Or.inl rfl) rfl (hf_of 4 s3.1 rfl (by decide) m4_71) ?_
      refine x_aload_n (pc' := 150) 0 (dX6_run 81 rfl rfl) rfl rfl rfl ?_
      refine x_getI (pc' := 153) (dX6_run 82 rfl rfl) g70 q619 (Or.inl rfl) rfl (hf_of 4 s3.1 rfl (by decide) m4_70) ?_
      refine x_iadd (pc' := 154) (dX6_run 83 rfl rfl) rfl ?_
      refine x_putI (pc' := 157) (dX6_run 84 rfl rfl) g71 q621 (Or.inl rfl) (Or.inl rfl) (Or.inl (by decide)) rfl (hf_of 4 s3.1 rfl (by decide) m4_71) (fun h8 e9 => ?_)
      replace hf := hf h8 e9
      replace s3 : So 3 (gW G) h8 := by rw [e9]; exact s3.le sc3 (pI_le (Or.inl rfl))
      refine x_aload_n (pc' := 158) 0 (dX6_run 85 rfl rfl) rfl rfl rfl ?_
      refine x_getI (pc' := 161) (dX6_run 86 rfl rfl) g73 q624 (Or.inl rfl) rfl (hf_of 4 s3.1 rfl (by decide) m4_73) ?_
      exact x_iret (dX6_run 87 rfl rfl) rfl hf
    · replace hf := hf.1 (Classical.not_not.mp c6)
      replace c6 := Classical.not_not.mp c6
      refine x_aload_n (pc' := 51) 0 (dX6_run 28 rfl rfl) rfl rfl rfl ?_
      obtain ⟨ho0, ho1⟩ := hf
      rcases hr : fR _ (gW G 3) 67 with _ | b11
      · replace hf := ho0 hr
        refine x_getN (pc' := 54) (dX6_run 29 rfl rfl) g67 q616 (Or.inl rfl) rfl (hf_of 4 s3.1 rfl (by decide) m4_67) hr ?_
        refine x_ifnullN (tgt := 79) (dX6_run 30 rfl rfl) (by decide) ?_
        refine x_aload_n (pc' := 80) 0 (dX6_run 43 rfl rfl) rfl rfl rfl ?_
        refine x_dup (pc' := 81) (dX6_run 44 rfl rfl) rfl rfl ?_
        refine x_getI (pc' := 84) (dX6_run 45 rfl rfl) g63 q612 (Or.inl rfl) rfl (hf_of 4 s3.1 rfl (by decide) m4_63) ?_
        refine x_iconst (pc' := 85) (v := 1) (dX6_run 46 rfl rfl) (by decide) rfl ?_
        refine x_isub (pc' := 86) (dX6_run 47 rfl rfl) rfl ?_
        refine x_putI (pc' := 89) (dX6_run 48 rfl rfl) g63 q612 (Or.inl rfl) (Or.inl rfl) (Or.inl (by decide)) rfl (hf_of 4 s3.1 rfl (by decide) m4_63) (fun h13 e26 => ?_)
        replace hf := hf h13 e26
        replace s3 : So 3 (gW G) h13 := by rw [e26]; exact s3.le sc3 (pI_le (Or.inl rfl))
        refine x_aload_n (pc' := 90) 0 (dX6_run 49 rfl rfl) rfl rfl rfl ?_
        refine x_getR (pc' := 93) (dX6_run 50 rfl rfl) g57 q605 (Or.inl rfl) rfl (hf_of 4 s3.1 rfl (by decide) m4_57) (s3.2 1 _ rfl rfl).1 ?_
        refine x_aload_n (pc' := 94) 0 (dX6_run 51 rfl rfl) rfl rfl rfl ?_
        refine x_getR (pc' := 97) (dX6_run 52 rfl rfl) g60 q609 (Or.inl rfl) rfl (hf_of 4 s3.1 rfl (by decide) m4_60) (s3.2 4 _ rfl rfl).1 ?_
        refine x_aload_n (pc' := 98) 0 (dX6_run 53 rfl rfl) rfl rfl rfl ?_
        refine x_getI (pc' := 101) (dX6_run 54 rfl rfl) g63 q612 (Or.inl rfl) rfl (hf_of 4 s3.1 rfl (by decide) m4_63) ?_
        obtain ⟨i14, hf⟩ := hf
        refine x_iald (pc' := 102) (dX6_run 55 rfl rfl) rfl (s3.2 4 _ rfl rfl).2.1 (by rw [(s3.2 4 _ rfl rfl).2.2.2 (by decide)]; exact i14) ?_
        refine x_inv (pc' := 105) (ν := mX7_get) (av := [_, _]) (st := []) rfl rfl (dX6_run 56 rfl rfl) (Nat.le_of_ble_eq_true rfl) wX7_get q221 (inv_V (k := 5) (dX6_run 56 rfl rfl) q3050 q1414 q1415 wX7_get (by decide) lX7_get (by decide) (s3.2 1 _ rfl rfl).2.1) (exN (by decide)) rfl ?_
        refine C.mono hf (fun _ _ => KR.g (fun b17 h15 hf le16 => ?_))
        replace s3 := s3.le sc3 (le16)
        obtain ⟨⟨_, c181, c182, c183⟩, hf⟩ := hf
        refine x_cast (pc' := 108) (dX6_run 57 rfl rfl) q3051 c181 c182 c183 rfl ?_
        refine x_astore_n (pc' := 109) (dX6_run 58 rfl rfl) rfl (by decide) rfl rfl ?_
        refine x_aload_n (pc' := 110) 0 (dX6_run 59 rfl rfl) rfl rfl rfl ?_
        refine x_aload_n (pc' := 111) 1 (dX6_run 60 rfl rfl) rfl rfl rfl ?_
        refine x_aload_n (pc' := 112) 1 (dX6_run 61 rfl rfl) rfl rfl rfl ?_
        refine x_getR (pc' := 115) (dX6_run 62 rfl rfl) g61 q610 (Or.inl rfl) rfl (hf_of 4 s3.1 rfl (by decide) m4_61) (s3.2 5 _ rfl rfl).1 ?_
        refine x_aload_n (pc' := 116) 1 (dX6_run 63 rfl rfl) rfl rfl rfl ?_
        refine x_getI (pc' := 119) (dX6_run 64 rfl rfl) g63 q612 (Or.inl rfl) rfl (hf_of 4 s3.1 rfl (by decide) m4_63) ?_
        obtain ⟨i19, hf⟩ := hf
        refine x_iald (pc' := 120) (dX6_run 65 rfl rfl) rfl (s3.2 5 _ rfl rfl).2.1 (by rw [(s3.2 5 _ rfl rfl).2.2.2 (by decide)]; exact i19) ?_
        refine x_aload_n (pc' := 121) 1 (dX6_run 66 rfl rfl) rfl rfl rfl ?_
        refine x_getR (pc' := 124) (dX6_run 67 rfl rfl) g62 q611 (Or.inl rfl) rfl (hf_of 4 s3.1 rfl (by decide) m4_62) (s3.2 6 _ rfl rfl).1 ?_
        refine x_aload_n (pc' := 125) 1 (dX6_run 68 rfl rfl) rfl rfl rfl ?_
        refine x_getI (pc' := 128) (dX6_run 69 rfl rfl) g63 q612 (Or.inl rfl) rfl (hf_of 4 s3.1 rfl (by decide) m4_63) ?_
        obtain ⟨i20, hf⟩ := hf
        refine x_iald (pc' := 129) (dX6_run 70 rfl rfl) rfl (s3.2 6 _ rfl rfl).2.1 (by rw [(s3.2 6 _ rfl rfl).2.2.2 (by decide)]; exact i20) ?_
        refine x_aload_n (pc' := 130) 1 (dX6_run 71 rfl rfl) rfl rfl rfl ?_
        refine x_getI (pc' := 133) (dX6_run 72 rfl rfl) g69 q618 (Or.inl rfl) rfl (hf_of 4 s3.1 rfl (by decide) m4_69) ?_
        obtain ⟨k, ν, ⟨v0, v1, v2, v3, v4, v5, v6, v7⟩, k23, hf⟩ := hf
        refine x_inv (pc' := 136) (ν := ν) (st := []) rfl (sub_tr v7 rfl) (dX6_run 73 rfl rfl) (by have := v5; simp only [List.map, List.sum_cons, List.sum_nil, Value.category]; omega) v1 v2 (inv_O (ξ := mX16_resume) (k := k) (av := [_, _, _, _]) (dX6_run 73 rfl rfl) q3052 q3054 q3053 q3287 v3 v4 (by decide) lX16_resume v0 k23) (exN v6) rfl ?_
        refine C.mono hf (fun _ _ => KV.g (fun h21 hf le22 => ?_))
        replace le22 := Le.nx v6 le22
        replace s3 := s3.le sc3 (le22)
        refine x_goto (tgt := 36) (dX6_run 74 rfl rfl) (by decide) ?_
        exact X.sub [1] rfl (by simp) hf
      · replace hf := ho1 _ hr
        refine x_getR (pc' := 54) (dX6_run 29 rfl rfl) g67 q616 (Or.inl rfl) rfl (hf_of 4 s3.1 rfl (by decide) m4_67) hr ?_
        refine x_ifnull (pc' := 57) (dX6_run 30 rfl rfl) rfl ?_
        refine x_aload_n (pc' := 58) 0 (dX6_run 31 rfl rfl) rfl rfl rfl ?_
        obtain ⟨ho0, ho1⟩ := hf
        rcases hr : fR _ (gW G 3) 67 with _ | b27
        · replace hf := ho0 hr
          refine x_getN (pc' := 61) (dX6_run 32 rfl rfl) g67 q616 (Or.inl rfl) rfl (hf_of 4 s3.1 rfl (by decide) m4_67) hr ?_
          refine x_astore_nN (pc' := 62) (dX6_run 33 rfl rfl) rfl (by decide) rfl rfl ?_
          refine x_aload_n (pc' := 63) 1 (dX6_run 34 rfl rfl) rfl rfl rfl ?_
          refine x_null (pc' := 64) (dX6_run 35 rfl rfl) rfl ?_
          refine x_putN (pc' := 67) (dX6_run 36 rfl rfl) g67 q616 (Or.inl rfl) (Or.inl rfl) (Or.inl (by decide)) rfl (hf_of 4 s3.1 rfl (by decide) m4_67) (fun h29 e30 => ?_)
          replace hf := hf h29 e30
          replace s3 : So 3 (gW G) h29 := by rw [e30]; exact s3.le sc3 (pR_le (Or.inl rfl))
          refine x_aload_nN (pc' := 68) 0 (dX6_run 37 rfl rfl) rfl rfl rfl ?_
          refine x_aload_n (pc' := 69) 1 (dX6_run 38 rfl rfl) rfl rfl rfl ?_
          refine x_aload_n (pc' := 70) 1 (dX6_run 39 rfl rfl) rfl rfl rfl ?_
          refine x_getI (pc' := 73) (dX6_run 40 rfl rfl) g68 q617 (Or.inl rfl) rfl (hf_of 4 s3.1 rfl (by decide) m4_68) ?_
          exact hf.elim
        · replace hf := ho1 _ hr
          refine x_getR (pc' := 61) (dX6_run 32 rfl rfl) g67 q616 (Or.inl rfl) rfl (hf_of 4 s3.1 rfl (by decide) m4_67) hr ?_
          refine x_astore_n (pc' := 62) (dX6_run 33 rfl rfl) rfl (by decide) rfl rfl ?_
          refine x_aload_n (pc' := 63) 1 (dX6_run 34 rfl rfl) rfl rfl rfl ?_
          refine x_null (pc' := 64) (dX6_run 35 rfl rfl) rfl ?_
          refine x_putN (pc' := 67) (dX6_run 36 rfl rfl) g67 q616 (Or.inl rfl) (Or.inl rfl) (Or.inl (by decide)) rfl (hf_of 4 s3.1 rfl (by decide) m4_67) (fun h31 e37 => ?_)
          replace hf := hf h31 e37
          replace s3 : So 3 (gW G) h31 := by rw [e37]; exact s3.le sc3 (pR_le (Or.inl rfl))
          refine x_aload_n (pc' := 68) 0 (dX6_run 37 rfl rfl) rfl rfl rfl ?_
          refine x_aload_n (pc' := 69) 1 (dX6_run 38 rfl rfl) rfl rfl rfl ?_
          refine x_aload_n (pc' := 70) 1 (dX6_run 39 rfl rfl) rfl rfl rfl ?_
          refine x_getI (pc' := 73) (dX6_run 40 rfl rfl) g68 q617 (Or.inl rfl) rfl (hf_of 4 s3.1 rfl (by decide) m4_68) ?_
          obtain ⟨k, ν, ⟨v0, v1, v2, v3, v4, v5, v6, v7⟩, k34, hf⟩ := hf
          refine x_inv (pc' := 76) (ν := ν) (st := []) rfl (sub_tr v7 rfl) (dX6_run 41 rfl rfl) (by have := v5; simp only [List.map, List.sum_cons, List.sum_nil, Value.category]; omega) v1 v2 (inv_U (k := k) (av := [_, _]) (dX6_run 41 rfl rfl) q2884 q2886 (by decide) v3 v4 (by decide) (show _ = some 2 by decide +kernel) v0 k34) (exN v6) rfl ?_
          refine C.mono hf (fun _ _ => KV.g (fun h32 hf le33 => ?_))
          replace le33 := Le.nx v6 le33
          replace s3 := s3.le sc3 (le33)
          refine x_goto (tgt := 36) (dX6_run 42 rfl rfl) (by decide) ?_
          exact X.sub [1] rfl (by simp) hf
theorem bX6_next (G : Gh) (d : Nat) (h : AH) (Q : Outcome → AH → Prop) (p1 : Nat) (p2 : Int32) (s3 : So 3 (gW G) h) (hf : ∀ h1, h1 = pR h (gW G 3) 67 (some p1) → (∀ h2, h2 = pI h1 (gW G 3) 68 p2 → (Q (.returned none) h2))) : C G mX6_next d [.ref (gW G 3), .ref (p1), .int (p2)] h Q := by
  refine C.of_X (by decide +kernel) (Nat.le_of_ble_eq_true rfl) wX6_next ?_
  show X G mX6_next d none [] 0 [(0, .ref (gW G 3)), (1, .ref (p1)), (2, .int (p2))] [] h Q
  refine x_aload_n (pc' := 1) 0 (dX6_next 0 rfl rfl) rfl rfl rfl ?_
  refine x_aload_n (pc' := 2) 1 (dX6_next 1 rfl rfl) rfl rfl rfl ?_
  refine x_putR (pc' := 5) (dX6_next 2 rfl rfl) g67 q616 (Or.inl rfl) (Or.inl rfl) (Or.inl (by decide)) rfl (hf_of 4 s3.1 rfl (by decide) m4_67) (fun h1 e4 => ?_)
  replace hf := hf h1 e4
  replace s3 : So 3 (gW G) h1 := by rw [e4]; exact s3.le sc3 (pR_le (Or.inl rfl))
  refine x_aload_n (pc' := 6) 0 (dX6_next 3 rfl rfl) rfl rfl rfl ?_
  refine x_iload_n (pc' := 7) 2 (dX6_next 4 rfl rfl) rfl rfl rfl ?_
  refine x_putI (pc' := 10) (dX6_next 5 rfl rfl) g68 q617 (Or.inl rfl) (Or.inl rfl) (Or.inl (by decide)) rfl (hf_of 4 s3.1 rfl (by decide) m4_68) (fun h2 e3 => ?_)
  replace hf := hf h2 e3
  replace s3 : So 3 (gW G) h2 := by rw [e3]; exact s3.le sc3 (pI_le (Or.inl rfl))
  exact x_vret (dX6_next 6 rfl rfl) rfl hf
theorem bX6_pay (G : Gh) (d : Nat) (h : AH) (Q : Outcome → AH → Prop) (p1 : Int32) (s3 : So 3 (gW G) h) (hf : (((fI h (gW G 3) 70) + p1) ≤ (fI h (gW G 3) 72) → (∀ h2, h2 = pI h (gW G 3) 70 ((fI h (gW G 3) 70) + p1) → (Q (.returned (some (.int 1))) h2))) ∧ (¬ (((fI h (gW G 3) 70) + p1) ≤ (fI h (gW G 3) 72)) → (C G mX6_fail d [.ref (gW G 3), .int (3)] h (KV Q (fun h4 => Q (.returned (some (.int 0))) h4))))) : C G mX6_pay (d + 1) [.ref (gW G 3), .int (p1)] h Q := by
  refine C.of_X (by decide +kernel) (Nat.le_of_ble_eq_true rfl) wX6_pay ?_
  show X G mX6_pay (d + 1) none [] 0 [(0, .ref (gW G 3)), (1, .int (p1))] [] h Q
  refine x_aload_n (pc' := 1) 0 (dX6_pay 0 rfl rfl) rfl rfl rfl ?_
  refine x_getI (pc' := 4) (dX6_pay 1 rfl rfl) g70 q619 (Or.inl rfl) rfl (hf_of 4 s3.1 rfl (by decide) m4_70) ?_
  refine x_iload_n (pc' := 5) 1 (dX6_pay 2 rfl rfl) rfl rfl rfl ?_
  refine x_iadd (pc' := 6) (dX6_pay 3 rfl rfl) rfl ?_
  refine x_aload_n (pc' := 7) 0 (dX6_pay 4 rfl rfl) rfl rfl rfl ?_
  refine x_getI (pc' := 10) (dX6_pay 5 rfl rfl) g72 q623 (Or.inl rfl) rfl (hf_of 4 s3.1 rfl (by decide) m4_72) ?_
  refine x_icmp_le (pc' := 13) (tgt := 20) (dX6_pay 6 rfl rfl) (by decide) rfl (fun c1 => ?_) (fun c1 => ?_)
  · replace hf := hf.1 c1
    refine x_aload_n (pc' := 21) 0 (dX6_pay 12 rfl rfl) rfl rfl rfl ?_
    refine x_dup (pc' := 22) (dX6_pay 13 rfl rfl) rfl rfl ?_
    refine x_getI (pc' := 25) (dX6_pay 14 rfl rfl) g70 q619 (Or.inl rfl) rfl (hf_of 4 s3.1 rfl (by decide) m4_70) ?_
    refine x_iload_n (pc' := 26) 1 (dX6_pay 15 rfl rfl) rfl rfl rfl ?_
    refine x_iadd (pc' := 27) (dX6_pay 16 rfl rfl) rfl ?_
    refine x_putI (pc' := 30) (dX6_pay 17 rfl rfl) g70 q619 (Or.inl rfl) (Or.inl rfl) (Or.inl (by decide)) rfl (hf_of 4 s3.1 rfl (by decide) m4_70) (fun h2 e3 => ?_)
    replace hf := hf h2 e3
    replace s3 : So 3 (gW G) h2 := by rw [e3]; exact s3.le sc3 (pI_le (Or.inl rfl))
    refine x_iconst (pc' := 31) (v := 1) (dX6_pay 18 rfl rfl) (by decide) rfl ?_
    exact x_zret (ty := .boolean) (dX6_pay 19 rfl rfl) rfl (by decide) hf
  · replace hf := hf.2 c1
    refine x_aload_n (pc' := 14) 0 (dX6_pay 7 rfl rfl) rfl rfl rfl ?_
    refine x_iconst (pc' := 15) (v := 3) (dX6_pay 8 rfl rfl) (by decide) rfl ?_
    refine x_inv (pc' := 18) (ν := mX6_fail) (av := [_, _]) (st := []) rfl rfl (dX6_pay 9 rfl rfl) (Nat.le_of_ble_eq_true rfl) wX6_fail q220 (inv_V (k := 4) (dX6_pay 9 rfl rfl) q2894 q2895 q2896 wX6_fail (by decide) lX6_fail (by decide) s3.1) (exN (by decide)) rfl ?_
    refine C.mono hf (fun _ _ => KV.g (fun h4 hf le5 => ?_))
    replace s3 := s3.le sc3 (le5)
    refine x_iconst (pc' := 19) (v := 0) (dX6_pay 10 rfl rfl) (by decide) rfl ?_
    exact x_zret (ty := .boolean) (dX6_pay 11 rfl rfl) rfl (by decide) hf
theorem bX6_fail (G : Gh) (d : Nat) (h : AH) (Q : Outcome → AH → Prop) (p1 : Int32) (s3 : So 3 (gW G) h) (hf : ((fI h (gW G 3) 73) = 0 → (∀ h2, h2 = pI h (gW G 3) 73 p1 → (Q (.returned none) h2))) ∧ (¬ ((fI h (gW G 3) 73) = 0) → (Q (.returned none) h))) : C G mX6_fail d [.ref (gW G 3), .int (p1)] h Q := by
  refine C.of_X (by decide +kernel) (Nat.le_of_ble_eq_true rfl) wX6_fail ?_
  show X G mX6_fail d none [] 0 [(0, .ref (gW G 3)), (1, .int (p1))] [] h Q
  refine x_aload_n (pc' := 1) 0 (dX6_fail 0 rfl rfl) rfl rfl rfl ?_
  refine x_getI (pc' := 4) (dX6_fail 1 rfl rfl) g73 q624 (Or.inl rfl) rfl (hf_of 4 s3.1 rfl (by decide) m4_73) ?_
  refine x_if_ne (pc' := 7) (tgt := 12) (dX6_fail 2 rfl rfl) (by decide) rfl (fun c1 => ?_) (fun c1 => ?_)
  · replace hf := hf.2 c1
    exact x_vret (dX6_fail 6 rfl rfl) rfl hf
  · replace hf := hf.1 (Classical.not_not.mp c1)
    replace c1 := Classical.not_not.mp c1
    refine x_aload_n (pc' := 8) 0 (dX6_fail 3 rfl rfl) rfl rfl rfl ?_
    refine x_iload_n (pc' := 9) 1 (dX6_fail 4 rfl rfl) rfl rfl rfl ?_
    refine x_putI (pc' := 12) (dX6_fail 5 rfl rfl) g73 q624 (Or.inl rfl) (Or.inl rfl) (Or.inl (by decide)) rfl (hf_of 4 s3.1 rfl (by decide) m4_73) (fun h2 e3 => ?_)
    replace hf := hf h2 e3
    replace s3 : So 3 (gW G) h2 := by rw [e3]; exact s3.le sc3 (pI_le (Or.inl rfl))
    exact x_vret (dX6_fail 6 rfl rfl) rfl hf
theorem bX6_frame (G : Gh) (d : Nat) (h : AH) (Q : Outcome → AH → Prop) (p1 : Nat) (p2 : Int32) (p3 : Int32) (s3 : So 3 (gW G) h) (hf : HF h p1 297 0 ∧ ((0 ≤ (fI h p1 297) → (HF h p1 297 0 ∧ (vp_in (fI h (gW G 3) 63) 31000 ∧ ∀ h5, h5 = sI h (gW G 1060) (fI h (gW G 3) 63).toNatClampNeg (fI h p1 297) → (vp_in (fI h5 (gW G 3) 63) 31000 ∧ ∀ h8, h8 = sI h5 (gW G 1061) (fI h5 (gW G 3) 63).toNatClampNeg p2 → (vp_in (fI h8 (gW G 3) 63) 31000 ∧ ∀ h11, h11 = sI h8 (gW G 1062) (fI h8 (gW G 3) 63).toNatClampNeg p3 → (∀ h13, h13 = pI h11 (gW G 3) 63 ((fI h11 (gW G 3) 63) + 1) → (Q (.returned none) h13))))))) ∧ (¬ (0 ≤ (fI h p1 297)) → (C G mX6_number d [.ref (gW G 3), .ref (p1)] h (KV Q (fun h15 => HF h15 p1 297 0 ∧ (vp_in (fI h15 (gW G 3) 63) 31000 ∧ ∀ h19, h19 = sI h15 (gW G 1060) (fI h15 (gW G 3) 63).toNatClampNeg (fI h15 p1 297) → (vp_in (fI h19 (gW G 3) 63) 31000 ∧ ∀ h22, h22 = sI h19 (gW G 1061) (fI h19 (gW G 3) 63).toNatClampNeg p2 → (vp_in (fI h22 (gW G 3) 63) 31000 ∧ ∀ h25, h25 = sI h22 (gW G 1062) (fI h22 (gW G 3) 63).toNatClampNeg p3 → (∀ h27, h27 = pI h25 (gW G 3) 63 ((fI h25 (gW G 3) 63) + 1) → (Q (.returned none) h27))))))))))) : C G mX6_frame (d + 1) [.ref (gW G 3), .ref (p1), .int (p2), .int (p3)] h Q := by
  refine C.of_X (by decide +kernel) (Nat.le_of_ble_eq_true rfl) wX6_frame ?_
  show X G mX6_frame (d + 1) none [] 0 [(0, .ref (gW G 3)), (1, .ref (p1)), (2, .int (p2)), (3, .int (p3))] [] h Q
  refine x_aload_n (pc' := 1) 1 (dX6_frame 0 rfl rfl) rfl rfl rfl ?_
  obtain ⟨u1, hf⟩ := hf
  refine x_getI (pc' := 4) (dX6_frame 1 rfl rfl) g297 q1546 (Or.inl rfl) rfl u1 ?_
  refine x_if_ge (pc' := 7) (tgt := 12) (dX6_frame 2 rfl rfl) (by decide) rfl (fun c2 => ?_) (fun c2 => ?_)
  · replace hf := hf.1 c2
    refine x_aload_n (pc' := 13) 0 (dX6_frame 6 rfl rfl) rfl rfl rfl ?_
    refine x_getR (pc' := 16) (dX6_frame 7 rfl rfl) g60 q609 (Or.inl rfl) rfl (hf_of 4 s3.1 rfl (by decide) m4_60) (s3.2 4 _ rfl rfl).1 ?_
    refine x_aload_n (pc' := 17) 0 (dX6_frame 8 rfl rfl) rfl rfl rfl ?_
    refine x_getI (pc' := 20) (dX6_frame 9 rfl rfl) g63 q612 (Or.inl rfl) rfl (hf_of 4 s3.1 rfl (by decide) m4_63) ?_
    refine x_aload_n (pc' := 21) 1 (dX6_frame 10 rfl rfl) rfl rfl rfl ?_
    obtain ⟨u3, hf⟩ := hf
    refine x_getI (pc' := 24) (dX6_frame 11 rfl rfl) g297 q1546 (Or.inl rfl) rfl u3 ?_
    obtain ⟨i4, hf⟩ := hf
    refine x_iast (pc' := 25) (dX6_frame 12 rfl rfl) rfl (s3.2 4 _ rfl rfl).2.1 (Or.inl ⟨60, by decide, rfl, by decide⟩) (by rw [(s3.2 4 _ rfl rfl).2.2.2 (by decide)]; exact i4) (fun h5 e6 => ?_)
    replace hf := hf h5 e6
    replace s3 : So 3 (gW G) h5 := by rw [e6]; exact s3.le sc3 (sI_le )
    refine x_aload_n (pc' := 26) 0 (dX6_frame 13 rfl rfl) rfl rfl rfl ?_
    refine x_getR (pc' := 29) (dX6_frame 14 rfl rfl) g61 q610 (Or.inl rfl) rfl (hf_of 4 s3.1 rfl (by decide) m4_61) (s3.2 5 _ rfl rfl).1 ?_
    refine x_aload_n (pc' := 30) 0 (dX6_frame 15 rfl rfl) rfl rfl rfl ?_
    refine x_getI (pc' := 33) (dX6_frame 16 rfl rfl) g63 q612 (Or.inl rfl) rfl (hf_of 4 s3.1 rfl (by decide) m4_63) ?_
    refine x_iload_n (pc' := 34) 2 (dX6_frame 17 rfl rfl) rfl rfl rfl ?_
    obtain ⟨i7, hf⟩ := hf
    refine x_iast (pc' := 35) (dX6_frame 18 rfl rfl) rfl (s3.2 5 _ rfl rfl).2.1 (Or.inl ⟨61, by decide, rfl, by decide⟩) (by rw [(s3.2 5 _ rfl rfl).2.2.2 (by decide)]; exact i7) (fun h8 e9 => ?_)
    replace hf := hf h8 e9
    replace s3 : So 3 (gW G) h8 := by rw [e9]; exact s3.le sc3 (sI_le )
    refine x_aload_n (pc' := 36) 0 (dX6_frame 19 rfl rfl) rfl rfl rfl ?_
    refine x_getR (pc' := 39) (dX6_frame 20 rfl rfl) g62 q611 (Or.inl rfl) rfl (hf_of 4 s3.1 rfl (by decide) m4_62) (s3.2 6 _ rfl rfl).1 ?_
    refine x_aload_n (pc' := 40) 0 (dX6_frame 21 rfl rfl) rfl rfl rfl ?_
    refine x_getI (pc' := 43) (dX6_frame 22 rfl rfl) g63 q612 (Or.inl rfl) rfl (hf_of 4 s3.1 rfl (by decide) m4_63) ?_
    refine x_iload_n (pc' := 44) 3 (dX6_frame 23 rfl rfl) rfl rfl rfl ?_
    obtain ⟨i10, hf⟩ := hf
    refine x_iast (pc' := 45) (dX6_frame 24 rfl rfl) rfl (s3.2 6 _ rfl rfl).2.1 (Or.inl ⟨62, by decide, rfl, by decide⟩) (by rw [(s3.2 6 _ rfl rfl).2.2.2 (by decide)]; exact i10) (fun h11 e12 => ?_)
    replace hf := hf h11 e12
    replace s3 : So 3 (gW G) h11 := by rw [e12]; exact s3.le sc3 (sI_le )
    refine x_aload_n (pc' := 46) 0 (dX6_frame 25 rfl rfl) rfl rfl rfl ?_
    refine x_dup (pc' := 47) (dX6_frame 26 rfl rfl) rfl rfl ?_
    refine x_getI (pc' := 50) (dX6_frame 27 rfl rfl) g63 q612 (Or.inl rfl) rfl (hf_of 4 s3.1 rfl (by decide) m4_63) ?_
    refine x_iconst (pc' := 51) (v := 1) (dX6_frame 28 rfl rfl) (by decide) rfl ?_
    refine x_iadd (pc' := 52) (dX6_frame 29 rfl rfl) rfl ?_
    refine x_putI (pc' := 55) (dX6_frame 30 rfl rfl) g63 q612 (Or.inl rfl) (Or.inl rfl) (Or.inl (by decide)) rfl (hf_of 4 s3.1 rfl (by decide) m4_63) (fun h13 e14 => ?_)
    replace hf := hf h13 e14
    replace s3 : So 3 (gW G) h13 := by rw [e14]; exact s3.le sc3 (pI_le (Or.inl rfl))
    exact x_vret (dX6_frame 31 rfl rfl) rfl hf
  · replace hf := hf.2 c2
    refine x_aload_n (pc' := 8) 0 (dX6_frame 3 rfl rfl) rfl rfl rfl ?_
    refine x_aload_n (pc' := 9) 1 (dX6_frame 4 rfl rfl) rfl rfl rfl ?_
    refine x_inv (pc' := 12) (ν := mX6_number) (av := [_, _]) (st := []) rfl rfl (dX6_frame 5 rfl rfl) (Nat.le_of_ble_eq_true rfl) wX6_number q220 (inv_V (k := 4) (dX6_frame 5 rfl rfl) q2902 q2903 q2904 wX6_number (by decide) lX6_number (by decide) s3.1) (exN (by decide)) rfl ?_
    refine C.mono hf (fun _ _ => KV.g (fun h15 hf le16 => ?_))
    replace s3 := s3.le sc3 (le16)
    refine x_aload_n (pc' := 13) 0 (dX6_frame 6 rfl rfl) rfl rfl rfl ?_
    refine x_getR (pc' := 16) (dX6_frame 7 rfl rfl) g60 q609 (Or.inl rfl) rfl (hf_of 4 s3.1 rfl (by decide) m4_60) (s3.2 4 _ rfl rfl).1 ?_
    refine x_aload_n (pc' := 17) 0 (dX6_frame 8 rfl rfl) rfl rfl rfl ?_
    refine x_getI (pc' := 20) (dX6_frame 9 rfl rfl) g63 q612 (Or.inl rfl) rfl (hf_of 4 s3.1 rfl (by decide) m4_63) ?_
    refine x_aload_n (pc' := 21) 1 (dX6_frame 10 rfl rfl) rfl rfl rfl ?_
    obtain ⟨u17, hf⟩ := hf
    refine x_getI (pc' := 24) (dX6_frame 11 rfl rfl) g297 q1546 (Or.inl rfl) rfl u17 ?_
    obtain ⟨i18, hf⟩ := hf
    refine x_iast (pc' := 25) (dX6_frame 12 rfl rfl) rfl (s3.2 4 _ rfl rfl).2.1 (Or.inl ⟨60, by decide, rfl, by decide⟩) (by rw [(s3.2 4 _ rfl rfl).2.2.2 (by decide)]; exact i18) (fun h19 e20 => ?_)
    replace hf := hf h19 e20
    replace s3 : So 3 (gW G) h19 := by rw [e20]; exact s3.le sc3 (sI_le )
    refine x_aload_n (pc' := 26) 0 (dX6_frame 13 rfl rfl) rfl rfl rfl ?_
    refine x_getR (pc' := 29) (dX6_frame 14 rfl rfl) g61 q610 (Or.inl rfl) rfl (hf_of 4 s3.1 rfl (by decide) m4_61) (s3.2 5 _ rfl rfl).1 ?_
    refine x_aload_n (pc' := 30) 0 (dX6_frame 15 rfl rfl) rfl rfl rfl ?_
    refine x_getI (pc' := 33) (dX6_frame 16 rfl rfl) g63 q612 (Or.inl rfl) rfl (hf_of 4 s3.1 rfl (by decide) m4_63) ?_
    refine x_iload_n (pc' := 34) 2 (dX6_frame 17 rfl rfl) rfl rfl rfl ?_
    obtain ⟨i21, hf⟩ := hf
    refine x_iast (pc' := 35) (dX6_frame 18 rfl rfl) rfl (s3.2 5 _ rfl rfl).2.1 (Or.inl ⟨61, by decide, rfl, by decide⟩) (by rw [(s3.2 5 _ rfl rfl).2.2.2 (by decide)]; exact i21) (fun h22 e23 => ?_)
    replace hf := hf h22 e23
    replace s3 : So 3 (gW G) h22 := by rw [e23]; exact s3.le sc3 (sI_le )
    refine x_aload_n (pc' := 36) 0 (dX6_frame 19 rfl rfl) rfl rfl rfl ?_
    refine x_getR (pc' := 39) (dX6_frame 20 rfl rfl) g62 q611 (Or.inl rfl) rfl (hf_of 4 s3.1 rfl (by decide) m4_62) (s3.2 6 _ rfl rfl).1 ?_
    refine x_aload_n (pc' := 40) 0 (dX6_frame 21 rfl rfl) rfl rfl rfl ?_
    refine x_getI (pc' := 43) (dX6_frame 22 rfl rfl) g63 q612 (Or.inl rfl) rfl (hf_of 4 s3.1 rfl (by decide) m4_63) ?_
    refine x_iload_n (pc' := 44) 3 (dX6_frame 23 rfl rfl) rfl rfl rfl ?_
    obtain ⟨i24, hf⟩ := hf
    refine x_iast (pc' := 45) (dX6_frame 24 rfl rfl) rfl (s3.2 6 _ rfl rfl).2.1 (Or.inl ⟨62, by decide, rfl, by decide⟩) (by rw [(s3.2 6 _ rfl rfl).2.2.2 (by decide)]; exact i24) (fun h25 e26 => ?_)
    replace hf := hf h25 e26
    replace s3 : So 3 (gW G) h25 := by rw [e26]; exact s3.le sc3 (sI_le )
    refine x_aload_n (pc' := 46) 0 (dX6_frame 25 rfl rfl) rfl rfl rfl ?_
    refine x_dup (pc' := 47) (dX6_frame 26 rfl rfl) rfl rfl ?_
    refine x_getI (pc' := 50) (dX6_frame 27 rfl rfl) g63 q612 (Or.inl rfl) rfl (hf_of 4 s3.1 rfl (by decide) m4_63) ?_
    refine x_iconst (pc' := 51) (v := 1) (dX6_frame 28 rfl rfl) (by decide) rfl ?_
    refine x_iadd (pc' := 52) (dX6_frame 29 rfl rfl) rfl ?_
    refine x_putI (pc' := 55) (dX6_frame 30 rfl rfl) g63 q612 (Or.inl rfl) (Or.inl rfl) (Or.inl (by decide)) rfl (hf_of 4 s3.1 rfl (by decide) m4_63) (fun h27 e28 => ?_)
    replace hf := hf h27 e28
    replace s3 : So 3 (gW G) h27 := by rw [e28]; exact s3.le sc3 (pI_le (Or.inl rfl))
    exact x_vret (dX6_frame 31 rfl rfl) rfl hf
theorem bX6_number (G : Gh) (d : Nat) (h : AH) (Q : Outcome → AH → Prop) (p1 : Nat) (s3 : So 3 (gW G) h) (hf : HF h p1 297 0 ∧ (∀ h2, h2 = pI h p1 297 (fI h (gW G 1057) 78) → (C G mX7_add d [.ref (gW G 1057), .ref (p1)] h2 (KV Q (fun h3 => Q (.returned none) h3))))) : C G mX6_number (d + 1) [.ref (gW G 3), .ref (p1)] h Q := by
  refine C.of_X (by decide +kernel) (Nat.le_of_ble_eq_true rfl) wX6_number ?_
  show X G mX6_number (d + 1) none [] 0 [(0, .ref (gW G 3)), (1, .ref (p1))] [] h Q
  refine x_aload_n (pc' := 1) 1 (dX6_number 0 rfl rfl) rfl rfl rfl ?_
  refine x_aload_n (pc' := 2) 0 (dX6_number 1 rfl rfl) rfl rfl rfl ?_
  refine x_getR (pc' := 5) (dX6_number 2 rfl rfl) g57 q605 (Or.inl rfl) rfl (hf_of 4 s3.1 rfl (by decide) m4_57) (s3.2 1 _ rfl rfl).1 ?_
  refine x_getI (pc' := 8) (dX6_number 3 rfl rfl) g78 q574 (Or.inl rfl) rfl (hf_of 5 (s3.2 1 _ rfl rfl).2.1 rfl (by decide) m5_78) ?_
  obtain ⟨u1, hf⟩ := hf
  refine x_putI (pc' := 11) (dX6_number 4 rfl rfl) g297 q1546 (Or.inl rfl) (Or.inl rfl) (Or.inl (by decide)) rfl u1 (fun h2 e5 => ?_)
  replace hf := hf h2 e5
  replace s3 : So 3 (gW G) h2 := by rw [e5]; exact s3.le sc3 (pI_le (Or.inl rfl))
  refine x_aload_n (pc' := 12) 0 (dX6_number 5 rfl rfl) rfl rfl rfl ?_
  refine x_getR (pc' := 15) (dX6_number 6 rfl rfl) g57 q605 (Or.inl rfl) rfl (hf_of 4 s3.1 rfl (by decide) m4_57) (s3.2 1 _ rfl rfl).1 ?_
  refine x_aload_n (pc' := 16) 1 (dX6_number 7 rfl rfl) rfl rfl rfl ?_
  refine x_inv (pc' := 19) (ν := mX7_add) (av := [_, _]) (st := []) rfl rfl (dX6_number 8 rfl rfl) (Nat.le_of_ble_eq_true rfl) wX7_add q221 (inv_V (k := 5) (dX6_number 8 rfl rfl) q589 q590 q591 wX7_add (by decide) lX7_add (by decide) (s3.2 1 _ rfl rfl).2.1) (exN (by decide)) rfl ?_
  refine C.mono hf (fun _ _ => KV.g (fun h3 hf le4 => ?_))
  replace s3 := s3.le sc3 (le4)
  exact x_vret (dX6_number 9 rfl rfl) rfl hf
theorem bX6_give (G : Gh) (d : Nat) (h : AH) (Q : Outcome → AH → Prop) (p1 : Int32) (s3 : So 3 (gW G) h) (hf : ∀ h1, h1 = pR h (gW G 3) 67 none → (∀ h2, h2 = pI h1 (gW G 3) 69 p1 → (Q (.returned none) h2))) : C G mX6_give d [.ref (gW G 3), .int (p1)] h Q := by
  refine C.of_X (by decide +kernel) (Nat.le_of_ble_eq_true rfl) wX6_give ?_
  show X G mX6_give d none [] 0 [(0, .ref (gW G 3)), (1, .int (p1))] [] h Q
  refine x_aload_n (pc' := 1) 0 (dX6_give 0 rfl rfl) rfl rfl rfl ?_
  refine x_null (pc' := 2) (dX6_give 1 rfl rfl) rfl ?_
  refine x_putN (pc' := 5) (dX6_give 2 rfl rfl) g67 q616 (Or.inl rfl) (Or.inl rfl) (Or.inl (by decide)) rfl (hf_of 4 s3.1 rfl (by decide) m4_67) (fun h1 e4 => ?_)
  replace hf := hf h1 e4
  replace s3 : So 3 (gW G) h1 := by rw [e4]; exact s3.le sc3 (pR_le (Or.inl rfl))
  refine x_aload_n (pc' := 6) 0 (dX6_give 3 rfl rfl) rfl rfl rfl ?_
  refine x_iload_n (pc' := 7) 1 (dX6_give 4 rfl rfl) rfl rfl rfl ?_
  refine x_putI (pc' := 10) (dX6_give 5 rfl rfl) g69 q618 (Or.inl rfl) (Or.inl rfl) (Or.inl (by decide)) rfl (hf_of 4 s3.1 rfl (by decide) m4_69) (fun h2 e3 => ?_)
  replace hf := hf h2 e3
  replace s3 : So 3 (gW G) h2 := by rw [e3]; exact s3.le sc3 (pI_le (Or.inl rfl))
  exact x_vret (dX6_give 6 rfl rfl) rfl hf
theorem bX6_made (G : Gh) (d : Nat) (h : AH) (Q : Outcome → AH → Prop) (p1 : Int32) (p2 : Int32) (s3 : So 3 (gW G) h) (hf : vp_in (fI h (gW G 3) 56) 960100 ∧ ∀ h2, h2 = sI h (gW G 1055) (fI h (gW G 3) 56).toNatClampNeg p1 → (vp_in ((fI h2 (gW G 3) 56) + 1) 960100 ∧ ∀ h5, h5 = sI h2 (gW G 1055) ((fI h2 (gW G 3) 56) + 1).toNatClampNeg p2 → (∀ h7, h7 = pI h5 (gW G 3) 56 ((fI h5 (gW G 3) 56) + 2) → (Q (.returned (some (.int ((fI h7 (gW G 3) 56) - 2)))) h7)))) : C G mX6_made d [.ref (gW G 3), .int (p1), .int (p2)] h Q := by
  refine C.of_X (by decide +kernel) (Nat.le_of_ble_eq_true rfl) wX6_made ?_
  show X G mX6_made d none [] 0 [(0, .ref (gW G 3)), (1, .int (p1)), (2, .int (p2))] [] h Q
  refine x_aload_n (pc' := 1) 0 (dX6_made 0 rfl rfl) rfl rfl rfl ?_
  refine x_getR (pc' := 4) (dX6_made 1 rfl rfl) g55 q603 (Or.inl rfl) rfl (hf_of 4 s3.1 rfl (by decide) m4_55) (s3.2 0 _ rfl rfl).1 ?_
  refine x_aload_n (pc' := 5) 0 (dX6_made 2 rfl rfl) rfl rfl rfl ?_
  refine x_getI (pc' := 8) (dX6_made 3 rfl rfl) g56 q604 (Or.inl rfl) rfl (hf_of 4 s3.1 rfl (by decide) m4_56) ?_
  refine x_iload_n (pc' := 9) 1 (dX6_made 4 rfl rfl) rfl rfl rfl ?_
  obtain ⟨i1, hf⟩ := hf
  refine x_iast (pc' := 10) (dX6_made 5 rfl rfl) rfl (s3.2 0 _ rfl rfl).2.1 (Or.inl ⟨55, by decide, rfl, by decide⟩) (by rw [(s3.2 0 _ rfl rfl).2.2.2 (by decide)]; exact i1) (fun h2 e3 => ?_)
  replace hf := hf h2 e3
  replace s3 : So 3 (gW G) h2 := by rw [e3]; exact s3.le sc3 (sI_le )
  refine x_aload_n (pc' := 11) 0 (dX6_made 6 rfl rfl) rfl rfl rfl ?_
  refine x_getR (pc' := 14) (dX6_made 7 rfl rfl) g55 q603 (Or.inl rfl) rfl (hf_of 4 s3.1 rfl (by decide) m4_55) (s3.2 0 _ rfl rfl).1 ?_
  refine x_aload_n (pc' := 15) 0 (dX6_made 8 rfl rfl) rfl rfl rfl ?_
  refine x_getI (pc' := 18) (dX6_made 9 rfl rfl) g56 q604 (Or.inl rfl) rfl (hf_of 4 s3.1 rfl (by decide) m4_56) ?_
  refine x_iconst (pc' := 19) (v := 1) (dX6_made 10 rfl rfl) (by decide) rfl ?_
  refine x_iadd (pc' := 20) (dX6_made 11 rfl rfl) rfl ?_
  refine x_iload_n (pc' := 21) 2 (dX6_made 12 rfl rfl) rfl rfl rfl ?_
  obtain ⟨i4, hf⟩ := hf
  refine x_iast (pc' := 22) (dX6_made 13 rfl rfl) rfl (s3.2 0 _ rfl rfl).2.1 (Or.inl ⟨55, by decide, rfl, by decide⟩) (by rw [(s3.2 0 _ rfl rfl).2.2.2 (by decide)]; exact i4) (fun h5 e6 => ?_)
  replace hf := hf h5 e6
  replace s3 : So 3 (gW G) h5 := by rw [e6]; exact s3.le sc3 (sI_le )
  refine x_aload_n (pc' := 23) 0 (dX6_made 14 rfl rfl) rfl rfl rfl ?_
  refine x_dup (pc' := 24) (dX6_made 15 rfl rfl) rfl rfl ?_
  refine x_getI (pc' := 27) (dX6_made 16 rfl rfl) g56 q604 (Or.inl rfl) rfl (hf_of 4 s3.1 rfl (by decide) m4_56) ?_
  refine x_iconst (pc' := 28) (v := 2) (dX6_made 17 rfl rfl) (by decide) rfl ?_
  refine x_iadd (pc' := 29) (dX6_made 18 rfl rfl) rfl ?_
  refine x_putI (pc' := 32) (dX6_made 19 rfl rfl) g56 q604 (Or.inl rfl) (Or.inl rfl) (Or.inl (by decide)) rfl (hf_of 4 s3.1 rfl (by decide) m4_56) (fun h7 e8 => ?_)
  replace hf := hf h7 e8
  replace s3 : So 3 (gW G) h7 := by rw [e8]; exact s3.le sc3 (pI_le (Or.inl rfl))
  refine x_aload_n (pc' := 33) 0 (dX6_made 20 rfl rfl) rfl rfl rfl ?_
  refine x_getI (pc' := 36) (dX6_made 21 rfl rfl) g56 q604 (Or.inl rfl) rfl (hf_of 4 s3.1 rfl (by decide) m4_56) ?_
  refine x_iconst (pc' := 37) (v := 2) (dX6_made 22 rfl rfl) (by decide) rfl ?_
  refine x_isub (pc' := 38) (dX6_made 23 rfl rfl) rfl ?_
  exact x_iret (dX6_made 24 rfl rfl) rfl hf
theorem bX6_truth (G : Gh) (d : Nat) (h : AH) (Q : Outcome → AH → Prop) (p1 : Int32) (hf : (p1 = 0 → (Q (.returned (some (.int 2))) h)) ∧ (¬ p1 = 0 → (Q (.returned (some (.int 3))) h))) : C G mX6_truth d [.ref (gW G 3), .int (p1)] h Q := by
  refine C.of_X (by decide +kernel) (Nat.le_of_ble_eq_true rfl) wX6_truth ?_
  show X G mX6_truth d none [] 0 [(0, .ref (gW G 3)), (1, .int (p1))] [] h Q
  refine x_iload_n (pc' := 1) 1 (dX6_truth 0 rfl rfl) rfl rfl rfl ?_
  refine x_if_eq (pc' := 4) (tgt := 8) (dX6_truth 1 rfl rfl) (by decide) rfl (fun c1 => ?_) (fun c1 => ?_)
  · replace hf := hf.1 c1
    refine x_iconst (pc' := 9) (v := 2) (dX6_truth 4 rfl rfl) (by decide) rfl ?_
    exact x_iret (dX6_truth 5 rfl rfl) rfl hf
  · replace hf := hf.2 c1
    refine x_iconst (pc' := 5) (v := 3) (dX6_truth 2 rfl rfl) (by decide) rfl ?_
    refine x_goto (tgt := 9) (dX6_truth 3 rfl rfl) (by decide) ?_
    exact x_iret (dX6_truth 5 rfl rfl) rfl hf
theorem bX6_code (G : Gh) (d : Nat) (h : AH) (Q : Outcome → AH → Prop) (p1 : Nat) (s3 : So 3 (gW G) h) (hf : C G mX7_add d [.ref (gW G 1058), .ref (p1)] h (KV Q (fun h1 => Q (.returned (some (.int ((fI h1 (gW G 1058) 78) - 1)))) h1))) : C G mX6_code (d + 1) [.ref (gW G 3), .ref (p1)] h Q := by
  refine C.of_X (by decide +kernel) (Nat.le_of_ble_eq_true rfl) wX6_code ?_
  show X G mX6_code (d + 1) none [] 0 [(0, .ref (gW G 3)), (1, .ref (p1))] [] h Q
  refine x_aload_n (pc' := 1) 0 (dX6_code 0 rfl rfl) rfl rfl rfl ?_
  refine x_getR (pc' := 4) (dX6_code 1 rfl rfl) g58 q606 (Or.inl rfl) rfl (hf_of 4 s3.1 rfl (by decide) m4_58) (s3.2 2 _ rfl rfl).1 ?_
  refine x_aload_n (pc' := 5) 1 (dX6_code 2 rfl rfl) rfl rfl rfl ?_
  refine x_inv (pc' := 8) (ν := mX7_add) (av := [_, _]) (st := []) rfl rfl (dX6_code 3 rfl rfl) (Nat.le_of_ble_eq_true rfl) wX7_add q221 (inv_V (k := 5) (dX6_code 3 rfl rfl) q589 q590 q591 wX7_add (by decide) lX7_add (by decide) (s3.2 2 _ rfl rfl).2.1) (exN (by decide)) rfl ?_
  refine C.mono hf (fun _ _ => KV.g (fun h1 hf le2 => ?_))
  replace s3 := s3.le sc3 (le2)
  refine x_aload_n (pc' := 9) 0 (dX6_code 4 rfl rfl) rfl rfl rfl ?_
  refine x_getR (pc' := 12) (dX6_code 5 rfl rfl) g58 q606 (Or.inl rfl) rfl (hf_of 4 s3.1 rfl (by decide) m4_58) (s3.2 2 _ rfl rfl).1 ?_
  refine x_getI (pc' := 15) (dX6_code 6 rfl rfl) g78 q574 (Or.inl rfl) rfl (hf_of 5 (s3.2 2 _ rfl rfl).2.1 rfl (by decide) m5_78) ?_
  refine x_iconst (pc' := 16) (v := 1) (dX6_code 7 rfl rfl) (by decide) rfl ?_
  refine x_isub (pc' := 17) (dX6_code 8 rfl rfl) rfl ?_
  exact x_iret (dX6_code 9 rfl rfl) rfl hf
theorem bX6_closure (G : Gh) (d : Nat) (h : AH) (Q : Outcome → AH → Prop) (p1 : Int32) (p2 : Int32) (p3 : Int32) (p4 : Int32) (s3 : So 3 (gW G) h) (hf : vp_in (fI h (gW G 3) 56) 960100 ∧ ∀ h2, h2 = sI h (gW G 1055) (fI h (gW G 3) 56).toNatClampNeg 6 → (vp_in ((fI h2 (gW G 3) 56) + 1) 960100 ∧ ∀ h5, h5 = sI h2 (gW G 1055) ((fI h2 (gW G 3) 56) + 1).toNatClampNeg p1 → (vp_in ((fI h5 (gW G 3) 56) + 2) 960100 ∧ ∀ h8, h8 = sI h5 (gW G 1055) ((fI h5 (gW G 3) 56) + 2).toNatClampNeg p2 → (vp_in ((fI h8 (gW G 3) 56) + 3) 960100 ∧ ∀ h11, h11 = sI h8 (gW G 1055) ((fI h8 (gW G 3) 56) + 3).toNatClampNeg p3 → (vp_in ((fI h11 (gW G 3) 56) + 4) 960100 ∧ ∀ h14, h14 = sI h11 (gW G 1055) ((fI h11 (gW G 3) 56) + 4).toNatClampNeg p4 → (∀ h16, h16 = pI h14 (gW G 3) 56 ((fI h14 (gW G 3) 56) + 5) → (Q (.returned (some (.int ((fI h16 (gW G 3) 56) - 5)))) h16))))))) : C G mX6_closure d [.ref (gW G 3), .int (p1), .int (p2), .int (p3), .int (p4)] h Q := by
  refine C.of_X (by decide +kernel) (Nat.le_of_ble_eq_true rfl) wX6_closure ?_
  show X G mX6_closure d none [] 0 [(0, .ref (gW G 3)), (1, .int (p1)), (2, .int (p2)), (3, .int (p3)), (4, .int (p4))] [] h Q
  refine x_aload_n (pc' := 1) 0 (dX6_closure 0 rfl rfl) rfl rfl rfl ?_
  refine x_getR (pc' := 4) (dX6_closure 1 rfl rfl) g55 q603 (Or.inl rfl) rfl (hf_of 4 s3.1 rfl (by decide) m4_55) (s3.2 0 _ rfl rfl).1 ?_
  refine x_aload_n (pc' := 5) 0 (dX6_closure 2 rfl rfl) rfl rfl rfl ?_
  refine x_getI (pc' := 8) (dX6_closure 3 rfl rfl) g56 q604 (Or.inl rfl) rfl (hf_of 4 s3.1 rfl (by decide) m4_56) ?_
  refine x_bipush (pc' := 10) (v := 6) (dX6_closure 4 rfl rfl) (by decide) rfl ?_
  obtain ⟨i1, hf⟩ := hf
  refine x_iast (pc' := 11) (dX6_closure 5 rfl rfl) rfl (s3.2 0 _ rfl rfl).2.1 (Or.inl ⟨55, by decide, rfl, by decide⟩) (by rw [(s3.2 0 _ rfl rfl).2.2.2 (by decide)]; exact i1) (fun h2 e3 => ?_)
  replace hf := hf h2 e3
  replace s3 : So 3 (gW G) h2 := by rw [e3]; exact s3.le sc3 (sI_le )
  refine x_aload_n (pc' := 12) 0 (dX6_closure 6 rfl rfl) rfl rfl rfl ?_
  refine x_getR (pc' := 15) (dX6_closure 7 rfl rfl) g55 q603 (Or.inl rfl) rfl (hf_of 4 s3.1 rfl (by decide) m4_55) (s3.2 0 _ rfl rfl).1 ?_
  refine x_aload_n (pc' := 16) 0 (dX6_closure 8 rfl rfl) rfl rfl rfl ?_
  refine x_getI (pc' := 19) (dX6_closure 9 rfl rfl) g56 q604 (Or.inl rfl) rfl (hf_of 4 s3.1 rfl (by decide) m4_56) ?_
  refine x_iconst (pc' := 20) (v := 1) (dX6_closure 10 rfl rfl) (by decide) rfl ?_
  refine x_iadd (pc' := 21) (dX6_closure 11 rfl rfl) rfl ?_
  refine x_iload_n (pc' := 22) 1 (dX6_closure 12 rfl rfl) rfl rfl rfl ?_
  obtain ⟨i4, hf⟩ := hf
  refine x_iast (pc' := 23) (dX6_closure 13 rfl rfl) rfl (s3.2 0 _ rfl rfl).2.1 (Or.inl ⟨55, by decide, rfl, by decide⟩) (by rw [(s3.2 0 _ rfl rfl).2.2.2 (by decide)]; exact i4) (fun h5 e6 => ?_)
  replace hf := hf h5 e6
  replace s3 : So 3 (gW G) h5 := by rw [e6]; exact s3.le sc3 (sI_le )
  refine x_aload_n (pc' := 24) 0 (dX6_closure 14 rfl rfl) rfl rfl rfl ?_
  refine x_getR (pc' := 27) (dX6_closure 15 rfl rfl) g55 q603 (Or.inl rfl) rfl (hf_of 4 s3.1 rfl (by decide) m4_55) (s3.2 0 _ rfl rfl).1 ?_
  refine x_aload_n (pc' := 28) 0 (dX6_closure 16 rfl rfl) rfl rfl rfl ?_
  refine x_getI (pc' := 31) (dX6_closure 17 rfl rfl) g56 q604 (Or.inl rfl) rfl (hf_of 4 s3.1 rfl (by decide) m4_56) ?_
  refine x_iconst (pc' := 32) (v := 2) (dX6_closure 18 rfl rfl) (by decide) rfl ?_
  refine x_iadd (pc' := 33) (dX6_closure 19 rfl rfl) rfl ?_
  refine x_iload_n (pc' := 34) 2 (dX6_closure 20 rfl rfl) rfl rfl rfl ?_
  obtain ⟨i7, hf⟩ := hf
  refine x_iast (pc' := 35) (dX6_closure 21 rfl rfl) rfl (s3.2 0 _ rfl rfl).2.1 (Or.inl ⟨55, by decide, rfl, by decide⟩) (by rw [(s3.2 0 _ rfl rfl).2.2.2 (by decide)]; exact i7) (fun h8 e9 => ?_)
  replace hf := hf h8 e9
  replace s3 : So 3 (gW G) h8 := by rw [e9]; exact s3.le sc3 (sI_le )
  refine x_aload_n (pc' := 36) 0 (dX6_closure 22 rfl rfl) rfl rfl rfl ?_
  refine x_getR (pc' := 39) (dX6_closure 23 rfl rfl) g55 q603 (Or.inl rfl) rfl (hf_of 4 s3.1 rfl (by decide) m4_55) (s3.2 0 _ rfl rfl).1 ?_
  refine x_aload_n (pc' := 40) 0 (dX6_closure 24 rfl rfl) rfl rfl rfl ?_
  refine x_getI (pc' := 43) (dX6_closure 25 rfl rfl) g56 q604 (Or.inl rfl) rfl (hf_of 4 s3.1 rfl (by decide) m4_56) ?_
  refine x_iconst (pc' := 44) (v := 3) (dX6_closure 26 rfl rfl) (by decide) rfl ?_
  refine x_iadd (pc' := 45) (dX6_closure 27 rfl rfl) rfl ?_
  refine x_iload_n (pc' := 46) 3 (dX6_closure 28 rfl rfl) rfl rfl rfl ?_
  obtain ⟨i10, hf⟩ := hf
  refine x_iast (pc' := 47) (dX6_closure 29 rfl rfl) rfl (s3.2 0 _ rfl rfl).2.1 (Or.inl ⟨55, by decide, rfl, by decide⟩) (by rw [(s3.2 0 _ rfl rfl).2.2.2 (by decide)]; exact i10) (fun h11 e12 => ?_)
  replace hf := hf h11 e12
  replace s3 : So 3 (gW G) h11 := by rw [e12]; exact s3.le sc3 (sI_le )
  refine x_aload_n (pc' := 48) 0 (dX6_closure 30 rfl rfl) rfl rfl rfl ?_
  refine x_getR (pc' := 51) (dX6_closure 31 rfl rfl) g55 q603 (Or.inl rfl) rfl (hf_of 4 s3.1 rfl (by decide) m4_55) (s3.2 0 _ rfl rfl).1 ?_
  refine x_aload_n (pc' := 52) 0 (dX6_closure 32 rfl rfl) rfl rfl rfl ?_
  refine x_getI (pc' := 55) (dX6_closure 33 rfl rfl) g56 q604 (Or.inl rfl) rfl (hf_of 4 s3.1 rfl (by decide) m4_56) ?_
  refine x_iconst (pc' := 56) (v := 4) (dX6_closure 34 rfl rfl) (by decide) rfl ?_
  refine x_iadd (pc' := 57) (dX6_closure 35 rfl rfl) rfl ?_
  refine x_iload (pc' := 59) 4 (dX6_closure 36 rfl rfl) rfl rfl ?_
  obtain ⟨i13, hf⟩ := hf
  refine x_iast (pc' := 60) (dX6_closure 37 rfl rfl) rfl (s3.2 0 _ rfl rfl).2.1 (Or.inl ⟨55, by decide, rfl, by decide⟩) (by rw [(s3.2 0 _ rfl rfl).2.2.2 (by decide)]; exact i13) (fun h14 e15 => ?_)
  replace hf := hf h14 e15
  replace s3 : So 3 (gW G) h14 := by rw [e15]; exact s3.le sc3 (sI_le )
  refine x_aload_n (pc' := 61) 0 (dX6_closure 38 rfl rfl) rfl rfl rfl ?_
  refine x_dup (pc' := 62) (dX6_closure 39 rfl rfl) rfl rfl ?_
  refine x_getI (pc' := 65) (dX6_closure 40 rfl rfl) g56 q604 (Or.inl rfl) rfl (hf_of 4 s3.1 rfl (by decide) m4_56) ?_
  refine x_iconst (pc' := 66) (v := 5) (dX6_closure 41 rfl rfl) (by decide) rfl ?_
  refine x_iadd (pc' := 67) (dX6_closure 42 rfl rfl) rfl ?_
  refine x_putI (pc' := 70) (dX6_closure 43 rfl rfl) g56 q604 (Or.inl rfl) (Or.inl rfl) (Or.inl (by decide)) rfl (hf_of 4 s3.1 rfl (by decide) m4_56) (fun h16 e17 => ?_)
  replace hf := hf h16 e17
  replace s3 : So 3 (gW G) h16 := by rw [e17]; exact s3.le sc3 (pI_le (Or.inl rfl))
  refine x_aload_n (pc' := 71) 0 (dX6_closure 44 rfl rfl) rfl rfl rfl ?_
  refine x_getI (pc' := 74) (dX6_closure 45 rfl rfl) g56 q604 (Or.inl rfl) rfl (hf_of 4 s3.1 rfl (by decide) m4_56) ?_
  refine x_iconst (pc' := 75) (v := 5) (dX6_closure 46 rfl rfl) (by decide) rfl ?_
  refine x_isub (pc' := 76) (dX6_closure 47 rfl rfl) rfl ?_
  exact x_iret (dX6_closure 48 rfl rfl) rfl hf
theorem bX6_isOver (G : Gh) (d : Nat) (h : AH) (Q : Outcome → AH → Prop)  (s3 : So 3 (gW G) h) (hf : ((fI h (gW G 3) 73) = 0 → (Q (.returned (some (.int 0))) h)) ∧ (¬ ((fI h (gW G 3) 73) = 0) → (Q (.returned (some (.int 1))) h))) : C G mX6_isOver d [.ref (gW G 3)] h Q := by
  refine C.of_X (by decide +kernel) (Nat.le_of_ble_eq_true rfl) wX6_isOver ?_
  show X G mX6_isOver d none [] 0 [(0, .ref (gW G 3))] [] h Q
  refine x_aload_n (pc' := 1) 0 (dX6_isOver 0 rfl rfl) rfl rfl rfl ?_
  refine x_getI (pc' := 4) (dX6_isOver 1 rfl rfl) g73 q624 (Or.inl rfl) rfl (hf_of 4 s3.1 rfl (by decide) m4_73) ?_
  refine x_if_eq (pc' := 7) (tgt := 11) (dX6_isOver 2 rfl rfl) (by decide) rfl (fun c1 => ?_) (fun c1 => ?_)
  · replace hf := hf.1 c1
    refine x_iconst (pc' := 12) (v := 0) (dX6_isOver 5 rfl rfl) (by decide) rfl ?_
    exact x_zret (ty := .boolean) (dX6_isOver 6 rfl rfl) rfl (by decide) hf
  · replace hf := hf.2 c1
    refine x_iconst (pc' := 8) (v := 1) (dX6_isOver 3 rfl rfl) (by decide) rfl ?_
    refine x_goto (tgt := 12) (dX6_isOver 4 rfl rfl) (by decide) ?_
    exact x_zret (ty := .boolean) (dX6_isOver 6 rfl rfl) rfl (by decide) hf
theorem bX6_bound (G : Gh) (d : Nat) (h : AH) (Q : Outcome → AH → Prop) (p1 : Int32) (p2 : Int32) (s3 : So 3 (gW G) h) (hf : C G mX6_pay d [.ref (gW G 3), .int (1)] h (KI Q (fun x3 h1 => (x3 = 0 → (Q (.returned (some (.int p2))) h1)) ∧ (¬ x3 = 0 → (C G mX6_made_2 d [.ref (gW G 3), .int (9), .int (p1), .int (p2)] h1 (KI Q (fun x7 h5 => Q (.returned (some (.int x7))) h5))))))) : C G mX6_bound (d + 1) [.ref (gW G 3), .int (p1), .int (p2)] h Q := by
  refine C.of_X (by decide +kernel) (Nat.le_of_ble_eq_true rfl) wX6_bound ?_
  show X G mX6_bound (d + 1) none [] 0 [(0, .ref (gW G 3)), (1, .int (p1)), (2, .int (p2))] [] h Q
  refine x_aload_n (pc' := 1) 0 (dX6_bound 0 rfl rfl) rfl rfl rfl ?_
  refine x_iconst (pc' := 2) (v := 1) (dX6_bound 1 rfl rfl) (by decide) rfl ?_
  refine x_inv (pc' := 5) (ν := mX6_pay) (av := [_, _]) (st := []) rfl rfl (dX6_bound 2 rfl rfl) (Nat.le_of_ble_eq_true rfl) wX6_pay q220 (inv_V (k := 4) (dX6_bound 2 rfl rfl) q3000 q2891 q2892 wX6_pay (by decide) lX6_pay (by decide) s3.1) (exN (by decide)) rfl ?_
  refine C.mono hf (fun _ _ => KI.g (fun x3 h1 hf le2 => ?_))
  replace s3 := s3.le sc3 (le2)
  refine x_if_eq (pc' := 8) (tgt := 19) (dX6_bound 3 rfl rfl) (by decide) rfl (fun c4 => ?_) (fun c4 => ?_)
  · replace hf := hf.1 c4
    refine x_iload_n (pc' := 20) 2 (dX6_bound 10 rfl rfl) rfl rfl rfl ?_
    exact x_iret (dX6_bound 11 rfl rfl) rfl hf
  · replace hf := hf.2 c4
    refine x_aload_n (pc' := 9) 0 (dX6_bound 4 rfl rfl) rfl rfl rfl ?_
    refine x_bipush (pc' := 11) (v := 9) (dX6_bound 5 rfl rfl) (by decide) rfl ?_
    refine x_iload_n (pc' := 12) 1 (dX6_bound 6 rfl rfl) rfl rfl rfl ?_
    refine x_iload_n (pc' := 13) 2 (dX6_bound 7 rfl rfl) rfl rfl rfl ?_
    refine x_inv (pc' := 16) (ν := mX6_made_2) (av := [_, _, _, _]) (st := []) rfl rfl (dX6_bound 8 rfl rfl) (Nat.le_of_ble_eq_true rfl) wX6_made_2 q220 (inv_V (k := 4) (dX6_bound 8 rfl rfl) q3001 q3002 q3003 wX6_made_2 (by decide) lX6_made_2 (by decide) s3.1) (exN (by decide)) rfl ?_
    refine C.mono hf (fun _ _ => KI.g (fun x7 h5 hf le6 => ?_))
    replace s3 := s3.le sc3 (le6)
    refine x_goto (tgt := 20) (dX6_bound 9 rfl rfl) (by decide) ?_
    exact x_iret (dX6_bound 11 rfl rfl) rfl hf
theorem bX6_made_2 (G : Gh) (d : Nat) (h : AH) (Q : Outcome → AH → Prop) (p1 : Int32) (p2 : Int32) (p3 : Int32) (s3 : So 3 (gW G) h) (hf : vp_in (fI h (gW G 3) 56) 960100 ∧ ∀ h2, h2 = sI h (gW G 1055) (fI h (gW G 3) 56).toNatClampNeg p1 → (vp_in ((fI h2 (gW G 3) 56) + 1) 960100 ∧ ∀ h5, h5 = sI h2 (gW G 1055) ((fI h2 (gW G 3) 56) + 1).toNatClampNeg p2 → (vp_in ((fI h5 (gW G 3) 56) + 2) 960100 ∧ ∀ h8, h8 = sI h5 (gW G 1055) ((fI h5 (gW G 3) 56) + 2).toNatClampNeg p3 → (∀ h10, h10 = pI h8 (gW G 3) 56 ((fI h8 (gW G 3) 56) + 3) → (Q (.returned (some (.int ((fI h10 (gW G 3) 56) - 3)))) h10))))) : C G mX6_made_2 d [.ref (gW G 3), .int (p1), .int (p2), .int (p3)] h Q := by
  refine C.of_X (by decide +kernel) (Nat.le_of_ble_eq_true rfl) wX6_made_2 ?_
  show X G mX6_made_2 d none [] 0 [(0, .ref (gW G 3)), (1, .int (p1)), (2, .int (p2)), (3, .int (p3))] [] h Q
  refine x_aload_n (pc' := 1) 0 (dX6_made_2 0 rfl rfl) rfl rfl rfl ?_
  refine x_getR (pc' := 4) (dX6_made_2 1 rfl rfl) g55 q603 (Or.inl rfl) rfl (hf_of 4 s3.1 rfl (by decide) m4_55) (s3.2 0 _ rfl rfl).1 ?_
  refine x_aload_n (pc' := 5) 0 (dX6_made_2 2 rfl rfl) rfl rfl rfl ?_
  refine x_getI (pc' := 8) (dX6_made_2 3 rfl rfl) g56 q604 (Or.inl rfl) rfl (hf_of 4 s3.1 rfl (by decide) m4_56) ?_
  refine x_iload_n (pc' := 9) 1 (dX6_made_2 4 rfl rfl) rfl rfl rfl ?_
  obtain ⟨i1, hf⟩ := hf
  refine x_iast (pc' := 10) (dX6_made_2 5 rfl rfl) rfl (s3.2 0 _ rfl rfl).2.1 (Or.inl ⟨55, by decide, rfl, by decide⟩) (by rw [(s3.2 0 _ rfl rfl).2.2.2 (by decide)]; exact i1) (fun h2 e3 => ?_)
  replace hf := hf h2 e3
  replace s3 : So 3 (gW G) h2 := by rw [e3]; exact s3.le sc3 (sI_le )
  refine x_aload_n (pc' := 11) 0 (dX6_made_2 6 rfl rfl) rfl rfl rfl ?_
  refine x_getR (pc' := 14) (dX6_made_2 7 rfl rfl) g55 q603 (Or.inl rfl) rfl (hf_of 4 s3.1 rfl (by decide) m4_55) (s3.2 0 _ rfl rfl).1 ?_
  refine x_aload_n (pc' := 15) 0 (dX6_made_2 8 rfl rfl) rfl rfl rfl ?_
  refine x_getI (pc' := 18) (dX6_made_2 9 rfl rfl) g56 q604 (Or.inl rfl) rfl (hf_of 4 s3.1 rfl (by decide) m4_56) ?_
  refine x_iconst (pc' := 19) (v := 1) (dX6_made_2 10 rfl rfl) (by decide) rfl ?_
  refine x_iadd (pc' := 20) (dX6_made_2 11 rfl rfl) rfl ?_
  refine x_iload_n (pc' := 21) 2 (dX6_made_2 12 rfl rfl) rfl rfl rfl ?_
  obtain ⟨i4, hf⟩ := hf
  refine x_iast (pc' := 22) (dX6_made_2 13 rfl rfl) rfl (s3.2 0 _ rfl rfl).2.1 (Or.inl ⟨55, by decide, rfl, by decide⟩) (by rw [(s3.2 0 _ rfl rfl).2.2.2 (by decide)]; exact i4) (fun h5 e6 => ?_)
  replace hf := hf h5 e6
  replace s3 : So 3 (gW G) h5 := by rw [e6]; exact s3.le sc3 (sI_le )
  refine x_aload_n (pc' := 23) 0 (dX6_made_2 14 rfl rfl) rfl rfl rfl ?_
  refine x_getR (pc' := 26) (dX6_made_2 15 rfl rfl) g55 q603 (Or.inl rfl) rfl (hf_of 4 s3.1 rfl (by decide) m4_55) (s3.2 0 _ rfl rfl).1 ?_
  refine x_aload_n (pc' := 27) 0 (dX6_made_2 16 rfl rfl) rfl rfl rfl ?_
  refine x_getI (pc' := 30) (dX6_made_2 17 rfl rfl) g56 q604 (Or.inl rfl) rfl (hf_of 4 s3.1 rfl (by decide) m4_56) ?_
  refine x_iconst (pc' := 31) (v := 2) (dX6_made_2 18 rfl rfl) (by decide) rfl ?_
  refine x_iadd (pc' := 32) (dX6_made_2 19 rfl rfl) rfl ?_
  refine x_iload_n (pc' := 33) 3 (dX6_made_2 20 rfl rfl) rfl rfl rfl ?_
  obtain ⟨i7, hf⟩ := hf
  refine x_iast (pc' := 34) (dX6_made_2 21 rfl rfl) rfl (s3.2 0 _ rfl rfl).2.1 (Or.inl ⟨55, by decide, rfl, by decide⟩) (by rw [(s3.2 0 _ rfl rfl).2.2.2 (by decide)]; exact i7) (fun h8 e9 => ?_)
  replace hf := hf h8 e9
  replace s3 : So 3 (gW G) h8 := by rw [e9]; exact s3.le sc3 (sI_le )
  refine x_aload_n (pc' := 35) 0 (dX6_made_2 22 rfl rfl) rfl rfl rfl ?_
  refine x_dup (pc' := 36) (dX6_made_2 23 rfl rfl) rfl rfl ?_
  refine x_getI (pc' := 39) (dX6_made_2 24 rfl rfl) g56 q604 (Or.inl rfl) rfl (hf_of 4 s3.1 rfl (by decide) m4_56) ?_
  refine x_iconst (pc' := 40) (v := 3) (dX6_made_2 25 rfl rfl) (by decide) rfl ?_
  refine x_iadd (pc' := 41) (dX6_made_2 26 rfl rfl) rfl ?_
  refine x_putI (pc' := 44) (dX6_made_2 27 rfl rfl) g56 q604 (Or.inl rfl) (Or.inl rfl) (Or.inl (by decide)) rfl (hf_of 4 s3.1 rfl (by decide) m4_56) (fun h10 e11 => ?_)
  replace hf := hf h10 e11
  replace s3 : So 3 (gW G) h10 := by rw [e11]; exact s3.le sc3 (pI_le (Or.inl rfl))
  refine x_aload_n (pc' := 45) 0 (dX6_made_2 28 rfl rfl) rfl rfl rfl ?_
  refine x_getI (pc' := 48) (dX6_made_2 29 rfl rfl) g56 q604 (Or.inl rfl) rfl (hf_of 4 s3.1 rfl (by decide) m4_56) ?_
  refine x_iconst (pc' := 49) (v := 3) (dX6_made_2 30 rfl rfl) (by decide) rfl ?_
  refine x_isub (pc' := 50) (dX6_made_2 31 rfl rfl) rfl ?_
  exact x_iret (dX6_made_2 32 rfl rfl) rfl hf
theorem bX6_rebound (G : Gh) (d : Nat) (h : AH) (Q : Outcome → AH → Prop) (p1 : Int32) (p2 : Int32) (s3 : So 3 (gW G) h) (hf : vp_in (p1 + 1) 960100 ∧ ∀ h2, h2 = sI h (gW G 1055) (p1 + 1).toNatClampNeg p2 → (vp_in (p1 + 2) 960100 ∧ (Q (.returned (some (.int (aI h2 (gW G 1055) (p1 + 2).toNatClampNeg)))) h2))) : C G mX6_rebound d [.ref (gW G 3), .int (p1), .int (p2)] h Q := by
  refine C.of_X (by decide +kernel) (Nat.le_of_ble_eq_true rfl) wX6_rebound ?_
  show X G mX6_rebound d none [] 0 [(0, .ref (gW G 3)), (1, .int (p1)), (2, .int (p2))] [] h Q
  refine x_aload_n (pc' := 1) 0 (dX6_rebound 0 rfl rfl) rfl rfl rfl ?_
  refine x_getR (pc' := 4) (dX6_rebound 1 rfl rfl) g55 q603 (Or.inl rfl) rfl (hf_of 4 s3.1 rfl (by decide) m4_55) (s3.2 0 _ rfl rfl).1 ?_
  refine x_iload_n (pc' := 5) 1 (dX6_rebound 2 rfl rfl) rfl rfl rfl ?_
  refine x_iconst (pc' := 6) (v := 1) (dX6_rebound 3 rfl rfl) (by decide) rfl ?_
  refine x_iadd (pc' := 7) (dX6_rebound 4 rfl rfl) rfl ?_
  refine x_iload_n (pc' := 8) 2 (dX6_rebound 5 rfl rfl) rfl rfl rfl ?_
  obtain ⟨i1, hf⟩ := hf
  refine x_iast (pc' := 9) (dX6_rebound 6 rfl rfl) rfl (s3.2 0 _ rfl rfl).2.1 (Or.inl ⟨55, by decide, rfl, by decide⟩) (by rw [(s3.2 0 _ rfl rfl).2.2.2 (by decide)]; exact i1) (fun h2 e3 => ?_)
  replace hf := hf h2 e3
  replace s3 : So 3 (gW G) h2 := by rw [e3]; exact s3.le sc3 (sI_le )
  refine x_aload_n (pc' := 10) 0 (dX6_rebound 7 rfl rfl) rfl rfl rfl ?_
  refine x_getR (pc' := 13) (dX6_rebound 8 rfl rfl) g55 q603 (Or.inl rfl) rfl (hf_of 4 s3.1 rfl (by decide) m4_55) (s3.2 0 _ rfl rfl).1 ?_
  refine x_iload_n (pc' := 14) 1 (dX6_rebound 9 rfl rfl) rfl rfl rfl ?_
  refine x_iconst (pc' := 15) (v := 2) (dX6_rebound 10 rfl rfl) (by decide) rfl ?_
  refine x_iadd (pc' := 16) (dX6_rebound 11 rfl rfl) rfl ?_
  obtain ⟨i4, hf⟩ := hf
  refine x_iald (pc' := 17) (dX6_rebound 12 rfl rfl) rfl (s3.2 0 _ rfl rfl).2.1 (by rw [(s3.2 0 _ rfl rfl).2.2.2 (by decide)]; exact i4) ?_
  exact x_iret (dX6_rebound 13 rfl rfl) rfl hf
theorem bX6_done (G : Gh) (d : Nat) (h : AH) (Q : Outcome → AH → Prop) (p1 : Int32) (s3 : So 3 (gW G) h) (hf : ∀ h1, h1 = pI h (gW G 3) 74 1 → (∀ h2, h2 = pI h1 (gW G 3) 75 p1 → (Q (.returned none) h2))) : C G mX6_done d [.ref (gW G 3), .int (p1)] h Q := by
  refine C.of_X (by decide +kernel) (Nat.le_of_ble_eq_true rfl) wX6_done ?_
  show X G mX6_done d none [] 0 [(0, .ref (gW G 3)), (1, .int (p1))] [] h Q
  refine x_aload_n (pc' := 1) 0 (dX6_done 0 rfl rfl) rfl rfl rfl ?_
  refine x_iconst (pc' := 2) (v := 1) (dX6_done 1 rfl rfl) (by decide) rfl ?_
  refine x_putZ (pc' := 5) (dX6_done 2 rfl rfl) g74 q625 (Or.inl rfl) (Or.inl rfl) (Or.inl (by decide)) rfl (hf_of 4 s3.1 rfl (by decide) m4_74) (by decide) (fun h1 e4 => ?_)
  replace hf := hf h1 e4
  replace s3 : So 3 (gW G) h1 := by rw [e4]; exact s3.le sc3 (pI_le (Or.inl rfl))
  refine x_aload_n (pc' := 6) 0 (dX6_done 3 rfl rfl) rfl rfl rfl ?_
  refine x_iload_n (pc' := 7) 1 (dX6_done 4 rfl rfl) rfl rfl rfl ?_
  refine x_putI (pc' := 10) (dX6_done 5 rfl rfl) g75 q626 (Or.inl rfl) (Or.inl rfl) (Or.inl (by decide)) rfl (hf_of 4 s3.1 rfl (by decide) m4_75) (fun h2 e3 => ?_)
  replace hf := hf h2 e3
  replace s3 : So 3 (gW G) h2 := by rw [e3]; exact s3.le sc3 (pI_le (Or.inl rfl))
  exact x_vret (dX6_done 6 rfl rfl) rfl hf
theorem bX6_known (G : Gh) (d : Nat) (h : AH) (Q : Outcome → AH → Prop) (p1 : Int32) (p2 : Int32) (hf : X G mX6_known d none [] 5 [(0, .ref (gW G 3)), (2, .int (p2)), (3, .int (p1)), (4, .int (0))] [] h Q) : C G mX6_known d [.ref (gW G 3), .int (p1), .int (p2)] h Q := by
  refine C.of_X (by decide +kernel) (Nat.le_of_ble_eq_true rfl) wX6_known ?_
  show X G mX6_known d none [] 0 [(0, .ref (gW G 3)), (1, .int (p1)), (2, .int (p2))] [] h Q
  refine x_iload_n (pc' := 1) 1 (dX6_known 0 rfl rfl) rfl rfl rfl ?_
  refine x_istore_n (pc' := 2) (dX6_known 1 rfl rfl) rfl (by decide) rfl rfl ?_
  refine x_iconst (pc' := 3) (v := 0) (dX6_known 2 rfl rfl) (by decide) rfl ?_
  refine x_istore (pc' := 5) (dX6_known 3 rfl rfl) (by decide) rfl rfl ?_
  exact X.sub [2, 4, 1, 0] rfl (by simp) hf
theorem bX6_known_5 (G : Gh) (d : Nat) (h : AH) (Q : Outcome → AH → Prop) (l2 : Int32) (l3 : Int32) (l4 : Int32) (s3 : So 3 (gW G) h) (hf : (l2 ≤ l4 → (vp_in (l3 + 1) 960100 ∧ (Q (.returned (some (.int (aI h (gW G 1055) (l3 + 1).toNatClampNeg)))) h))) ∧ (¬ (l2 ≤ l4) → (vp_in (l3 + 2) 960100 ∧ (∀ x4 : Int32, x4 = aI h (gW G 1055) (l3 + 2).toNatClampNeg → (∀ x5 : Int32, x5 = l4 + 1 → (X G mX6_known d none [] 5 [(0, .ref (gW G 3)), (2, .int (l2)), (3, .int (x4)), (4, .int (x5))] [] h Q)))))) : X G mX6_known d none [] 5 [(0, .ref (gW G 3)), (2, .int (l2)), (3, .int (l3)), (4, .int (l4))] [] h Q := by
  refine x_iload (pc' := 7) 3 (dX6_known 4 rfl rfl) rfl rfl ?_
  refine x_iload_n (pc' := 8) 1 (dX6_known 5 rfl rfl) rfl rfl rfl ?_
  refine x_icmp_ge (pc' := 11) (tgt := 26) (dX6_known 6 rfl rfl) (by decide) rfl (fun c1 => ?_) (fun c1 => ?_)
  · replace hf := hf.1 c1
    refine x_aload_n (pc' := 27) 0 (dX6_known 16 rfl rfl) rfl rfl rfl ?_
    refine x_getR (pc' := 30) (dX6_known 17 rfl rfl) g55 q603 (Or.inl rfl) rfl (hf_of 4 s3.1 rfl (by decide) m4_55) (s3.2 0 _ rfl rfl).1 ?_
    refine x_iload_n (pc' := 31) 2 (dX6_known 18 rfl rfl) rfl rfl rfl ?_
    refine x_iconst (pc' := 32) (v := 1) (dX6_known 19 rfl rfl) (by decide) rfl ?_
    refine x_iadd (pc' := 33) (dX6_known 20 rfl rfl) rfl ?_
    obtain ⟨i2, hf⟩ := hf
    refine x_iald (pc' := 34) (dX6_known 21 rfl rfl) rfl (s3.2 0 _ rfl rfl).2.1 (by rw [(s3.2 0 _ rfl rfl).2.2.2 (by decide)]; exact i2) ?_
    exact x_iret (dX6_known 22 rfl rfl) rfl hf
  · replace hf := hf.2 c1
    refine x_aload_n (pc' := 12) 0 (dX6_known 7 rfl rfl) rfl rfl rfl ?_
    refine x_getR (pc' := 15) (dX6_known 8 rfl rfl) g55 q603 (Or.inl rfl) rfl (hf_of 4 s3.1 rfl (by decide) m4_55) (s3.2 0 _ rfl rfl).1 ?_
    refine x_iload_n (pc' := 16) 2 (dX6_known 9 rfl rfl) rfl rfl rfl ?_
    refine x_iconst (pc' := 17) (v := 2) (dX6_known 10 rfl rfl) (by decide) rfl ?_
    refine x_iadd (pc' := 18) (dX6_known 11 rfl rfl) rfl ?_
    obtain ⟨i3, hf⟩ := hf
    refine x_iald (pc' := 19) (dX6_known 12 rfl rfl) rfl (s3.2 0 _ rfl rfl).2.1 (by rw [(s3.2 0 _ rfl rfl).2.2.2 (by decide)]; exact i3) ?_
    replace hf := hf _ rfl
    refine x_istore_n (pc' := 20) (dX6_known 13 rfl rfl) rfl (by decide) rfl rfl ?_
    replace hf := hf _ rfl
    refine x_iinc (pc' := 23) 3 (dX6_known 14 rfl rfl) rfl (by rfl) (by decide) rfl rfl ?_
    refine x_goto (tgt := 5) (dX6_known 15 rfl rfl) (by decide) ?_
    exact X.sub [2, 3, 1, 0] rfl (by simp) hf
theorem bX6_push (G : Gh) (d : Nat) (h : AH) (Q : Outcome → AH → Prop) (p1 : Int32) (s3 : So 3 (gW G) h) (hf : vp_in (fI h (gW G 3) 65) 31000 ∧ ∀ h2, h2 = sI h (gW G 1064) (fI h (gW G 3) 65).toNatClampNeg p1 → (∀ h4, h4 = pI h2 (gW G 3) 65 ((fI h2 (gW G 3) 65) + 1) → (Q (.returned none) h4))) : C G mX6_push d [.ref (gW G 3), .int (p1)] h Q := by
  refine C.of_X (by decide +kernel) (Nat.le_of_ble_eq_true rfl) wX6_push ?_
  show X G mX6_push d none [] 0 [(0, .ref (gW G 3)), (1, .int (p1))] [] h Q
  refine x_aload_n (pc' := 1) 0 (dX6_push 0 rfl rfl) rfl rfl rfl ?_
  refine x_getR (pc' := 4) (dX6_push 1 rfl rfl) g64 q613 (Or.inl rfl) rfl (hf_of 4 s3.1 rfl (by decide) m4_64) (s3.2 7 _ rfl rfl).1 ?_
  refine x_aload_n (pc' := 5) 0 (dX6_push 2 rfl rfl) rfl rfl rfl ?_
  refine x_getI (pc' := 8) (dX6_push 3 rfl rfl) g65 q614 (Or.inl rfl) rfl (hf_of 4 s3.1 rfl (by decide) m4_65) ?_
  refine x_iload_n (pc' := 9) 1 (dX6_push 4 rfl rfl) rfl rfl rfl ?_
  obtain ⟨i1, hf⟩ := hf
  refine x_iast (pc' := 10) (dX6_push 5 rfl rfl) rfl (s3.2 7 _ rfl rfl).2.1 (Or.inl ⟨64, by decide, rfl, by decide⟩) (by rw [(s3.2 7 _ rfl rfl).2.2.2 (by decide)]; exact i1) (fun h2 e3 => ?_)
  replace hf := hf h2 e3
  replace s3 : So 3 (gW G) h2 := by rw [e3]; exact s3.le sc3 (sI_le )
  refine x_aload_n (pc' := 11) 0 (dX6_push 6 rfl rfl) rfl rfl rfl ?_
  refine x_dup (pc' := 12) (dX6_push 7 rfl rfl) rfl rfl ?_
  refine x_getI (pc' := 15) (dX6_push 8 rfl rfl) g65 q614 (Or.inl rfl) rfl (hf_of 4 s3.1 rfl (by decide) m4_65) ?_
  refine x_iconst (pc' := 16) (v := 1) (dX6_push 9 rfl rfl) (by decide) rfl ?_
  refine x_iadd (pc' := 17) (dX6_push 10 rfl rfl) rfl ?_
  refine x_putI (pc' := 20) (dX6_push 11 rfl rfl) g65 q614 (Or.inl rfl) (Or.inl rfl) (Or.inl (by decide)) rfl (hf_of 4 s3.1 rfl (by decide) m4_65) (fun h4 e5 => ?_)
  replace hf := hf h4 e5
  replace s3 : So 3 (gW G) h4 := by rw [e5]; exact s3.le sc3 (pI_le (Or.inl rfl))
  exact x_vret (dX6_push 12 rfl rfl) rfl hf
theorem bX6_pop (G : Gh) (d : Nat) (h : AH) (Q : Outcome → AH → Prop)  (s3 : So 3 (gW G) h) (hf : ∀ h1, h1 = pI h (gW G 3) 65 ((fI h (gW G 3) 65) - 1) → (vp_in (fI h1 (gW G 3) 65) 31000 ∧ (Q (.returned (some (.int (aI h1 (gW G 1064) (fI h1 (gW G 3) 65).toNatClampNeg)))) h1))) : C G mX6_pop d [.ref (gW G 3)] h Q := by
  refine C.of_X (by decide +kernel) (Nat.le_of_ble_eq_true rfl) wX6_pop ?_
  show X G mX6_pop d none [] 0 [(0, .ref (gW G 3))] [] h Q
  refine x_aload_n (pc' := 1) 0 (dX6_pop 0 rfl rfl) rfl rfl rfl ?_
  refine x_dup (pc' := 2) (dX6_pop 1 rfl rfl) rfl rfl ?_
  refine x_getI (pc' := 5) (dX6_pop 2 rfl rfl) g65 q614 (Or.inl rfl) rfl (hf_of 4 s3.1 rfl (by decide) m4_65) ?_
  refine x_iconst (pc' := 6) (v := 1) (dX6_pop 3 rfl rfl) (by decide) rfl ?_
  refine x_isub (pc' := 7) (dX6_pop 4 rfl rfl) rfl ?_
  refine x_putI (pc' := 10) (dX6_pop 5 rfl rfl) g65 q614 (Or.inl rfl) (Or.inl rfl) (Or.inl (by decide)) rfl (hf_of 4 s3.1 rfl (by decide) m4_65) (fun h1 e3 => ?_)
  replace hf := hf h1 e3
  replace s3 : So 3 (gW G) h1 := by rw [e3]; exact s3.le sc3 (pI_le (Or.inl rfl))
  refine x_aload_n (pc' := 11) 0 (dX6_pop 6 rfl rfl) rfl rfl rfl ?_
  refine x_getR (pc' := 14) (dX6_pop 7 rfl rfl) g64 q613 (Or.inl rfl) rfl (hf_of 4 s3.1 rfl (by decide) m4_64) (s3.2 7 _ rfl rfl).1 ?_
  refine x_aload_n (pc' := 15) 0 (dX6_pop 8 rfl rfl) rfl rfl rfl ?_
  refine x_getI (pc' := 18) (dX6_pop 9 rfl rfl) g65 q614 (Or.inl rfl) rfl (hf_of 4 s3.1 rfl (by decide) m4_65) ?_
  obtain ⟨i2, hf⟩ := hf
  refine x_iald (pc' := 19) (dX6_pop 10 rfl rfl) rfl (s3.2 7 _ rfl rfl).2.1 (by rw [(s3.2 7 _ rfl rfl).2.2.2 (by decide)]; exact i2) ?_
  exact x_iret (dX6_pop 11 rfl rfl) rfl hf
theorem bX6_call (G : Gh) (d : Nat) (h : AH) (Q : Outcome → AH → Prop) (p1 : Int32) (p2 : Int32) (s3 : So 3 (gW G) h) (hf : C G mX6_tag d [.ref (gW G 3), .int (p1)] h (KI Q (fun x3 h1 => (x3 = 5 → (vp_in (p1 + 1) 960100 ∧ (C G mX6_made_2 d [.ref (gW G 3), .int (4), .int (aI h1 (gW G 1055) (p1 + 1).toNatClampNeg), .int (p2)] h1 (KI Q (fun x10 h8 => C G mX6_give d [.ref (gW G 3), .int (x10)] h8 (KV Q (fun h11 => Q (.returned none) h11))))))) ∧ (¬ x3 = 5 → ((x3 = 8 → (X G mX6_call (d + 1) none [] 48 [(0, .ref (gW G 3)), (1, .int (p1)), (2, .int (p2)), (3, .int (x3))] [.int (1), .ref (gW G 3)] h1 Q)) ∧ (¬ x3 = 8 → ((x3 = 6 → (X G mX6_call (d + 1) none [] 48 [(0, .ref (gW G 3)), (1, .int (p1)), (2, .int (p2)), (3, .int (x3))] [.int (1), .ref (gW G 3)] h1 Q)) ∧ (¬ x3 = 6 → (X G mX6_call (d + 1) none [] 48 [(0, .ref (gW G 3)), (1, .int (p1)), (2, .int (p2)), (3, .int (x3))] [.int (0), .ref (gW G 3)] h1 Q))))))))) : C G mX6_call (d + 1) [.ref (gW G 3), .int (p1), .int (p2)] h Q := by
  refine C.of_X (by decide +kernel) (Nat.le_of_ble_eq_true rfl) wX6_call ?_
  show X G mX6_call (d + 1) none [] 0 [(0, .ref (gW G 3)), (1, .int (p1)), (2, .int (p2))] [] h Q
  refine x_aload_n (pc' := 1) 0 (dX6_call 0 rfl rfl) rfl rfl rfl ?_
  refine x_iload_n (pc' := 2) 1 (dX6_call 1 rfl rfl) rfl rfl rfl ?_
  refine x_inv (pc' := 5) (ν := mX6_tag) (av := [_, _]) (st := []) rfl rfl (dX6_call 2 rfl rfl) (Nat.le_of_ble_eq_true rfl) wX6_tag q220 (inv_V (k := 4) (dX6_call 2 rfl rfl) q3070 q3071 q3072 wX6_tag (by decide) lX6_tag (by decide) s3.1) (exN (by decide)) rfl ?_
  refine C.mono hf (fun _ _ => KI.g (fun x3 h1 hf le2 => ?_))
  replace s3 := s3.le sc3 (le2)
  refine x_istore_n (pc' := 6) (dX6_call 3 rfl rfl) rfl (by decide) rfl rfl ?_
  refine x_iload_n (pc' := 7) 0 (dX6_call 4 rfl rfl) rfl rfl rfl ?_
  refine x_iconst (pc' := 8) (v := 5) (dX6_call 5 rfl rfl) (by decide) rfl ?_
  refine x_icmp_ne (pc' := 11) (tgt := 30) (dX6_call 6 rfl rfl) (by decide) rfl (fun c4 => ?_) (fun c4 => ?_)
  · replace hf := hf.2 c4
    refine x_aload_n (pc' := 31) 1 (dX6_call 20 rfl rfl) rfl rfl rfl ?_
    refine x_iload_n (pc' := 32) 0 (dX6_call 21 rfl rfl) rfl rfl rfl ?_
    refine x_bipush (pc' := 34) (v := 8) (dX6_call 22 rfl rfl) (by decide) rfl ?_
    refine x_icmp_eq (pc' := 37) (tgt := 43) (dX6_call 23 rfl rfl) (by decide) rfl (fun c5 => ?_) (fun c5 => ?_)
    · replace hf := hf.1 c5
      refine x_iconst (pc' := 44) (v := 1) (dX6_call 27 rfl rfl) (by decide) rfl ?_
      refine x_goto (tgt := 48) (dX6_call 28 rfl rfl) (by decide) ?_
      exact X.sub [1, 2, 3, 0] rfl (by simp) hf
    · replace hf := hf.2 c5
      refine x_iload_n (pc' := 38) 0 (dX6_call 24 rfl rfl) rfl rfl rfl ?_
      refine x_bipush (pc' := 40) (v := 6) (dX6_call 25 rfl rfl) (by decide) rfl ?_
      refine x_icmp_ne (pc' := 43) (tgt := 47) (dX6_call 26 rfl rfl) (by decide) rfl (fun c6 => ?_) (fun c6 => ?_)
      · replace hf := hf.2 c6
        refine x_iconst (pc' := 48) (v := 0) (dX6_call 29 rfl rfl) (by decide) rfl ?_
        exact X.sub [1, 2, 3, 0] rfl (by simp) hf
      · replace hf := hf.1 (Classical.not_not.mp c6)
        replace c6 := Classical.not_not.mp c6
        refine x_iconst (pc' := 44) (v := 1) (dX6_call 27 rfl rfl) (by decide) rfl ?_
        refine x_goto (tgt := 48) (dX6_call 28 rfl rfl) (by decide) ?_
        exact X.sub [1, 2, 3, 0] rfl (by simp) hf
  · replace hf := hf.1 (Classical.not_not.mp c4)
    replace c4 := Classical.not_not.mp c4
    refine x_aload_n (pc' := 12) 1 (dX6_call 7 rfl rfl) rfl rfl rfl ?_
    refine x_aload_n (pc' := 13) 1 (dX6_call 8 rfl rfl) rfl rfl rfl ?_
    refine x_iconst (pc' := 14) (v := 4) (dX6_call 9 rfl rfl) (by decide) rfl ?_
    refine x_aload_n (pc' := 15) 1 (dX6_call 10 rfl rfl) rfl rfl rfl ?_
    refine x_getR (pc' := 18) (dX6_call 11 rfl rfl) g55 q603 (Or.inl rfl) rfl (hf_of 4 s3.1 rfl (by decide) m4_55) (s3.2 0 _ rfl rfl).1 ?_
    refine x_iload_n (pc' := 19) 2 (dX6_call 12 rfl rfl) rfl rfl rfl ?_
    refine x_iconst (pc' := 20) (v := 1) (dX6_call 13 rfl rfl) (by decide) rfl ?_
    refine x_iadd (pc' := 21) (dX6_call 14 rfl rfl) rfl ?_
    obtain ⟨i7, hf⟩ := hf
    refine x_iald (pc' := 22) (dX6_call 15 rfl rfl) rfl (s3.2 0 _ rfl rfl).2.1 (by rw [(s3.2 0 _ rfl rfl).2.2.2 (by decide)]; exact i7) ?_
    refine x_iload_n (pc' := 23) 3 (dX6_call 16 rfl rfl) rfl rfl rfl ?_
    refine x_inv (pc' := 26) (ν := mX6_made_2) (av := [_, _, _, _]) (st := [_]) rfl rfl (dX6_call 17 rfl rfl) (Nat.le_of_ble_eq_true rfl) wX6_made_2 q220 (inv_V (k := 4) (dX6_call 17 rfl rfl) q3001 q3002 q3003 wX6_made_2 (by decide) lX6_made_2 (by decide) s3.1) (exN (by decide)) rfl ?_
    refine C.mono hf (fun _ _ => KI.g (fun x10 h8 hf le9 => ?_))
    replace s3 := s3.le sc3 (le9)
    refine x_inv (pc' := 29) (ν := mX6_give) (av := [_, _]) (st := []) rfl rfl (dX6_call 18 rfl rfl) (Nat.le_of_ble_eq_true rfl) wX6_give q220 (inv_V (k := 4) (dX6_call 18 rfl rfl) q3074 q2913 q2914 wX6_give (by decide) lX6_give (by decide) s3.1) (exN (by decide)) rfl ?_
    refine C.mono hf (fun _ _ => KV.g (fun h11 hf le12 => ?_))
    replace s3 := s3.le sc3 (le12)
    exact x_vret (dX6_call 19 rfl rfl) rfl hf
theorem bX6_call_48 (G : Gh) (d : Nat) (h : AH) (Q : Outcome → AH → Prop) (l1 : Int32) (l2 : Int32) (l3 : Int32) (t0 : Int32) (s3 : So 3 (gW G) h) (hf : C G mX6_must d [.ref (gW G 3), .int (t0)] h (KV Q (fun h1 => C G mX6_pay d [.ref (gW G 3), .int (1)] h1 (KI Q (fun x5 h3 => (x5 = 0 → (Q (.returned none) h3)) ∧ (¬ x5 = 0 → ((l3 = 8 → (vp_in (l1 + 1) 960100 ∧ (C G mX6_built d [.ref (gW G 3), .int (aI h3 (gW G 1055) (l1 + 1).toNatClampNeg), .int (l2)] h3 (KI Q (fun x44 h42 => C G mX6_give d [.ref (gW G 3), .int (x44)] h42 (KV Q (fun h45 => Q (.returned none) h45))))))) ∧ (¬ l3 = 8 → (vp_in (l1 + 1) 960100 ∧ (C G mX7_get d [.ref (gW G 1058), .int (aI h3 (gW G 1055) (l1 + 1).toNatClampNeg)] h3 (KR Q (fun b11 h9 => hK h9 b11 = 6 ∧ (C G mX7_clause d [.ref (b11), .int (0)] h9 (KR Q (fun b15 h13 => hK h13 b15 = 29 ∧ (∃ b17, fR h13 b15 317 = some b17 ∧ (hK h13 b17 = 1008 ∧ (∀ x20 : Int32, x20 = Int32.ofNat (hL h13 b17) → (vp_in (l1 + 4) 960100 ∧ (∀ x22 : Int32, x22 = (aI h13 (gW G 1055) (l1 + 4).toNatClampNeg) + 1 → ((x20 ≤ x22 → (vp_in (x20 - 1) 30 ∧ ∀ h25, h25 = sI h13 (gW G 1066) (x20 - 1).toNatClampNeg l2 → (vp_in (l1 + 3) 960100 ∧ (∀ x28 : Int32, x28 = aI h25 (gW G 1055) (l1 + 3).toNatClampNeg → (∀ x29 : Int32, x29 = x20 - 2 → (X G mX6_call (d + 1) none [] 207 [(0, .ref (gW G 3)), (1, .int (l1)), (4, .ref (b11)), (5, .int (x20)), (7, .int (x28)), (8, .int (x29))] [] h25 Q)))))) ∧ (¬ (x20 ≤ x22) → (vp_in (l1 + 3) 960100 ∧ (C G mX6_made_2 d [.ref (gW G 3), .int (10), .int (l2), .int (aI h13 (gW G 1055) (l1 + 3).toNatClampNeg)] h13 (KI Q (fun x33 h31 => vp_in (l1 + 1) 960100 ∧ (vp_in (l1 + 2) 960100 ∧ (C G mX6_closure d [.ref (gW G 3), .int (aI h31 (gW G 1055) (l1 + 1).toNatClampNeg), .int (aI h31 (gW G 1055) (l1 + 2).toNatClampNeg), .int (x33), .int (x22)] h31 (KI Q (fun x38 h36 => C G mX6_give d [.ref (gW G 3), .int (x38)] h36 (KV Q (fun h39 => Q (.returned none) h39)))))))))))))))))))))))))))))))) : X G mX6_call (d + 1) none [] 48 [(0, .ref (gW G 3)), (1, .int (l1)), (2, .int (l2)), (3, .int (l3))] [.int (t0), .ref (gW G 3)] h Q := by
  refine x_inv (pc' := 51) (ν := mX6_must) (av := [_, _]) (st := []) rfl rfl (dX6_call 30 rfl rfl) (Nat.le_of_ble_eq_true rfl) wX6_must q220 (inv_V (k := 4) (dX6_call 30 rfl rfl) q3075 q3077 qs56 wX6_must (by decide) lX6_must (by decide) s3.1) (exN (by decide)) rfl ?_
  refine C.mono hf (fun _ _ => KV.g (fun h1 hf le2 => ?_))
  replace s3 := s3.le sc3 (le2)
  refine x_aload_n (pc' := 52) 0 (dX6_call 31 rfl rfl) rfl rfl rfl ?_
  refine x_iconst (pc' := 53) (v := 1) (dX6_call 32 rfl rfl) (by decide) rfl ?_
  refine x_inv (pc' := 56) (ν := mX6_pay) (av := [_, _]) (st := []) rfl rfl (dX6_call 33 rfl rfl) (Nat.le_of_ble_eq_true rfl) wX6_pay q220 (inv_V (k := 4) (dX6_call 33 rfl rfl) q3000 q2891 q2892 wX6_pay (by decide) lX6_pay (by decide) s3.1) (exN (by decide)) rfl ?_
  refine C.mono hf (fun _ _ => KI.g (fun x5 h3 hf le4 => ?_))
  replace s3 := s3.le sc3 (le4)
  refine x_if_ne (pc' := 59) (tgt := 60) (dX6_call 34 rfl rfl) (by decide) rfl (fun c6 => ?_) (fun c6 => ?_)
  · replace hf := hf.2 c6
    refine x_iload_n (pc' := 61) 3 (dX6_call 36 rfl rfl) rfl rfl rfl ?_
    refine x_bipush (pc' := 63) (v := 8) (dX6_call 37 rfl rfl) (by decide) rfl ?_
    refine x_icmp_ne (pc' := 66) (tgt := 84) (dX6_call 38 rfl rfl) (by decide) rfl (fun c7 => ?_) (fun c7 => ?_)
    · replace hf := hf.2 c7
      refine x_aload_n (pc' := 85) 0 (dX6_call 51 rfl rfl) rfl rfl rfl ?_
      refine x_getR (pc' := 88) (dX6_call 52 rfl rfl) g58 q606 (Or.inl rfl) rfl (hf_of 4 s3.1 rfl (by decide) m4_58) (s3.2 2 _ rfl rfl).1 ?_
      refine x_aload_n (pc' := 89) 0 (dX6_call 53 rfl rfl) rfl rfl rfl ?_
      refine x_getR (pc' := 92) (dX6_call 54 rfl rfl) g55 q603 (Or.inl rfl) rfl (hf_of 4 s3.1 rfl (by decide) m4_55) (s3.2 0 _ rfl rfl).1 ?_
      refine x_iload_n (pc' := 93) 1 (dX6_call 55 rfl rfl) rfl rfl rfl ?_
      refine x_iconst (pc' := 94) (v := 1) (dX6_call 56 rfl rfl) (by decide) rfl ?_
      refine x_iadd (pc' := 95) (dX6_call 57 rfl rfl) rfl ?_
      obtain ⟨i8, hf⟩ := hf
      refine x_iald (pc' := 96) (dX6_call 58 rfl rfl) rfl (s3.2 0 _ rfl rfl).2.1 (by rw [(s3.2 0 _ rfl rfl).2.2.2 (by decide)]; exact i8) ?_
      refine x_inv (pc' := 99) (ν := mX7_get) (av := [_, _]) (st := []) rfl rfl (dX6_call 59 rfl rfl) (Nat.le_of_ble_eq_true rfl) wX7_get q221 (inv_V (k := 5) (dX6_call 59 rfl rfl) q3050 q1414 q1415 wX7_get (by decide) lX7_get (by decide) (s3.2 2 _ rfl rfl).2.1) (exN (by decide)) rfl ?_
      refine C.mono hf (fun _ _ => KR.g (fun b11 h9 hf le10 => ?_))
      replace s3 := s3.le sc3 (le10)
      obtain ⟨k12, hf⟩ := hf
      refine x_castS (pc' := 102) (k := 5) (dX6_call 60 rfl rfl) q557 (by decide) k12 rfl ?_
      refine x_astore (pc' := 104) (dX6_call 61 rfl rfl) (by decide) rfl rfl ?_
      refine x_aload (pc' := 106) 0 (dX6_call 62 rfl rfl) rfl rfl ?_
      refine x_iconst (pc' := 107) (v := 0) (dX6_call 63 rfl rfl) (by decide) rfl ?_
      refine x_inv (pc' := 110) (ν := mX7_clause) (av := [_, _]) (st := []) rfl rfl (dX6_call 64 rfl rfl) (Nat.le_of_ble_eq_true rfl) wX7_clause q221 (inv_V (k := 5) (dX6_call 64 rfl rfl) q3097 q2197 q2198 wX7_clause (by decide) lX7_clause (by decide) k12) (exN (by decide)) rfl ?_
      refine C.mono hf (fun _ _ => KR.g (fun b15 h13 hf le14 => ?_))
      have k12 := leK le14 k12 (by decide)
      replace s3 := s3.le sc3 (le14)
      obtain ⟨k16, hf⟩ := hf
      obtain ⟨b17, e18, hf⟩ := hf
      refine x_getR (pc' := 113) (dX6_call 65 rfl rfl) g317 q1499 (Or.inl rfl) rfl (hf_of 28 k16 rfl (by decide) m28_317) e18 ?_
      obtain ⟨k19, hf⟩ := hf
      refine x_alen (pc' := 114) (t := 8) (ty := .object "LetMill$Pat") (dX6_call 66 rfl rfl) rfl rfl k19 ?_
      replace hf := hf _ rfl
      refine x_istore (pc' := 116) (dX6_call 67 rfl rfl) (by decide) rfl rfl ?_
      refine x_aload_n (pc' := 117) 2 (dX6_call 68 rfl rfl) rfl rfl rfl ?_
      refine x_getR (pc' := 120) (dX6_call 69 rfl rfl) g55 q603 (Or.inl rfl) rfl (hf_of 4 s3.1 rfl (by decide) m4_55) (s3.2 0 _ rfl rfl).1 ?_
      refine x_iload_n (pc' := 121) 3 (dX6_call 70 rfl rfl) rfl rfl rfl ?_
      refine x_iconst (pc' := 122) (v := 4) (dX6_call 71 rfl rfl) (by decide) rfl ?_
      refine x_iadd (pc' := 123) (dX6_call 72 rfl rfl) rfl ?_
      obtain ⟨i21, hf⟩ := hf
      refine x_iald (pc' := 124) (dX6_call 73 rfl rfl) rfl (s3.2 0 _ rfl rfl).2.1 (by rw [(s3.2 0 _ rfl rfl).2.2.2 (by decide)]; exact i21) ?_
      refine x_iconst (pc' := 125) (v := 1) (dX6_call 74 rfl rfl) (by decide) rfl ?_
      refine x_iadd (pc' := 126) (dX6_call 75 rfl rfl) rfl ?_
      replace hf := hf _ rfl
      refine x_istore (pc' := 128) (dX6_call 76 rfl rfl) (by decide) rfl rfl ?_
      refine x_iload (pc' := 130) 0 (dX6_call 77 rfl rfl) rfl rfl ?_
      refine x_iload (pc' := 132) 1 (dX6_call 78 rfl rfl) rfl rfl ?_
      refine x_icmp_ge (pc' := 135) (tgt := 181) (dX6_call 79 rfl rfl) (by decide) rfl (fun c23 => ?_) (fun c23 => ?_)
      · replace hf := hf.1 c23
        refine x_aload_n (pc' := 182) 3 (dX6_call 110 rfl rfl) rfl rfl rfl ?_
        refine x_getR (pc' := 185) (dX6_call 111 rfl rfl) g66 q615 (Or.inl rfl) rfl (hf_of 4 s3.1 rfl (by decide) m4_66) (s3.2 8 _ rfl rfl).1 ?_
        refine x_iload (pc' := 187) 1 (dX6_call 112 rfl rfl) rfl rfl ?_
        refine x_iconst (pc' := 188) (v := 1) (dX6_call 113 rfl rfl) (by decide) rfl ?_
        refine x_isub (pc' := 189) (dX6_call 114 rfl rfl) rfl ?_
        refine x_iload_n (pc' := 190) 5 (dX6_call 115 rfl rfl) rfl rfl rfl ?_
        obtain ⟨i24, hf⟩ := hf
        refine x_iast (pc' := 191) (dX6_call 116 rfl rfl) rfl (s3.2 8 _ rfl rfl).2.1 (Or.inl ⟨66, by decide, rfl, by decide⟩) (by rw [(s3.2 8 _ rfl rfl).2.2.2 (by decide)]; exact i24) (fun h25 e26 => ?_)
        replace hf := hf h25 e26
        replace k12 : hK h25 b11 = 6 := by rw [e26]; exact k12
        replace k16 : hK h25 b15 = 29 := by rw [e26]; exact k16
        replace k19 : hK h25 b17 = 1008 := by rw [e26]; exact k19
        replace s3 : So 3 (gW G) h25 := by rw [e26]; exact s3.le sc3 (sI_le )
        refine x_aload_n (pc' := 192) 3 (dX6_call 117 rfl rfl) rfl rfl rfl ?_
        refine x_getR (pc' := 195) (dX6_call 118 rfl rfl) g55 q603 (Or.inl rfl) rfl (hf_of 4 s3.1 rfl (by decide) m4_55) (s3.2 0 _ rfl rfl).1 ?_
        refine x_iload_n (pc' := 196) 4 (dX6_call 119 rfl rfl) rfl rfl rfl ?_
        refine x_iconst (pc' := 197) (v := 3) (dX6_call 120 rfl rfl) (by decide) rfl ?_
        refine x_iadd (pc' := 198) (dX6_call 121 rfl rfl) rfl ?_
        obtain ⟨i27, hf⟩ := hf
        refine x_iald (pc' := 199) (dX6_call 122 rfl rfl) rfl (s3.2 0 _ rfl rfl).2.1 (by rw [(s3.2 0 _ rfl rfl).2.2.2 (by decide)]; exact i27) ?_
        replace hf := hf _ rfl
        refine x_istore (pc' := 201) (dX6_call 123 rfl rfl) (by decide) rfl rfl ?_
        refine x_iload (pc' := 203) 2 (dX6_call 124 rfl rfl) rfl rfl ?_
        refine x_iconst (pc' := 204) (v := 2) (dX6_call 125 rfl rfl) (by decide) rfl ?_
        refine x_isub (pc' := 205) (dX6_call 126 rfl rfl) rfl ?_
        replace hf := hf _ rfl
        refine x_istore (pc' := 207) (dX6_call 127 rfl rfl) (by decide) rfl rfl ?_
        exact X.sub [5, 6, 4, 3, 1, 0] rfl (by simp) hf
      · replace hf := hf.2 c23
        refine x_aload_n (pc' := 136) 3 (dX6_call 80 rfl rfl) rfl rfl rfl ?_
        refine x_bipush (pc' := 138) (v := 10) (dX6_call 81 rfl rfl) (by decide) rfl ?_
        refine x_iload_n (pc' := 139) 5 (dX6_call 82 rfl rfl) rfl rfl rfl ?_
        refine x_aload_n (pc' := 140) 3 (dX6_call 83 rfl rfl) rfl rfl rfl ?_
        refine x_getR (pc' := 143) (dX6_call 84 rfl rfl) g55 q603 (Or.inl rfl) rfl (hf_of 4 s3.1 rfl (by decide) m4_55) (s3.2 0 _ rfl rfl).1 ?_
        refine x_iload_n (pc' := 144) 4 (dX6_call 85 rfl rfl) rfl rfl rfl ?_
        refine x_iconst (pc' := 145) (v := 3) (dX6_call 86 rfl rfl) (by decide) rfl ?_
        refine x_iadd (pc' := 146) (dX6_call 87 rfl rfl) rfl ?_
        obtain ⟨i30, hf⟩ := hf
        refine x_iald (pc' := 147) (dX6_call 88 rfl rfl) rfl (s3.2 0 _ rfl rfl).2.1 (by rw [(s3.2 0 _ rfl rfl).2.2.2 (by decide)]; exact i30) ?_
        refine x_inv (pc' := 150) (ν := mX6_made_2) (av := [_, _, _, _]) (st := []) rfl rfl (dX6_call 89 rfl rfl) (Nat.le_of_ble_eq_true rfl) wX6_made_2 q220 (inv_V (k := 4) (dX6_call 89 rfl rfl) q3001 q3002 q3003 wX6_made_2 (by decide) lX6_made_2 (by decide) s3.1) (exN (by decide)) rfl ?_
        refine C.mono hf (fun _ _ => KI.g (fun x33 h31 hf le32 => ?_))
        have k12 := leK le32 k12 (by decide)
        have k16 := leK le32 k16 (by decide)
        have k19 := leK le32 k19 (by decide)
        replace s3 := s3.le sc3 (le32)
        refine x_istore (pc' := 152) (dX6_call 90 rfl rfl) (by decide) rfl rfl ?_
        refine x_aload_n (pc' := 153) 4 (dX6_call 91 rfl rfl) rfl rfl rfl ?_
        refine x_aload_n (pc' := 154) 4 (dX6_call 92 rfl rfl) rfl rfl rfl ?_
        refine x_aload_n (pc' := 155) 4 (dX6_call 93 rfl rfl) rfl rfl rfl ?_
        refine x_getR (pc' := 158) (dX6_call 94 rfl rfl) g55 q603 (Or.inl rfl) rfl (hf_of 4 s3.1 rfl (by decide) m4_55) (s3.2 0 _ rfl rfl).1 ?_
        refine x_iload_n (pc' := 159) 5 (dX6_call 95 rfl rfl) rfl rfl rfl ?_
        refine x_iconst (pc' := 160) (v := 1) (dX6_call 96 rfl rfl) (by decide) rfl ?_
        refine x_iadd (pc' := 161) (dX6_call 97 rfl rfl) rfl ?_
        obtain ⟨i34, hf⟩ := hf
        refine x_iald (pc' := 162) (dX6_call 98 rfl rfl) rfl (s3.2 0 _ rfl rfl).2.1 (by rw [(s3.2 0 _ rfl rfl).2.2.2 (by decide)]; exact i34) ?_
        refine x_aload_n (pc' := 163) 4 (dX6_call 99 rfl rfl) rfl rfl rfl ?_
        refine x_getR (pc' := 166) (dX6_call 100 rfl rfl) g55 q603 (Or.inl rfl) rfl (hf_of 4 s3.1 rfl (by decide) m4_55) (s3.2 0 _ rfl rfl).1 ?_
        refine x_iload_n (pc' := 167) 5 (dX6_call 101 rfl rfl) rfl rfl rfl ?_
        refine x_iconst (pc' := 168) (v := 2) (dX6_call 102 rfl rfl) (by decide) rfl ?_
        refine x_iadd (pc' := 169) (dX6_call 103 rfl rfl) rfl ?_
        obtain ⟨i35, hf⟩ := hf
        refine x_iald (pc' := 170) (dX6_call 104 rfl rfl) rfl (s3.2 0 _ rfl rfl).2.1 (by rw [(s3.2 0 _ rfl rfl).2.2.2 (by decide)]; exact i35) ?_
        refine x_iload (pc' := 172) 0 (dX6_call 105 rfl rfl) rfl rfl ?_
        refine x_iload (pc' := 174) 1 (dX6_call 106 rfl rfl) rfl rfl ?_
        refine x_inv (pc' := 177) (ν := mX6_closure) (av := [_, _, _, _, _]) (st := [_]) rfl rfl (dX6_call 107 rfl rfl) (Nat.le_of_ble_eq_true rfl) wX6_closure q220 (inv_V (k := 4) (dX6_call 107 rfl rfl) q3098 q2950 q2951 wX6_closure (by decide) lX6_closure (by decide) s3.1) (exN (by decide)) rfl ?_
        refine C.mono hf (fun _ _ => KI.g (fun x38 h36 hf le37 => ?_))
        have k12 := leK le37 k12 (by decide)
        have k16 := leK le37 k16 (by decide)
        have k19 := leK le37 k19 (by decide)
        replace s3 := s3.le sc3 (le37)
        refine x_inv (pc' := 180) (ν := mX6_give) (av := [_, _]) (st := []) rfl rfl (dX6_call 108 rfl rfl) (Nat.le_of_ble_eq_true rfl) wX6_give q220 (inv_V (k := 4) (dX6_call 108 rfl rfl) q3074 q2913 q2914 wX6_give (by decide) lX6_give (by decide) s3.1) (exN (by decide)) rfl ?_
        refine C.mono hf (fun _ _ => KV.g (fun h39 hf le40 => ?_))
        have k12 := leK le40 k12 (by decide)
        have k16 := leK le40 k16 (by decide)
        have k19 := leK le40 k19 (by decide)
        replace s3 := s3.le sc3 (le40)
        exact x_vret (dX6_call 109 rfl rfl) rfl hf
    · replace hf := hf.1 (Classical.not_not.mp c7)
      replace c7 := Classical.not_not.mp c7
      refine x_aload_n (pc' := 67) 0 (dX6_call 39 rfl rfl) rfl rfl rfl ?_
      refine x_aload_n (pc' := 68) 0 (dX6_call 40 rfl rfl) rfl rfl rfl ?_
      refine x_aload_n (pc' := 69) 0 (dX6_call 41 rfl rfl) rfl rfl rfl ?_
      refine x_getR (pc' := 72) (dX6_call 42 rfl rfl) g55 q603 (Or.inl rfl) rfl (hf_of 4 s3.1 rfl (by decide) m4_55) (s3.2 0 _ rfl rfl).1 ?_
      refine x_iload_n (pc' := 73) 1 (dX6_call 43 rfl rfl) rfl rfl rfl ?_
      refine x_iconst (pc' := 74) (v := 1) (dX6_call 44 rfl rfl) (by decide) rfl ?_
      refine x_iadd (pc' := 75) (dX6_call 45 rfl rfl) rfl ?_
      obtain ⟨i41, hf⟩ := hf
      refine x_iald (pc' := 76) (dX6_call 46 rfl rfl) rfl (s3.2 0 _ rfl rfl).2.1 (by rw [(s3.2 0 _ rfl rfl).2.2.2 (by decide)]; exact i41) ?_
      refine x_iload_n (pc' := 77) 2 (dX6_call 47 rfl rfl) rfl rfl rfl ?_
      refine x_inv (pc' := 80) (ν := mX6_built) (av := [_, _, _]) (st := [_]) rfl rfl (dX6_call 48 rfl rfl) (Nat.le_of_ble_eq_true rfl) wX6_built q220 (inv_V (k := 4) (dX6_call 48 rfl rfl) q3079 q3081 qs57 wX6_built (by decide) lX6_built (by decide) s3.1) (exN (by decide)) rfl ?_
      refine C.mono hf (fun _ _ => KI.g (fun x44 h42 hf le43 => ?_))
      replace s3 := s3.le sc3 (le43)
      refine x_inv (pc' := 83) (ν := mX6_give) (av := [_, _]) (st := []) rfl rfl (dX6_call 49 rfl rfl) (Nat.le_of_ble_eq_true rfl) wX6_give q220 (inv_V (k := 4) (dX6_call 49 rfl rfl) q3074 q2913 q2914 wX6_give (by decide) lX6_give (by decide) s3.1) (exN (by decide)) rfl ?_
      refine C.mono hf (fun _ _ => KV.g (fun h45 hf le46 => ?_))
      replace s3 := s3.le sc3 (le46)
      exact x_vret (dX6_call 50 rfl rfl) rfl hf
  · replace hf := hf.1 (Classical.not_not.mp c6)
    replace c6 := Classical.not_not.mp c6
    exact x_vret (dX6_call 35 rfl rfl) rfl hf
theorem bX6_call_207 (G : Gh) (d : Nat) (h : AH) (Q : Outcome → AH → Prop) (l1 : Int32) (l4 : Nat) (l5 : Int32) (l7 : Int32) (l8 : Int32) (s3 : So 3 (gW G) h) (hf : (l8 < 0 → (vp_in (l1 + 2) 960100 ∧ (C G mX6_chosen d [.ref (gW G 3), .ref (l4), .int (l5), .int (aI h (gW G 1055) (l1 + 2).toNatClampNeg)] h (KV Q (fun h3 => Q (.returned none) h3))))) ∧ (¬ (l8 < 0) → (vp_in (l7 + 1) 960100 ∧ (vp_in l8 30 ∧ ∀ h7, h7 = sI h (gW G 1066) l8.toNatClampNeg (aI h (gW G 1055) (l7 + 1).toNatClampNeg) → (vp_in (l7 + 2) 960100 ∧ (∀ x10 : Int32, x10 = aI h7 (gW G 1055) (l7 + 2).toNatClampNeg → (∀ x11 : Int32, x11 = l8 + (-1) → (X G mX6_call (d + 1) none [] 207 [(0, .ref (gW G 3)), (1, .int (l1)), (4, .ref (l4)), (5, .int (l5)), (7, .int (x10)), (8, .int (x11))] [] h7 Q)))))))) : X G mX6_call (d + 1) none [] 207 [(0, .ref (gW G 3)), (1, .int (l1)), (4, .ref (l4)), (5, .int (l5)), (7, .int (l7)), (8, .int (l8))] [] h Q := by
  refine x_iload (pc' := 209) 5 (dX6_call 128 rfl rfl) rfl rfl ?_
  refine x_if_lt (pc' := 212) (tgt := 245) (dX6_call 129 rfl rfl) (by decide) rfl (fun c1 => ?_) (fun c1 => ?_)
  · replace hf := hf.1 c1
    refine x_aload_n (pc' := 246) 0 (dX6_call 149 rfl rfl) rfl rfl rfl ?_
    refine x_aload (pc' := 248) 2 (dX6_call 150 rfl rfl) rfl rfl ?_
    refine x_iload (pc' := 250) 3 (dX6_call 151 rfl rfl) rfl rfl ?_
    refine x_aload_n (pc' := 251) 0 (dX6_call 152 rfl rfl) rfl rfl rfl ?_
    refine x_getR (pc' := 254) (dX6_call 153 rfl rfl) g55 q603 (Or.inl rfl) rfl (hf_of 4 s3.1 rfl (by decide) m4_55) (s3.2 0 _ rfl rfl).1 ?_
    refine x_iload_n (pc' := 255) 1 (dX6_call 154 rfl rfl) rfl rfl rfl ?_
    refine x_iconst (pc' := 256) (v := 2) (dX6_call 155 rfl rfl) (by decide) rfl ?_
    refine x_iadd (pc' := 257) (dX6_call 156 rfl rfl) rfl ?_
    obtain ⟨i2, hf⟩ := hf
    refine x_iald (pc' := 258) (dX6_call 157 rfl rfl) rfl (s3.2 0 _ rfl rfl).2.1 (by rw [(s3.2 0 _ rfl rfl).2.2.2 (by decide)]; exact i2) ?_
    refine x_inv (pc' := 261) (ν := mX6_chosen) (av := [_, _, _, _]) (st := []) rfl rfl (dX6_call 158 rfl rfl) (Nat.le_of_ble_eq_true rfl) wX6_chosen q220 (inv_V (k := 4) (dX6_call 158 rfl rfl) q3099 q3101 qs58 wX6_chosen (by decide) lX6_chosen (by decide) s3.1) (exN (by decide)) rfl ?_
    refine C.mono hf (fun _ _ => KV.g (fun h3 hf le4 => ?_))
    replace s3 := s3.le sc3 (le4)
    exact x_vret (dX6_call 159 rfl rfl) rfl hf
  · replace hf := hf.2 c1
    refine x_aload_n (pc' := 213) 0 (dX6_call 130 rfl rfl) rfl rfl rfl ?_
    refine x_getR (pc' := 216) (dX6_call 131 rfl rfl) g66 q615 (Or.inl rfl) rfl (hf_of 4 s3.1 rfl (by decide) m4_66) (s3.2 8 _ rfl rfl).1 ?_
    refine x_iload (pc' := 218) 5 (dX6_call 132 rfl rfl) rfl rfl ?_
    refine x_aload_n (pc' := 219) 0 (dX6_call 133 rfl rfl) rfl rfl rfl ?_
    refine x_getR (pc' := 222) (dX6_call 134 rfl rfl) g55 q603 (Or.inl rfl) rfl (hf_of 4 s3.1 rfl (by decide) m4_55) (s3.2 0 _ rfl rfl).1 ?_
    refine x_iload (pc' := 224) 4 (dX6_call 135 rfl rfl) rfl rfl ?_
    refine x_iconst (pc' := 225) (v := 1) (dX6_call 136 rfl rfl) (by decide) rfl ?_
    refine x_iadd (pc' := 226) (dX6_call 137 rfl rfl) rfl ?_
    obtain ⟨i5, hf⟩ := hf
    refine x_iald (pc' := 227) (dX6_call 138 rfl rfl) rfl (s3.2 0 _ rfl rfl).2.1 (by rw [(s3.2 0 _ rfl rfl).2.2.2 (by decide)]; exact i5) ?_
    obtain ⟨i6, hf⟩ := hf
    refine x_iast (pc' := 228) (dX6_call 139 rfl rfl) rfl (s3.2 8 _ rfl rfl).2.1 (Or.inl ⟨66, by decide, rfl, by decide⟩) (by rw [(s3.2 8 _ rfl rfl).2.2.2 (by decide)]; exact i6) (fun h7 e8 => ?_)
    replace hf := hf h7 e8
    replace s3 : So 3 (gW G) h7 := by rw [e8]; exact s3.le sc3 (sI_le )
    refine x_aload_n (pc' := 229) 0 (dX6_call 140 rfl rfl) rfl rfl rfl ?_
    refine x_getR (pc' := 232) (dX6_call 141 rfl rfl) g55 q603 (Or.inl rfl) rfl (hf_of 4 s3.1 rfl (by decide) m4_55) (s3.2 0 _ rfl rfl).1 ?_
    refine x_iload (pc' := 234) 4 (dX6_call 142 rfl rfl) rfl rfl ?_
    refine x_iconst (pc' := 235) (v := 2) (dX6_call 143 rfl rfl) (by decide) rfl ?_
    refine x_iadd (pc' := 236) (dX6_call 144 rfl rfl) rfl ?_
    obtain ⟨i9, hf⟩ := hf
    refine x_iald (pc' := 237) (dX6_call 145 rfl rfl) rfl (s3.2 0 _ rfl rfl).2.1 (by rw [(s3.2 0 _ rfl rfl).2.2.2 (by decide)]; exact i9) ?_
    replace hf := hf _ rfl
    refine x_istore (pc' := 239) (dX6_call 146 rfl rfl) (by decide) rfl rfl ?_
    replace hf := hf _ rfl
    refine x_iinc (pc' := 242) 5 (dX6_call 147 rfl rfl) rfl (by rfl) (by decide) rfl rfl ?_
    refine x_goto (tgt := 207) (dX6_call 148 rfl rfl) (by decide) ?_
    exact X.sub [2, 3, 4, 5, 1, 0] rfl (by simp) hf
theorem bX6_tag (G : Gh) (d : Nat) (h : AH) (Q : Outcome → AH → Prop) (p1 : Int32) (s3 : So 3 (gW G) h) (hf : (5 ≤ p1 → (vp_in p1 960100 ∧ (Q (.returned (some (.int (aI h (gW G 1055) p1.toNatClampNeg)))) h))) ∧ (¬ (5 ≤ p1) → (Q (.returned (some (.int 0))) h))) : C G mX6_tag d [.ref (gW G 3), .int (p1)] h Q := by
  refine C.of_X (by decide +kernel) (Nat.le_of_ble_eq_true rfl) wX6_tag ?_
  show X G mX6_tag d none [] 0 [(0, .ref (gW G 3)), (1, .int (p1))] [] h Q
  refine x_iload_n (pc' := 1) 1 (dX6_tag 0 rfl rfl) rfl rfl rfl ?_
  refine x_iconst (pc' := 2) (v := 5) (dX6_tag 1 rfl rfl) (by decide) rfl ?_
  refine x_icmp_ge (pc' := 5) (tgt := 9) (dX6_tag 2 rfl rfl) (by decide) rfl (fun c1 => ?_) (fun c1 => ?_)
  · replace hf := hf.1 c1
    refine x_aload_n (pc' := 10) 0 (dX6_tag 5 rfl rfl) rfl rfl rfl ?_
    refine x_getR (pc' := 13) (dX6_tag 6 rfl rfl) g55 q603 (Or.inl rfl) rfl (hf_of 4 s3.1 rfl (by decide) m4_55) (s3.2 0 _ rfl rfl).1 ?_
    refine x_iload_n (pc' := 14) 1 (dX6_tag 7 rfl rfl) rfl rfl rfl ?_
    obtain ⟨i2, hf⟩ := hf
    refine x_iald (pc' := 15) (dX6_tag 8 rfl rfl) rfl (s3.2 0 _ rfl rfl).2.1 (by rw [(s3.2 0 _ rfl rfl).2.2.2 (by decide)]; exact i2) ?_
    exact x_iret (dX6_tag 9 rfl rfl) rfl hf
  · replace hf := hf.2 c1
    refine x_iconst (pc' := 6) (v := 0) (dX6_tag 3 rfl rfl) (by decide) rfl ?_
    refine x_goto (tgt := 15) (dX6_tag 4 rfl rfl) (by decide) ?_
    exact x_iret (dX6_tag 9 rfl rfl) rfl hf
theorem bX6_must (G : Gh) (d : Nat) (h : AH) (Q : Outcome → AH → Prop) (p1 : Int32) (s3 : So 3 (gW G) h) (hf : (p1 = 0 → (∀ h2, h2 = pI h (gW G 3) 76 ((fI h (gW G 3) 76) + 1) → (Q (.returned none) h2))) ∧ (¬ p1 = 0 → (Q (.returned none) h))) : C G mX6_must d [.ref (gW G 3), .int (p1)] h Q := by
  refine C.of_X (by decide +kernel) (Nat.le_of_ble_eq_true rfl) wX6_must ?_
  show X G mX6_must d none [] 0 [(0, .ref (gW G 3)), (1, .int (p1))] [] h Q
  refine x_iload_n (pc' := 1) 1 (dX6_must 0 rfl rfl) rfl rfl rfl ?_
  refine x_if_ne (pc' := 4) (tgt := 14) (dX6_must 1 rfl rfl) (by decide) rfl (fun c1 => ?_) (fun c1 => ?_)
  · replace hf := hf.2 c1
    exact x_vret (dX6_must 8 rfl rfl) rfl hf
  · replace hf := hf.1 (Classical.not_not.mp c1)
    replace c1 := Classical.not_not.mp c1
    refine x_aload_n (pc' := 5) 0 (dX6_must 2 rfl rfl) rfl rfl rfl ?_
    refine x_dup (pc' := 6) (dX6_must 3 rfl rfl) rfl rfl ?_
    refine x_getI (pc' := 9) (dX6_must 4 rfl rfl) g76 q627 (Or.inl rfl) rfl (hf_of 4 s3.1 rfl (by decide) m4_76) ?_
    refine x_iconst (pc' := 10) (v := 1) (dX6_must 5 rfl rfl) (by decide) rfl ?_
    refine x_iadd (pc' := 11) (dX6_must 6 rfl rfl) rfl ?_
    refine x_putI (pc' := 14) (dX6_must 7 rfl rfl) g76 q627 (Or.inl rfl) (Or.inl rfl) (Or.inl (by decide)) rfl (hf_of 4 s3.1 rfl (by decide) m4_76) (fun h2 e3 => ?_)
    replace hf := hf h2 e3
    replace s3 : So 3 (gW G) h2 := by rw [e3]; exact s3.le sc3 (pI_le (Or.inl rfl))
    exact x_vret (dX6_must 8 rfl rfl) rfl hf
theorem bX6_built (G : Gh) (d : Nat) (h : AH) (Q : Outcome → AH → Prop) (p1 : Int32) (p2 : Int32) (s3 : So 3 (gW G) h) (hf : (p1 = 0 → (C G mX6_isTrue d [.ref (gW G 3), .int (p2)] h (KI Q (fun x4 h2 => (x4 = 0 → (C G mX6_truth d [.ref (gW G 3), .int (1)] h2 (KI Q (fun x11 h9 => Q (.returned (some (.int x11))) h9)))) ∧ (¬ x4 = 0 → (C G mX6_truth d [.ref (gW G 3), .int (0)] h2 (KI Q (fun x8 h6 => Q (.returned (some (.int x8))) h6)))))))) ∧ (p1 = 1 → (C G mX6_made d [.ref (gW G 3), .int (7), .int (p2)] h (KI Q (fun x14 h12 => Q (.returned (some (.int x14))) h12)))) ∧ (p1 = 2 → (C G mX6_tag d [.ref (gW G 3), .int (p2)] h (KI Q (fun x17 h15 => (x17 = 7 → (C G mX6_must d [.ref (gW G 3), .int (1)] h15 (KV Q (fun h22 => vp_in (p2 + 1) 960100 ∧ (Q (.returned (some (.int (aI h22 (gW G 1055) (p2 + 1).toNatClampNeg)))) h22))))) ∧ (¬ x17 = 7 → (C G mX6_must d [.ref (gW G 3), .int (0)] h15 (KV Q (fun h19 => vp_in (p2 + 1) 960100 ∧ (Q (.returned (some (.int (aI h19 (gW G 1055) (p2 + 1).toNatClampNeg)))) h19))))))))) ∧ (p1 = 3 → (C G mX6_whole d [.ref (gW G 3), .int (p2)] h (KI Q (fun x27 h25 => C G mX6_made d [.ref (gW G 3), .int (1), .int (-x27)] h25 (KI Q (fun x30 h28 => Q (.returned (some (.int x30))) h28)))))) ∧ (p1 = 4 → (Q (.returned (some (.int 1))) h)) ∧ (p1 = 5 → (C G mX6_part d [.ref (gW G 3), .int (p2), .int (0)] h (KI Q (fun x33 h31 => Q (.returned (some (.int x33))) h31)))) ∧ (¬ p1 = 0 ∧ ¬ p1 = 1 ∧ ¬ p1 = 2 ∧ ¬ p1 = 3 ∧ ¬ p1 = 4 ∧ ¬ p1 = 5 → (C G mX6_part d [.ref (gW G 3), .int (p2), .int (1)] h (KI Q (fun x36 h34 => Q (.returned (some (.int x36))) h34))))) : C G mX6_built (d + 1) [.ref (gW G 3), .int (p1), .int (p2)] h Q := by
  refine C.of_X (by decide +kernel) (Nat.le_of_ble_eq_true rfl) wX6_built ?_
  show X G mX6_built (d + 1) none [] 0 [(0, .ref (gW G 3)), (1, .int (p1)), (2, .int (p2))] [] h Q
  refine x_iload_n (pc' := 1) 1 (dX6_built 0 rfl rfl) rfl rfl rfl ?_
  by_cases c10 : p1 = 0
  · replace hf := hf.1 c10
    refine x_ts (v := 0) (tgt := 40) (swX6_built_1) (by rw [c10]; decide) (by decide) (by decide) (by decide) ?_
    refine x_aload_n (pc' := 41) 0 (dX6_built 2 rfl rfl) rfl rfl rfl ?_
    refine x_aload_n (pc' := 42) 0 (dX6_built 3 rfl rfl) rfl rfl rfl ?_
    refine x_iload_n (pc' := 43) 2 (dX6_built 4 rfl rfl) rfl rfl rfl ?_
    refine x_inv (pc' := 46) (ν := mX6_isTrue) (av := [_, _]) (st := [_]) rfl rfl (dX6_built 5 rfl rfl) (Nat.le_of_ble_eq_true rfl) wX6_isTrue q220 (inv_V (k := 4) (dX6_built 5 rfl rfl) q3083 q3084 q3085 wX6_isTrue (by decide) lX6_isTrue (by decide) s3.1) (exN (by decide)) rfl ?_
    refine C.mono hf (fun _ _ => KI.g (fun x4 h2 hf le3 => ?_))
    replace s3 := s3.le sc3 (le3)
    refine x_if_ne (pc' := 49) (tgt := 53) (dX6_built 6 rfl rfl) (by decide) rfl (fun c5 => ?_) (fun c5 => ?_)
    · replace hf := hf.2 c5
      refine x_iconst (pc' := 54) (v := 0) (dX6_built 9 rfl rfl) (by decide) rfl ?_
      refine x_inv (pc' := 57) (ν := mX6_truth) (av := [_, _]) (st := []) rfl rfl (dX6_built 10 rfl rfl) (Nat.le_of_ble_eq_true rfl) wX6_truth q220 (inv_V (k := 4) (dX6_built 10 rfl rfl) q3087 q2937 q2938 wX6_truth (by decide) lX6_truth (by decide) s3.1) (exN (by decide)) rfl ?_
      refine C.mono hf (fun _ _ => KI.g (fun x8 h6 hf le7 => ?_))
      replace s3 := s3.le sc3 (le7)
      exact x_iret (dX6_built 11 rfl rfl) rfl hf
    · replace hf := hf.1 (Classical.not_not.mp c5)
      replace c5 := Classical.not_not.mp c5
      refine x_iconst (pc' := 50) (v := 1) (dX6_built 7 rfl rfl) (by decide) rfl ?_
      refine x_goto (tgt := 54) (dX6_built 8 rfl rfl) (by decide) ?_
      refine x_inv (pc' := 57) (ν := mX6_truth) (av := [_, _]) (st := []) rfl rfl (dX6_built 10 rfl rfl) (Nat.le_of_ble_eq_true rfl) wX6_truth q220 (inv_V (k := 4) (dX6_built 10 rfl rfl) q3087 q2937 q2938 wX6_truth (by decide) lX6_truth (by decide) s3.1) (exN (by decide)) rfl ?_
      refine C.mono hf (fun _ _ => KI.g (fun x11 h9 hf le10 => ?_))
      replace s3 := s3.le sc3 (le10)
      exact x_iret (dX6_built 11 rfl rfl) rfl hf
  by_cases c11 : p1 = 1
  · replace hf := hf.2.1 c11
    refine x_ts (v := 1) (tgt := 58) (swX6_built_1) (by rw [c11]; decide) (by decide) (by decide) (by decide) ?_
    refine x_aload_n (pc' := 59) 0 (dX6_built 12 rfl rfl) rfl rfl rfl ?_
    refine x_bipush (pc' := 61) (v := 7) (dX6_built 13 rfl rfl) (by decide) rfl ?_
    refine x_iload_n (pc' := 62) 2 (dX6_built 14 rfl rfl) rfl rfl rfl ?_
    refine x_inv (pc' := 65) (ν := mX6_made) (av := [_, _, _]) (st := []) rfl rfl (dX6_built 15 rfl rfl) (Nat.le_of_ble_eq_true rfl) wX6_made q220 (inv_V (k := 4) (dX6_built 15 rfl rfl) q3088 q2933 q2934 wX6_made (by decide) lX6_made (by decide) s3.1) (exN (by decide)) rfl ?_
    refine C.mono hf (fun _ _ => KI.g (fun x14 h12 hf le13 => ?_))
    replace s3 := s3.le sc3 (le13)
    exact x_iret (dX6_built 16 rfl rfl) rfl hf
  by_cases c12 : p1 = 2
  · replace hf := hf.2.2.1 c12
    refine x_ts (v := 2) (tgt := 66) (swX6_built_1) (by rw [c12]; decide) (by decide) (by decide) (by decide) ?_
    refine x_aload_n (pc' := 67) 0 (dX6_built 17 rfl rfl) rfl rfl rfl ?_
    refine x_aload_n (pc' := 68) 0 (dX6_built 18 rfl rfl) rfl rfl rfl ?_
    refine x_iload_n (pc' := 69) 2 (dX6_built 19 rfl rfl) rfl rfl rfl ?_
    refine x_inv (pc' := 72) (ν := mX6_tag) (av := [_, _]) (st := [_]) rfl rfl (dX6_built 20 rfl rfl) (Nat.le_of_ble_eq_true rfl) wX6_tag q220 (inv_V (k := 4) (dX6_built 20 rfl rfl) q3070 q3071 q3072 wX6_tag (by decide) lX6_tag (by decide) s3.1) (exN (by decide)) rfl ?_
    refine C.mono hf (fun _ _ => KI.g (fun x17 h15 hf le16 => ?_))
    replace s3 := s3.le sc3 (le16)
    refine x_bipush (pc' := 74) (v := 7) (dX6_built 21 rfl rfl) (by decide) rfl ?_
    refine x_icmp_ne (pc' := 77) (tgt := 81) (dX6_built 22 rfl rfl) (by decide) rfl (fun c18 => ?_) (fun c18 => ?_)
    · replace hf := hf.2 c18
      refine x_iconst (pc' := 82) (v := 0) (dX6_built 25 rfl rfl) (by decide) rfl ?_
      refine x_inv (pc' := 85) (ν := mX6_must) (av := [_, _]) (st := []) rfl rfl (dX6_built 26 rfl rfl) (Nat.le_of_ble_eq_true rfl) wX6_must q220 (inv_V (k := 4) (dX6_built 26 rfl rfl) q3075 q3077 qs56 wX6_must (by decide) lX6_must (by decide) s3.1) (exN (by decide)) rfl ?_
      refine C.mono hf (fun _ _ => KV.g (fun h19 hf le20 => ?_))
      replace s3 := s3.le sc3 (le20)
      refine x_aload_n (pc' := 86) 0 (dX6_built 27 rfl rfl) rfl rfl rfl ?_
      refine x_getR (pc' := 89) (dX6_built 28 rfl rfl) g55 q603 (Or.inl rfl) rfl (hf_of 4 s3.1 rfl (by decide) m4_55) (s3.2 0 _ rfl rfl).1 ?_
      refine x_iload_n (pc' := 90) 2 (dX6_built 29 rfl rfl) rfl rfl rfl ?_
      refine x_iconst (pc' := 91) (v := 1) (dX6_built 30 rfl rfl) (by decide) rfl ?_
      refine x_iadd (pc' := 92) (dX6_built 31 rfl rfl) rfl ?_
      obtain ⟨i21, hf⟩ := hf
      refine x_iald (pc' := 93) (dX6_built 32 rfl rfl) rfl (s3.2 0 _ rfl rfl).2.1 (by rw [(s3.2 0 _ rfl rfl).2.2.2 (by decide)]; exact i21) ?_
      exact x_iret (dX6_built 33 rfl rfl) rfl hf
    · replace hf := hf.1 (Classical.not_not.mp c18)
      replace c18 := Classical.not_not.mp c18
      refine x_iconst (pc' := 78) (v := 1) (dX6_built 23 rfl rfl) (by decide) rfl ?_
      refine x_goto (tgt := 82) (dX6_built 24 rfl rfl) (by decide) ?_
      refine x_inv (pc' := 85) (ν := mX6_must) (av := [_, _]) (st := []) rfl rfl (dX6_built 26 rfl rfl) (Nat.le_of_ble_eq_true rfl) wX6_must q220 (inv_V (k := 4) (dX6_built 26 rfl rfl) q3075 q3077 qs56 wX6_must (by decide) lX6_must (by decide) s3.1) (exN (by decide)) rfl ?_
      refine C.mono hf (fun _ _ => KV.g (fun h22 hf le23 => ?_))
      replace s3 := s3.le sc3 (le23)
      refine x_aload_n (pc' := 86) 0 (dX6_built 27 rfl rfl) rfl rfl rfl ?_
      refine x_getR (pc' := 89) (dX6_built 28 rfl rfl) g55 q603 (Or.inl rfl) rfl (hf_of 4 s3.1 rfl (by decide) m4_55) (s3.2 0 _ rfl rfl).1 ?_
      refine x_iload_n (pc' := 90) 2 (dX6_built 29 rfl rfl) rfl rfl rfl ?_
      refine x_iconst (pc' := 91) (v := 1) (dX6_built 30 rfl rfl) (by decide) rfl ?_
      refine x_iadd (pc' := 92) (dX6_built 31 rfl rfl) rfl ?_
      obtain ⟨i24, hf⟩ := hf
      refine x_iald (pc' := 93) (dX6_built 32 rfl rfl) rfl (s3.2 0 _ rfl rfl).2.1 (by rw [(s3.2 0 _ rfl rfl).2.2.2 (by decide)]; exact i24) ?_
      exact x_iret (dX6_built 33 rfl rfl) rfl hf
  by_cases c13 : p1 = 3
  · replace hf := hf.2.2.2.1 c13
    refine x_ts (v := 3) (tgt := 94) (swX6_built_1) (by rw [c13]; decide) (by decide) (by decide) (by decide) ?_
    refine x_aload_n (pc' := 95) 0 (dX6_built 34 rfl rfl) rfl rfl rfl ?_
    refine x_iconst (pc' := 96) (v := 1) (dX6_built 35 rfl rfl) (by decide) rfl ?_
    refine x_aload_n (pc' := 97) 0 (dX6_built 36 rfl rfl) rfl rfl rfl ?_
    refine x_iload_n (pc' := 98) 2 (dX6_built 37 rfl rfl) rfl rfl rfl ?_
    refine x_inv (pc' := 101) (ν := mX6_whole) (av := [_, _]) (st := [_, _]) rfl rfl (dX6_built 38 rfl rfl) (Nat.le_of_ble_eq_true rfl) wX6_whole q220 (inv_V (k := 4) (dX6_built 38 rfl rfl) q3089 q3090 q3091 wX6_whole (by decide) lX6_whole (by decide) s3.1) (exN (by decide)) rfl ?_
    refine C.mono hf (fun _ _ => KI.g (fun x27 h25 hf le26 => ?_))
    replace s3 := s3.le sc3 (le26)
    refine x_ineg (pc' := 102) (dX6_built 39 rfl rfl) rfl ?_
    refine x_inv (pc' := 105) (ν := mX6_made) (av := [_, _, _]) (st := []) rfl rfl (dX6_built 40 rfl rfl) (Nat.le_of_ble_eq_true rfl) wX6_made q220 (inv_V (k := 4) (dX6_built 40 rfl rfl) q3088 q2933 q2934 wX6_made (by decide) lX6_made (by decide) s3.1) (exN (by decide)) rfl ?_
    refine C.mono hf (fun _ _ => KI.g (fun x30 h28 hf le29 => ?_))
    replace s3 := s3.le sc3 (le29)
    exact x_iret (dX6_built 41 rfl rfl) rfl hf
  by_cases c14 : p1 = 4
  · replace hf := hf.2.2.2.2.1 c14
    refine x_ts (v := 4) (tgt := 106) (swX6_built_1) (by rw [c14]; decide) (by decide) (by decide) (by decide) ?_
    refine x_iconst (pc' := 107) (v := 1) (dX6_built 42 rfl rfl) (by decide) rfl ?_
    exact x_iret (dX6_built 43 rfl rfl) rfl hf
  by_cases c15 : p1 = 5
  · replace hf := hf.2.2.2.2.2.1 c15
    refine x_ts (v := 5) (tgt := 108) (swX6_built_1) (by rw [c15]; decide) (by decide) (by decide) (by decide) ?_
    refine x_aload_n (pc' := 109) 0 (dX6_built 44 rfl rfl) rfl rfl rfl ?_
    refine x_iload_n (pc' := 110) 2 (dX6_built 45 rfl rfl) rfl rfl rfl ?_
    refine x_iconst (pc' := 111) (v := 0) (dX6_built 46 rfl rfl) (by decide) rfl ?_
    refine x_inv (pc' := 114) (ν := mX6_part) (av := [_, _, _]) (st := []) rfl rfl (dX6_built 47 rfl rfl) (Nat.le_of_ble_eq_true rfl) wX6_part q220 (inv_V (k := 4) (dX6_built 47 rfl rfl) q3093 q3094 q3095 wX6_part (by decide) lX6_part (by decide) s3.1) (exN (by decide)) rfl ?_
    refine C.mono hf (fun _ _ => KI.g (fun x33 h31 hf le32 => ?_))
    replace s3 := s3.le sc3 (le32)
    exact x_iret (dX6_built 48 rfl rfl) rfl hf
  replace hf := hf.2.2.2.2.2.2 ⟨c10, c11, c12, c13, c14, c15⟩
  refine x_td (vs := [0, 1, 2, 3, 4, 5]) (tgt := 115) (swX6_built_1) ?_ (by decide) (by decide) (by decide) ?_
  · intro v hv
    simp only [List.mem_cons, List.not_mem_nil, or_false] at hv
    rcases hv with rfl | rfl | rfl | rfl | rfl | rfl
    · exact i32_ne (by decide) c10
    · exact i32_ne (by decide) c11
    · exact i32_ne (by decide) c12
    · exact i32_ne (by decide) c13
    · exact i32_ne (by decide) c14
    · exact i32_ne (by decide) c15
  · refine x_aload_n (pc' := 116) 0 (dX6_built 49 rfl rfl) rfl rfl rfl ?_
    refine x_iload_n (pc' := 117) 2 (dX6_built 50 rfl rfl) rfl rfl rfl ?_
    refine x_iconst (pc' := 118) (v := 1) (dX6_built 51 rfl rfl) (by decide) rfl ?_
    refine x_inv (pc' := 121) (ν := mX6_part) (av := [_, _, _]) (st := []) rfl rfl (dX6_built 52 rfl rfl) (Nat.le_of_ble_eq_true rfl) wX6_part q220 (inv_V (k := 4) (dX6_built 52 rfl rfl) q3093 q3094 q3095 wX6_part (by decide) lX6_part (by decide) s3.1) (exN (by decide)) rfl ?_
    refine C.mono hf (fun _ _ => KI.g (fun x36 h34 hf le35 => ?_))
    replace s3 := s3.le sc3 (le35)
    exact x_iret (dX6_built 53 rfl rfl) rfl hf
theorem bX6_isTrue (G : Gh) (d : Nat) (h : AH) (Q : Outcome → AH → Prop) (p1 : Int32) (s3 : So 3 (gW G) h) (hf : (p1 = 3 → (C G mX6_must d [.ref (gW G 3), .int (1)] h (KV Q (fun h2 => Q (.returned (some (.int 1))) h2)))) ∧ (¬ p1 = 3 → ((p1 = 2 → (C G mX6_must d [.ref (gW G 3), .int (1)] h (KV Q (fun h9 => Q (.returned (some (.int 0))) h9)))) ∧ (¬ p1 = 2 → (C G mX6_must d [.ref (gW G 3), .int (0)] h (KV Q (fun h6 => Q (.returned (some (.int 0))) h6))))))) : C G mX6_isTrue (d + 1) [.ref (gW G 3), .int (p1)] h Q := by
  refine C.of_X (by decide +kernel) (Nat.le_of_ble_eq_true rfl) wX6_isTrue ?_
  show X G mX6_isTrue (d + 1) none [] 0 [(0, .ref (gW G 3)), (1, .int (p1))] [] h Q
  refine x_aload_n (pc' := 1) 0 (dX6_isTrue 0 rfl rfl) rfl rfl rfl ?_
  refine x_iload_n (pc' := 2) 1 (dX6_isTrue 1 rfl rfl) rfl rfl rfl ?_
  refine x_iconst (pc' := 3) (v := 3) (dX6_isTrue 2 rfl rfl) (by decide) rfl ?_
  refine x_icmp_eq (pc' := 6) (tgt := 11) (dX6_isTrue 3 rfl rfl) (by decide) rfl (fun c1 => ?_) (fun c1 => ?_)
  · replace hf := hf.1 c1
    refine x_iconst (pc' := 12) (v := 1) (dX6_isTrue 7 rfl rfl) (by decide) rfl ?_
    refine x_goto (tgt := 16) (dX6_isTrue 8 rfl rfl) (by decide) ?_
    refine x_inv (pc' := 19) (ν := mX6_must) (av := [_, _]) (st := []) rfl rfl (dX6_isTrue 10 rfl rfl) (Nat.le_of_ble_eq_true rfl) wX6_must q220 (inv_V (k := 4) (dX6_isTrue 10 rfl rfl) q3075 q3077 qs56 wX6_must (by decide) lX6_must (by decide) s3.1) (exN (by decide)) rfl ?_
    refine C.mono hf (fun _ _ => KV.g (fun h2 hf le3 => ?_))
    replace s3 := s3.le sc3 (le3)
    refine x_iload_n (pc' := 20) 1 (dX6_isTrue 11 rfl rfl) rfl rfl rfl ?_
    refine x_iconst (pc' := 21) (v := 3) (dX6_isTrue 12 rfl rfl) (by decide) rfl ?_
    refine x_icmp_ne (pc' := 24) (tgt := 28) (dX6_isTrue 13 rfl rfl) (by decide) rfl (fun c4 => ?_) (fun c4 => ?_)
    · exact absurd c1 c4
    · refine x_iconst (pc' := 25) (v := 1) (dX6_isTrue 14 rfl rfl) (by decide) rfl ?_
      refine x_goto (tgt := 29) (dX6_isTrue 15 rfl rfl) (by decide) ?_
      exact x_zret (ty := .boolean) (dX6_isTrue 17 rfl rfl) rfl (by decide) hf
  · replace hf := hf.2 c1
    refine x_iload_n (pc' := 7) 1 (dX6_isTrue 4 rfl rfl) rfl rfl rfl ?_
    refine x_iconst (pc' := 8) (v := 2) (dX6_isTrue 5 rfl rfl) (by decide) rfl ?_
    refine x_icmp_ne (pc' := 11) (tgt := 15) (dX6_isTrue 6 rfl rfl) (by decide) rfl (fun c5 => ?_) (fun c5 => ?_)
    · replace hf := hf.2 c5
      refine x_iconst (pc' := 16) (v := 0) (dX6_isTrue 9 rfl rfl) (by decide) rfl ?_
      refine x_inv (pc' := 19) (ν := mX6_must) (av := [_, _]) (st := []) rfl rfl (dX6_isTrue 10 rfl rfl) (Nat.le_of_ble_eq_true rfl) wX6_must q220 (inv_V (k := 4) (dX6_isTrue 10 rfl rfl) q3075 q3077 qs56 wX6_must (by decide) lX6_must (by decide) s3.1) (exN (by decide)) rfl ?_
      refine C.mono hf (fun _ _ => KV.g (fun h6 hf le7 => ?_))
      replace s3 := s3.le sc3 (le7)
      refine x_iload_n (pc' := 20) 1 (dX6_isTrue 11 rfl rfl) rfl rfl rfl ?_
      refine x_iconst (pc' := 21) (v := 3) (dX6_isTrue 12 rfl rfl) (by decide) rfl ?_
      refine x_icmp_ne (pc' := 24) (tgt := 28) (dX6_isTrue 13 rfl rfl) (by decide) rfl (fun c8 => ?_) (fun c8 => ?_)
      · refine x_iconst (pc' := 29) (v := 0) (dX6_isTrue 16 rfl rfl) (by decide) rfl ?_
        exact x_zret (ty := .boolean) (dX6_isTrue 17 rfl rfl) rfl (by decide) hf
      · exact absurd c1 c8
    · replace hf := hf.1 (Classical.not_not.mp c5)
      replace c5 := Classical.not_not.mp c5
      refine x_iconst (pc' := 12) (v := 1) (dX6_isTrue 7 rfl rfl) (by decide) rfl ?_
      refine x_goto (tgt := 16) (dX6_isTrue 8 rfl rfl) (by decide) ?_
      refine x_inv (pc' := 19) (ν := mX6_must) (av := [_, _]) (st := []) rfl rfl (dX6_isTrue 10 rfl rfl) (Nat.le_of_ble_eq_true rfl) wX6_must q220 (inv_V (k := 4) (dX6_isTrue 10 rfl rfl) q3075 q3077 qs56 wX6_must (by decide) lX6_must (by decide) s3.1) (exN (by decide)) rfl ?_
      refine C.mono hf (fun _ _ => KV.g (fun h9 hf le10 => ?_))
      replace s3 := s3.le sc3 (le10)
      refine x_iload_n (pc' := 20) 1 (dX6_isTrue 11 rfl rfl) rfl rfl rfl ?_
      refine x_iconst (pc' := 21) (v := 3) (dX6_isTrue 12 rfl rfl) (by decide) rfl ?_
      refine x_icmp_ne (pc' := 24) (tgt := 28) (dX6_isTrue 13 rfl rfl) (by decide) rfl (fun c11 => ?_) (fun c11 => ?_)
      · refine x_iconst (pc' := 29) (v := 0) (dX6_isTrue 16 rfl rfl) (by decide) rfl ?_
        exact x_zret (ty := .boolean) (dX6_isTrue 17 rfl rfl) rfl (by decide) hf
      · exact absurd c1 c11
theorem bX6_whole (G : Gh) (d : Nat) (h : AH) (Q : Outcome → AH → Prop) (p1 : Int32) (s3 : So 3 (gW G) h) (hf : C G mX6_tag d [.ref (gW G 3), .int (p1)] h (KI Q (fun x3 h1 => (x3 = 1 → (C G mX6_must d [.ref (gW G 3), .int (1)] h1 (KV Q (fun h8 => vp_in (p1 + 1) 960100 ∧ (Q (.returned (some (.int (aI h8 (gW G 1055) (p1 + 1).toNatClampNeg)))) h8))))) ∧ (¬ x3 = 1 → (C G mX6_must d [.ref (gW G 3), .int (0)] h1 (KV Q (fun h5 => vp_in (p1 + 1) 960100 ∧ (Q (.returned (some (.int (aI h5 (gW G 1055) (p1 + 1).toNatClampNeg)))) h5)))))))) : C G mX6_whole (d + 1) [.ref (gW G 3), .int (p1)] h Q := by
  refine C.of_X (by decide +kernel) (Nat.le_of_ble_eq_true rfl) wX6_whole ?_
  show X G mX6_whole (d + 1) none [] 0 [(0, .ref (gW G 3)), (1, .int (p1))] [] h Q
  refine x_aload_n (pc' := 1) 0 (dX6_whole 0 rfl rfl) rfl rfl rfl ?_
  refine x_aload_n (pc' := 2) 0 (dX6_whole 1 rfl rfl) rfl rfl rfl ?_
  refine x_iload_n (pc' := 3) 1 (dX6_whole 2 rfl rfl) rfl rfl rfl ?_
  refine x_inv (pc' := 6) (ν := mX6_tag) (av := [_, _]) (st := [_]) rfl rfl (dX6_whole 3 rfl rfl) (Nat.le_of_ble_eq_true rfl) wX6_tag q220 (inv_V (k := 4) (dX6_whole 3 rfl rfl) q3070 q3071 q3072 wX6_tag (by decide) lX6_tag (by decide) s3.1) (exN (by decide)) rfl ?_
  refine C.mono hf (fun _ _ => KI.g (fun x3 h1 hf le2 => ?_))
  replace s3 := s3.le sc3 (le2)
  refine x_iconst (pc' := 7) (v := 1) (dX6_whole 4 rfl rfl) (by decide) rfl ?_
  refine x_icmp_ne (pc' := 10) (tgt := 14) (dX6_whole 5 rfl rfl) (by decide) rfl (fun c4 => ?_) (fun c4 => ?_)
  · replace hf := hf.2 c4
    refine x_iconst (pc' := 15) (v := 0) (dX6_whole 8 rfl rfl) (by decide) rfl ?_
    refine x_inv (pc' := 18) (ν := mX6_must) (av := [_, _]) (st := []) rfl rfl (dX6_whole 9 rfl rfl) (Nat.le_of_ble_eq_true rfl) wX6_must q220 (inv_V (k := 4) (dX6_whole 9 rfl rfl) q3075 q3077 qs56 wX6_must (by decide) lX6_must (by decide) s3.1) (exN (by decide)) rfl ?_
    refine C.mono hf (fun _ _ => KV.g (fun h5 hf le6 => ?_))
    replace s3 := s3.le sc3 (le6)
    refine x_aload_n (pc' := 19) 0 (dX6_whole 10 rfl rfl) rfl rfl rfl ?_
    refine x_getR (pc' := 22) (dX6_whole 11 rfl rfl) g55 q603 (Or.inl rfl) rfl (hf_of 4 s3.1 rfl (by decide) m4_55) (s3.2 0 _ rfl rfl).1 ?_
    refine x_iload_n (pc' := 23) 1 (dX6_whole 12 rfl rfl) rfl rfl rfl ?_
    refine x_iconst (pc' := 24) (v := 1) (dX6_whole 13 rfl rfl) (by decide) rfl ?_
    refine x_iadd (pc' := 25) (dX6_whole 14 rfl rfl) rfl ?_
    obtain ⟨i7, hf⟩ := hf
    refine x_iald (pc' := 26) (dX6_whole 15 rfl rfl) rfl (s3.2 0 _ rfl rfl).2.1 (by rw [(s3.2 0 _ rfl rfl).2.2.2 (by decide)]; exact i7) ?_
    exact x_iret (dX6_whole 16 rfl rfl) rfl hf
  · replace hf := hf.1 (Classical.not_not.mp c4)
    replace c4 := Classical.not_not.mp c4
    refine x_iconst (pc' := 11) (v := 1) (dX6_whole 6 rfl rfl) (by decide) rfl ?_
    refine x_goto (tgt := 15) (dX6_whole 7 rfl rfl) (by decide) ?_
    refine x_inv (pc' := 18) (ν := mX6_must) (av := [_, _]) (st := []) rfl rfl (dX6_whole 9 rfl rfl) (Nat.le_of_ble_eq_true rfl) wX6_must q220 (inv_V (k := 4) (dX6_whole 9 rfl rfl) q3075 q3077 qs56 wX6_must (by decide) lX6_must (by decide) s3.1) (exN (by decide)) rfl ?_
    refine C.mono hf (fun _ _ => KV.g (fun h8 hf le9 => ?_))
    replace s3 := s3.le sc3 (le9)
    refine x_aload_n (pc' := 19) 0 (dX6_whole 10 rfl rfl) rfl rfl rfl ?_
    refine x_getR (pc' := 22) (dX6_whole 11 rfl rfl) g55 q603 (Or.inl rfl) rfl (hf_of 4 s3.1 rfl (by decide) m4_55) (s3.2 0 _ rfl rfl).1 ?_
    refine x_iload_n (pc' := 23) 1 (dX6_whole 12 rfl rfl) rfl rfl rfl ?_
    refine x_iconst (pc' := 24) (v := 1) (dX6_whole 13 rfl rfl) (by decide) rfl ?_
    refine x_iadd (pc' := 25) (dX6_whole 14 rfl rfl) rfl ?_
    obtain ⟨i10, hf⟩ := hf
    refine x_iald (pc' := 26) (dX6_whole 15 rfl rfl) rfl (s3.2 0 _ rfl rfl).2.1 (by rw [(s3.2 0 _ rfl rfl).2.2.2 (by decide)]; exact i10) ?_
    exact x_iret (dX6_whole 16 rfl rfl) rfl hf
theorem bX6_part (G : Gh) (d : Nat) (h : AH) (Q : Outcome → AH → Prop) (p1 : Int32) (p2 : Int32) (s3 : So 3 (gW G) h) (hf : C G mX6_tag d [.ref (gW G 3), .int (p1)] h (KI Q (fun x3 h1 => (x3 = 2 → (vp_in (p1 + 1) 960100 ∧ (((aI h1 (gW G 1055) (p1 + 1).toNatClampNeg) ≤ p2 → (C G mX6_must d [.ref (gW G 3), .int (0)] h1 (KV Q (fun h10 => vp_in ((p1 + 2) + p2) 960100 ∧ (Q (.returned (some (.int (aI h10 (gW G 1055) ((p1 + 2) + p2).toNatClampNeg)))) h10))))) ∧ (¬ ((aI h1 (gW G 1055) (p1 + 1).toNatClampNeg) ≤ p2) → (C G mX6_must d [.ref (gW G 3), .int (1)] h1 (KV Q (fun h13 => vp_in ((p1 + 2) + p2) 960100 ∧ (Q (.returned (some (.int (aI h13 (gW G 1055) ((p1 + 2) + p2).toNatClampNeg)))) h13)))))))) ∧ (¬ x3 = 2 → (C G mX6_must d [.ref (gW G 3), .int (0)] h1 (KV Q (fun h5 => vp_in ((p1 + 2) + p2) 960100 ∧ (Q (.returned (some (.int (aI h5 (gW G 1055) ((p1 + 2) + p2).toNatClampNeg)))) h5)))))))) : C G mX6_part (d + 1) [.ref (gW G 3), .int (p1), .int (p2)] h Q := by
  refine C.of_X (by decide +kernel) (Nat.le_of_ble_eq_true rfl) wX6_part ?_
  show X G mX6_part (d + 1) none [] 0 [(0, .ref (gW G 3)), (1, .int (p1)), (2, .int (p2))] [] h Q
  refine x_aload_n (pc' := 1) 0 (dX6_part 0 rfl rfl) rfl rfl rfl ?_
  refine x_aload_n (pc' := 2) 0 (dX6_part 1 rfl rfl) rfl rfl rfl ?_
  refine x_iload_n (pc' := 3) 1 (dX6_part 2 rfl rfl) rfl rfl rfl ?_
  refine x_inv (pc' := 6) (ν := mX6_tag) (av := [_, _]) (st := [_]) rfl rfl (dX6_part 3 rfl rfl) (Nat.le_of_ble_eq_true rfl) wX6_tag q220 (inv_V (k := 4) (dX6_part 3 rfl rfl) q3070 q3071 q3072 wX6_tag (by decide) lX6_tag (by decide) s3.1) (exN (by decide)) rfl ?_
  refine C.mono hf (fun _ _ => KI.g (fun x3 h1 hf le2 => ?_))
  replace s3 := s3.le sc3 (le2)
  refine x_iconst (pc' := 7) (v := 2) (dX6_part 4 rfl rfl) (by decide) rfl ?_
  refine x_icmp_ne (pc' := 10) (tgt := 26) (dX6_part 5 rfl rfl) (by decide) rfl (fun c4 => ?_) (fun c4 => ?_)
  · replace hf := hf.2 c4
    refine x_iconst (pc' := 27) (v := 0) (dX6_part 16 rfl rfl) (by decide) rfl ?_
    refine x_inv (pc' := 30) (ν := mX6_must) (av := [_, _]) (st := []) rfl rfl (dX6_part 17 rfl rfl) (Nat.le_of_ble_eq_true rfl) wX6_must q220 (inv_V (k := 4) (dX6_part 17 rfl rfl) q3075 q3077 qs56 wX6_must (by decide) lX6_must (by decide) s3.1) (exN (by decide)) rfl ?_
    refine C.mono hf (fun _ _ => KV.g (fun h5 hf le6 => ?_))
    replace s3 := s3.le sc3 (le6)
    refine x_aload_n (pc' := 31) 0 (dX6_part 18 rfl rfl) rfl rfl rfl ?_
    refine x_getR (pc' := 34) (dX6_part 19 rfl rfl) g55 q603 (Or.inl rfl) rfl (hf_of 4 s3.1 rfl (by decide) m4_55) (s3.2 0 _ rfl rfl).1 ?_
    refine x_iload_n (pc' := 35) 1 (dX6_part 20 rfl rfl) rfl rfl rfl ?_
    refine x_iconst (pc' := 36) (v := 2) (dX6_part 21 rfl rfl) (by decide) rfl ?_
    refine x_iadd (pc' := 37) (dX6_part 22 rfl rfl) rfl ?_
    refine x_iload_n (pc' := 38) 2 (dX6_part 23 rfl rfl) rfl rfl rfl ?_
    refine x_iadd (pc' := 39) (dX6_part 24 rfl rfl) rfl ?_
    obtain ⟨i7, hf⟩ := hf
    refine x_iald (pc' := 40) (dX6_part 25 rfl rfl) rfl (s3.2 0 _ rfl rfl).2.1 (by rw [(s3.2 0 _ rfl rfl).2.2.2 (by decide)]; exact i7) ?_
    exact x_iret (dX6_part 26 rfl rfl) rfl hf
  · replace hf := hf.1 (Classical.not_not.mp c4)
    replace c4 := Classical.not_not.mp c4
    refine x_iload_n (pc' := 11) 2 (dX6_part 6 rfl rfl) rfl rfl rfl ?_
    refine x_aload_n (pc' := 12) 0 (dX6_part 7 rfl rfl) rfl rfl rfl ?_
    refine x_getR (pc' := 15) (dX6_part 8 rfl rfl) g55 q603 (Or.inl rfl) rfl (hf_of 4 s3.1 rfl (by decide) m4_55) (s3.2 0 _ rfl rfl).1 ?_
    refine x_iload_n (pc' := 16) 1 (dX6_part 9 rfl rfl) rfl rfl rfl ?_
    refine x_iconst (pc' := 17) (v := 1) (dX6_part 10 rfl rfl) (by decide) rfl ?_
    refine x_iadd (pc' := 18) (dX6_part 11 rfl rfl) rfl ?_
    obtain ⟨i8, hf⟩ := hf
    refine x_iald (pc' := 19) (dX6_part 12 rfl rfl) rfl (s3.2 0 _ rfl rfl).2.1 (by rw [(s3.2 0 _ rfl rfl).2.2.2 (by decide)]; exact i8) ?_
    refine x_icmp_ge (pc' := 22) (tgt := 26) (dX6_part 13 rfl rfl) (by decide) rfl (fun c9 => ?_) (fun c9 => ?_)
    · replace hf := hf.1 c9
      refine x_iconst (pc' := 27) (v := 0) (dX6_part 16 rfl rfl) (by decide) rfl ?_
      refine x_inv (pc' := 30) (ν := mX6_must) (av := [_, _]) (st := []) rfl rfl (dX6_part 17 rfl rfl) (Nat.le_of_ble_eq_true rfl) wX6_must q220 (inv_V (k := 4) (dX6_part 17 rfl rfl) q3075 q3077 qs56 wX6_must (by decide) lX6_must (by decide) s3.1) (exN (by decide)) rfl ?_
      refine C.mono hf (fun _ _ => KV.g (fun h10 hf le11 => ?_))
      replace s3 := s3.le sc3 (le11)
      refine x_aload_n (pc' := 31) 0 (dX6_part 18 rfl rfl) rfl rfl rfl ?_
      refine x_getR (pc' := 34) (dX6_part 19 rfl rfl) g55 q603 (Or.inl rfl) rfl (hf_of 4 s3.1 rfl (by decide) m4_55) (s3.2 0 _ rfl rfl).1 ?_
      refine x_iload_n (pc' := 35) 1 (dX6_part 20 rfl rfl) rfl rfl rfl ?_
      refine x_iconst (pc' := 36) (v := 2) (dX6_part 21 rfl rfl) (by decide) rfl ?_
      refine x_iadd (pc' := 37) (dX6_part 22 rfl rfl) rfl ?_
      refine x_iload_n (pc' := 38) 2 (dX6_part 23 rfl rfl) rfl rfl rfl ?_
      refine x_iadd (pc' := 39) (dX6_part 24 rfl rfl) rfl ?_
      obtain ⟨i12, hf⟩ := hf
      refine x_iald (pc' := 40) (dX6_part 25 rfl rfl) rfl (s3.2 0 _ rfl rfl).2.1 (by rw [(s3.2 0 _ rfl rfl).2.2.2 (by decide)]; exact i12) ?_
      exact x_iret (dX6_part 26 rfl rfl) rfl hf
    · replace hf := hf.2 c9
      refine x_iconst (pc' := 23) (v := 1) (dX6_part 14 rfl rfl) (by decide) rfl ?_
      refine x_goto (tgt := 27) (dX6_part 15 rfl rfl) (by decide) ?_
      refine x_inv (pc' := 30) (ν := mX6_must) (av := [_, _]) (st := []) rfl rfl (dX6_part 17 rfl rfl) (Nat.le_of_ble_eq_true rfl) wX6_must q220 (inv_V (k := 4) (dX6_part 17 rfl rfl) q3075 q3077 qs56 wX6_must (by decide) lX6_must (by decide) s3.1) (exN (by decide)) rfl ?_
      refine C.mono hf (fun _ _ => KV.g (fun h13 hf le14 => ?_))
      replace s3 := s3.le sc3 (le14)
      refine x_aload_n (pc' := 31) 0 (dX6_part 18 rfl rfl) rfl rfl rfl ?_
      refine x_getR (pc' := 34) (dX6_part 19 rfl rfl) g55 q603 (Or.inl rfl) rfl (hf_of 4 s3.1 rfl (by decide) m4_55) (s3.2 0 _ rfl rfl).1 ?_
      refine x_iload_n (pc' := 35) 1 (dX6_part 20 rfl rfl) rfl rfl rfl ?_
      refine x_iconst (pc' := 36) (v := 2) (dX6_part 21 rfl rfl) (by decide) rfl ?_
      refine x_iadd (pc' := 37) (dX6_part 22 rfl rfl) rfl ?_
      refine x_iload_n (pc' := 38) 2 (dX6_part 23 rfl rfl) rfl rfl rfl ?_
      refine x_iadd (pc' := 39) (dX6_part 24 rfl rfl) rfl ?_
      obtain ⟨i15, hf⟩ := hf
      refine x_iald (pc' := 40) (dX6_part 25 rfl rfl) rfl (s3.2 0 _ rfl rfl).2.1 (by rw [(s3.2 0 _ rfl rfl).2.2.2 (by decide)]; exact i15) ?_
      exact x_iret (dX6_part 26 rfl rfl) rfl hf
theorem bX6_chosen (G : Gh) (d : Nat) (h : AH) (Q : Outcome → AH → Prop) (p1 : Nat) (p2 : Int32) (p3 : Int32) (hf : X G mX6_chosen (d + 1) none [] 3 [(0, .ref (gW G 3)), (1, .ref (p1)), (2, .int (p2)), (3, .int (p3)), (4, .int (0))] [] h Q) : C G mX6_chosen (d + 1) [.ref (gW G 3), .ref (p1), .int (p2), .int (p3)] h Q := by
  refine C.of_X (by decide +kernel) (Nat.le_of_ble_eq_true rfl) wX6_chosen ?_
  show X G mX6_chosen (d + 1) none [] 0 [(0, .ref (gW G 3)), (1, .ref (p1)), (2, .int (p2)), (3, .int (p3))] [] h Q
  refine x_iconst (pc' := 1) (v := 0) (dX6_chosen 0 rfl rfl) (by decide) rfl ?_
  refine x_istore (pc' := 3) (dX6_chosen 1 rfl rfl) (by decide) rfl rfl ?_
  exact X.sub [1, 2, 3, 4, 0] rfl (by simp) hf
theorem bX6_chosen_3 (G : Gh) (d : Nat) (h : AH) (Q : Outcome → AH → Prop) (l1 : Nat) (l2 : Int32) (l3 : Int32) (l4 : Int32) (s3 : So 3 (gW G) h) (hf : hK h l1 = 6 ∧ (((fI h l1 78) ≤ l4 → (C G mX6_fail d [.ref (gW G 3), .int (1)] h (KV Q (fun h3 => Q (.returned none) h3)))) ∧ (¬ ((fI h l1 78) ≤ l4) → (C G mX7_clause d [.ref (l1), .int (l4)] h (KR Q (fun b7 h5 => X G mX6_chosen (d + 1) none [] 26 [(0, .ref (gW G 3)), (1, .ref (l1)), (2, .int (l2)), (3, .int (l3)), (4, .int (l4)), (5, .ref (b7)), (6, .int (1)), (7, .int (0))] [] h5 Q)))))) : X G mX6_chosen (d + 1) none [] 3 [(0, .ref (gW G 3)), (1, .ref (l1)), (2, .int (l2)), (3, .int (l3)), (4, .int (l4))] [] h Q := by
  refine x_iload (pc' := 5) 4 (dX6_chosen 2 rfl rfl) rfl rfl ?_
  refine x_aload_n (pc' := 6) 1 (dX6_chosen 3 rfl rfl) rfl rfl rfl ?_
  obtain ⟨k1, hf⟩ := hf
  refine x_getI (pc' := 9) (dX6_chosen 4 rfl rfl) g78 q574 (Or.inl rfl) rfl (hf_of 5 k1 rfl (by decide) m5_78) ?_
  refine x_icmp_ge (pc' := 12) (tgt := 138) (dX6_chosen 5 rfl rfl) (by decide) rfl (fun c2 => ?_) (fun c2 => ?_)
  · replace hf := hf.1 c2
    refine x_aload_n (pc' := 139) 0 (dX6_chosen 67 rfl rfl) rfl rfl rfl ?_
    refine x_iconst (pc' := 140) (v := 1) (dX6_chosen 68 rfl rfl) (by decide) rfl ?_
    refine x_inv (pc' := 143) (ν := mX6_fail) (av := [_, _]) (st := []) rfl rfl (dX6_chosen 69 rfl rfl) (Nat.le_of_ble_eq_true rfl) wX6_fail q220 (inv_V (k := 4) (dX6_chosen 69 rfl rfl) q2894 q2895 q2896 wX6_fail (by decide) lX6_fail (by decide) s3.1) (exN (by decide)) rfl ?_
    refine C.mono hf (fun _ _ => KV.g (fun h3 hf le4 => ?_))
    have k1 := leK le4 k1 (by decide)
    replace s3 := s3.le sc3 (le4)
    exact x_vret (dX6_chosen 70 rfl rfl) rfl hf
  · replace hf := hf.2 c2
    refine x_aload_n (pc' := 13) 1 (dX6_chosen 6 rfl rfl) rfl rfl rfl ?_
    refine x_iload (pc' := 15) 4 (dX6_chosen 7 rfl rfl) rfl rfl ?_
    refine x_inv (pc' := 18) (ν := mX7_clause) (av := [_, _]) (st := []) rfl rfl (dX6_chosen 8 rfl rfl) (Nat.le_of_ble_eq_true rfl) wX7_clause q221 (inv_V (k := 5) (dX6_chosen 8 rfl rfl) q3097 q2197 q2198 wX7_clause (by decide) lX7_clause (by decide) k1) (exN (by decide)) rfl ?_
    refine C.mono hf (fun _ _ => KR.g (fun b7 h5 hf le6 => ?_))
    have k1 := leK le6 k1 (by decide)
    replace s3 := s3.le sc3 (le6)
    refine x_astore (pc' := 20) (dX6_chosen 9 rfl rfl) (by decide) rfl rfl ?_
    refine x_iconst (pc' := 21) (v := 1) (dX6_chosen 10 rfl rfl) (by decide) rfl ?_
    refine x_istore (pc' := 23) (dX6_chosen 11 rfl rfl) (by decide) rfl rfl ?_
    refine x_iconst (pc' := 24) (v := 0) (dX6_chosen 12 rfl rfl) (by decide) rfl ?_
    refine x_istore (pc' := 26) (dX6_chosen 13 rfl rfl) (by decide) rfl rfl ?_
    exact X.sub [3, 4, 5, 6, 7, 2, 1, 0] rfl (by simp) hf
theorem bX6_chosen_26 (G : Gh) (d : Nat) (h : AH) (Q : Outcome → AH → Prop) (l1 : Nat) (l2 : Int32) (l3 : Int32) (l4 : Int32) (l5 : Nat) (l6 : Int32) (l7 : Int32) (s3 : So 3 (gW G) h) (hf : (l2 ≤ l7 → ((l6 = 0 → (∀ x3 : Int32, x3 = l4 + 1 → (X G mX6_chosen (d + 1) none [] 3 [(0, .ref (gW G 3)), (1, .ref (l1)), (2, .int (l2)), (3, .int (l3)), (4, .int (x3))] [] h Q))) ∧ (¬ l6 = 0 → (X G mX6_chosen (d + 1) none [] 78 [(0, .ref (gW G 3)), (2, .int (l2)), (5, .ref (l5)), (7, .int (l3)), (8, .int (0))] [] h Q)))) ∧ (¬ (l2 ≤ l7) → ((l6 = 0 → (∀ x6 : Int32, x6 = l4 + 1 → (X G mX6_chosen (d + 1) none [] 3 [(0, .ref (gW G 3)), (1, .ref (l1)), (2, .int (l2)), (3, .int (l3)), (4, .int (x6))] [] h Q))) ∧ (¬ l6 = 0 → (hK h l5 = 29 ∧ (∃ b8, fR h l5 317 = some b8 ∧ (hK h b8 = 1008 ∧ vp_in l7 (hL h b8) ∧ ∃ b12, aR h b8 l7.toNatClampNeg = some b12 ∧ (vp_in l7 30 ∧ (∃ (k : Nat) (ν : Mu), VT ⟨"LetMill$Pat", "fits", "(LLetMill$Machine;I)Z"⟩ VMPat_fits k ν ∧ hK h b12 = k + 1 ∧ C G ν d [.ref (b12), .ref (gW G 3), .int (aI h (gW G 1066) l7.toNatClampNeg)] h (KI Q (fun x17 h15 => ∀ x18 : Int32, x18 = l7 + 1 → (X G mX6_chosen (d + 1) none [] 26 [(0, .ref (gW G 3)), (1, .ref (l1)), (2, .int (l2)), (3, .int (l3)), (4, .int (l4)), (5, .ref (l5)), (6, .int (x17)), (7, .int (x18))] [] h15 Q)))))))))))) : X G mX6_chosen (d + 1) none [] 26 [(0, .ref (gW G 3)), (1, .ref (l1)), (2, .int (l2)), (3, .int (l3)), (4, .int (l4)), (5, .ref (l5)), (6, .int (l6)), (7, .int (l7))] [] h Q := by
  refine x_iload (pc' := 28) 7 (dX6_chosen 14 rfl rfl) rfl rfl ?_
  refine x_iload_n (pc' := 29) 2 (dX6_chosen 15 rfl rfl) rfl rfl rfl ?_
  refine x_icmp_ge (pc' := 32) (tgt := 64) (dX6_chosen 16 rfl rfl) (by decide) rfl (fun c1 => ?_) (fun c1 => ?_)
  · replace hf := hf.1 c1
    refine x_iload (pc' := 66) 6 (dX6_chosen 32 rfl rfl) rfl rfl ?_
    refine x_if_ne (pc' := 69) (tgt := 72) (dX6_chosen 33 rfl rfl) (by decide) rfl (fun c2 => ?_) (fun c2 => ?_)
    · replace hf := hf.2 c2
      refine x_iload_n (pc' := 73) 3 (dX6_chosen 35 rfl rfl) rfl rfl rfl ?_
      refine x_istore (pc' := 75) (dX6_chosen 36 rfl rfl) (by decide) rfl rfl ?_
      refine x_iconst (pc' := 76) (v := 0) (dX6_chosen 37 rfl rfl) (by decide) rfl ?_
      refine x_istore (pc' := 78) (dX6_chosen 38 rfl rfl) (by decide) rfl rfl ?_
      exact X.sub [2, 4, 7, 1, 0] rfl (by simp) hf
    · replace hf := hf.1 (Classical.not_not.mp c2)
      replace c2 := Classical.not_not.mp c2
      refine x_goto (tgt := 132) (dX6_chosen 34 rfl rfl) (by decide) ?_
      replace hf := hf _ rfl
      refine x_iinc (pc' := 135) 4 (dX6_chosen 65 rfl rfl) rfl (by rfl) (by decide) rfl rfl ?_
      refine x_goto (tgt := 3) (dX6_chosen 66 rfl rfl) (by decide) ?_
      exact X.sub [1, 2, 3, 4, 0] rfl (by simp) hf
  · replace hf := hf.2 c1
    refine x_iload (pc' := 34) 6 (dX6_chosen 17 rfl rfl) rfl rfl ?_
    refine x_if_eq (pc' := 37) (tgt := 64) (dX6_chosen 18 rfl rfl) (by decide) rfl (fun c4 => ?_) (fun c4 => ?_)
    · replace hf := hf.1 c4
      refine x_iload (pc' := 66) 6 (dX6_chosen 32 rfl rfl) rfl rfl ?_
      refine x_if_ne (pc' := 69) (tgt := 72) (dX6_chosen 33 rfl rfl) (by decide) rfl (fun c5 => ?_) (fun c5 => ?_)
      · exact absurd c4 c5
      · refine x_goto (tgt := 132) (dX6_chosen 34 rfl rfl) (by decide) ?_
        replace hf := hf _ rfl
        refine x_iinc (pc' := 135) 4 (dX6_chosen 65 rfl rfl) rfl (by rfl) (by decide) rfl rfl ?_
        refine x_goto (tgt := 3) (dX6_chosen 66 rfl rfl) (by decide) ?_
        exact X.sub [1, 2, 3, 4, 0] rfl (by simp) hf
    · replace hf := hf.2 c4
      refine x_aload (pc' := 39) 5 (dX6_chosen 19 rfl rfl) rfl rfl ?_
      obtain ⟨k7, hf⟩ := hf
      obtain ⟨b8, e9, hf⟩ := hf
      refine x_getR (pc' := 42) (dX6_chosen 20 rfl rfl) g317 q1499 (Or.inl rfl) rfl (hf_of 28 k7 rfl (by decide) m28_317) e9 ?_
      refine x_iload (pc' := 44) 7 (dX6_chosen 21 rfl rfl) rfl rfl ?_
      obtain ⟨k10, hf⟩ := hf
      obtain ⟨i11, hf⟩ := hf
      obtain ⟨b12, e13, hf⟩ := hf
      refine x_aald (pc' := 45) (t := 8) (C := "LetMill$Pat") (dX6_chosen 22 rfl rfl) rfl (by decide) rfl k10 i11 e13 ?_
      refine x_aload_n (pc' := 46) 0 (dX6_chosen 23 rfl rfl) rfl rfl rfl ?_
      refine x_aload_n (pc' := 47) 0 (dX6_chosen 24 rfl rfl) rfl rfl rfl ?_
      refine x_getR (pc' := 50) (dX6_chosen 25 rfl rfl) g66 q615 (Or.inl rfl) rfl (hf_of 4 s3.1 rfl (by decide) m4_66) (s3.2 8 _ rfl rfl).1 ?_
      refine x_iload (pc' := 52) 7 (dX6_chosen 26 rfl rfl) rfl rfl ?_
      obtain ⟨i14, hf⟩ := hf
      refine x_iald (pc' := 53) (dX6_chosen 27 rfl rfl) rfl (s3.2 8 _ rfl rfl).2.1 (by rw [(s3.2 8 _ rfl rfl).2.2.2 (by decide)]; exact i14) ?_
      obtain ⟨k, ν, ⟨v0, v1, v2, v3, v4, v5, v6, v7⟩, k19, hf⟩ := hf
      refine x_inv (pc' := 56) (ν := ν) (st := []) rfl (sub_tr v7 rfl) (dX6_chosen 28 rfl rfl) (by have := v5; simp only [List.map, List.sum_cons, List.sum_nil, Value.category]; omega) v1 v2 (inv_U (k := k) (av := [_, _]) (dX6_chosen 28 rfl rfl) q3103 q3105 (by decide) v3 v4 (by decide) (show _ = some 2 by decide +kernel) v0 k19) (exN v6) rfl ?_
      refine C.mono hf (fun _ _ => KI.g (fun x17 h15 hf le16 => ?_))
      replace le16 := Le.nx v6 le16
      have k7 := leK le16 k7 (by decide)
      have k10 := leK le16 k10 (by decide)
      replace s3 := s3.le sc3 (le16)
      refine x_istore (pc' := 58) (dX6_chosen 29 rfl rfl) (by decide) rfl rfl ?_
      replace hf := hf _ rfl
      refine x_iinc (pc' := 61) 7 (dX6_chosen 30 rfl rfl) rfl (by rfl) (by decide) rfl rfl ?_
      refine x_goto (tgt := 26) (dX6_chosen 31 rfl rfl) (by decide) ?_
      exact X.sub [2, 3, 4, 5, 6, 7, 1, 0] rfl (by simp) hf
theorem bX6_chosen_78 (G : Gh) (d : Nat) (h : AH) (Q : Outcome → AH → Prop) (l2 : Int32) (l5 : Nat) (l7 : Int32) (l8 : Int32) (s3 : So 3 (gW G) h) (hf : (l2 ≤ l8 → (C G mX6_isOver d [.ref (gW G 3)] h (KI Q (fun x4 h2 => (x4 = 0 → (hK h2 l5 = 29 ∧ (∃ b7, fR h2 l5 318 = some b7 ∧ (C G mX6_next d [.ref (gW G 3), .ref (b7), .int (l7)] h2 (KV Q (fun h9 => Q (.returned none) h9)))))) ∧ (¬ x4 = 0 → (Q (.returned none) h2)))))) ∧ (¬ (l2 ≤ l8) → (hK h l5 = 29 ∧ (∃ b12, fR h l5 317 = some b12 ∧ (hK h b12 = 1008 ∧ vp_in l8 (hL h b12) ∧ ∃ b16, aR h b12 l8.toNatClampNeg = some b16 ∧ (vp_in l8 30 ∧ (∃ (k : Nat) (ν : Mu), VT yX19_bind VMPat_bind k ν ∧ hK h b16 = k + 1 ∧ C G ν d [.ref (b16), .ref (gW G 3), .int (aI h (gW G 1066) l8.toNatClampNeg), .int (l7)] h (KI Q (fun x21 h19 => ∀ x22 : Int32, x22 = l8 + 1 → (X G mX6_chosen (d + 1) none [] 78 [(0, .ref (gW G 3)), (2, .int (l2)), (5, .ref (l5)), (7, .int (x21)), (8, .int (x22))] [] h19 Q)))))))))) : X G mX6_chosen (d + 1) none [] 78 [(0, .ref (gW G 3)), (2, .int (l2)), (5, .ref (l5)), (7, .int (l7)), (8, .int (l8))] [] h Q := by
  refine x_iload (pc' := 80) 4 (dX6_chosen 39 rfl rfl) rfl rfl ?_
  refine x_iload_n (pc' := 81) 1 (dX6_chosen 40 rfl rfl) rfl rfl rfl ?_
  refine x_icmp_ge (pc' := 84) (tgt := 113) (dX6_chosen 41 rfl rfl) (by decide) rfl (fun c1 => ?_) (fun c1 => ?_)
  · replace hf := hf.1 c1
    refine x_aload_n (pc' := 114) 0 (dX6_chosen 56 rfl rfl) rfl rfl rfl ?_
    refine x_inv (pc' := 117) (ν := mX6_isOver) (av := [_]) (st := []) rfl rfl (dX6_chosen 57 rfl rfl) (Nat.le_of_ble_eq_true rfl) wX6_isOver q220 (inv_V (k := 4) (dX6_chosen 57 rfl rfl) q3196 q2973 q2974 wX6_isOver (by decide) lX6_isOver (by decide) s3.1) (exN (by decide)) rfl ?_
    refine C.mono hf (fun _ _ => KI.g (fun x4 h2 hf le3 => ?_))
    replace s3 := s3.le sc3 (le3)
    refine x_if_ne (pc' := 120) (tgt := 131) (dX6_chosen 58 rfl rfl) (by decide) rfl (fun c5 => ?_) (fun c5 => ?_)
    · replace hf := hf.2 c5
      exact x_vret (dX6_chosen 64 rfl rfl) rfl hf
    · replace hf := hf.1 (Classical.not_not.mp c5)
      replace c5 := Classical.not_not.mp c5
      refine x_aload_n (pc' := 121) 0 (dX6_chosen 59 rfl rfl) rfl rfl rfl ?_
      refine x_aload (pc' := 123) 2 (dX6_chosen 60 rfl rfl) rfl rfl ?_
      obtain ⟨k6, hf⟩ := hf
      obtain ⟨b7, e8, hf⟩ := hf
      refine x_getR (pc' := 126) (dX6_chosen 61 rfl rfl) g318 q1503 (Or.inl rfl) rfl (hf_of 28 k6 rfl (by decide) m28_318) e8 ?_
      refine x_iload (pc' := 128) 3 (dX6_chosen 62 rfl rfl) rfl rfl ?_
      refine x_inv (pc' := 131) (ν := mX6_next) (av := [_, _, _]) (st := []) rfl rfl (dX6_chosen 63 rfl rfl) (Nat.le_of_ble_eq_true rfl) wX6_next q220 (inv_V (k := 4) (dX6_chosen 63 rfl rfl) q2880 q2881 q2882 wX6_next (by decide) lX6_next (by decide) s3.1) (exN (by decide)) rfl ?_
      refine C.mono hf (fun _ _ => KV.g (fun h9 hf le10 => ?_))
      have k6 := leK le10 k6 (by decide)
      replace s3 := s3.le sc3 (le10)
      exact x_vret (dX6_chosen 64 rfl rfl) rfl hf
  · replace hf := hf.2 c1
    refine x_aload (pc' := 86) 2 (dX6_chosen 42 rfl rfl) rfl rfl ?_
    obtain ⟨k11, hf⟩ := hf
    obtain ⟨b12, e13, hf⟩ := hf
    refine x_getR (pc' := 89) (dX6_chosen 43 rfl rfl) g317 q1499 (Or.inl rfl) rfl (hf_of 28 k11 rfl (by decide) m28_317) e13 ?_
    refine x_iload (pc' := 91) 4 (dX6_chosen 44 rfl rfl) rfl rfl ?_
    obtain ⟨k14, hf⟩ := hf
    obtain ⟨i15, hf⟩ := hf
    obtain ⟨b16, e17, hf⟩ := hf
    refine x_aald (pc' := 92) (t := 8) (C := "LetMill$Pat") (dX6_chosen 45 rfl rfl) rfl (by decide) rfl k14 i15 e17 ?_
    refine x_aload_n (pc' := 93) 0 (dX6_chosen 46 rfl rfl) rfl rfl rfl ?_
    refine x_aload_n (pc' := 94) 0 (dX6_chosen 47 rfl rfl) rfl rfl rfl ?_
    refine x_getR (pc' := 97) (dX6_chosen 48 rfl rfl) g66 q615 (Or.inl rfl) rfl (hf_of 4 s3.1 rfl (by decide) m4_66) (s3.2 8 _ rfl rfl).1 ?_
    refine x_iload (pc' := 99) 4 (dX6_chosen 49 rfl rfl) rfl rfl ?_
    obtain ⟨i18, hf⟩ := hf
    refine x_iald (pc' := 100) (dX6_chosen 50 rfl rfl) rfl (s3.2 8 _ rfl rfl).2.1 (by rw [(s3.2 8 _ rfl rfl).2.2.2 (by decide)]; exact i18) ?_
    refine x_iload (pc' := 102) 3 (dX6_chosen 51 rfl rfl) rfl rfl ?_
    obtain ⟨k, ν, ⟨v0, v1, v2, v3, v4, v5, v6, v7⟩, k23, hf⟩ := hf
    refine x_inv (pc' := 105) (ν := ν) (st := []) rfl (sub_tr v7 rfl) (dX6_chosen 52 rfl rfl) (by have := v5; simp only [List.map, List.sum_cons, List.sum_nil, Value.category]; omega) v1 v2 (inv_O (ξ := mX19_bind) (k := k) (av := [_, _, _]) (dX6_chosen 52 rfl rfl) q3165 q3167 q3166 q3195 v3 v4 (by decide) lX19_bind v0 k23) (exN v6) rfl ?_
    refine C.mono hf (fun _ _ => KI.g (fun x21 h19 hf le20 => ?_))
    replace le20 := Le.nx v6 le20
    have k11 := leK le20 k11 (by decide)
    have k14 := leK le20 k14 (by decide)
    replace s3 := s3.le sc3 (le20)
    refine x_istore (pc' := 107) (dX6_chosen 53 rfl rfl) (by decide) rfl rfl ?_
    replace hf := hf _ rfl
    refine x_iinc (pc' := 110) 4 (dX6_chosen 54 rfl rfl) rfl (by rfl) (by decide) rfl rfl ?_
    refine x_goto (tgt := 78) (dX6_chosen 55 rfl rfl) (by decide) ?_
    exact X.sub [2, 3, 4, 1, 0] rfl (by simp) hf
