set_option maxRecDepth 100000
theorem bX11_variables (G : Gh) (d : Nat) (h : AH) (Q : Outcome → AH → Prop)  (s6 : So 6 (gW G) h) (hf : Q (.returned (some (.ref (gW G 1113)))) h) : C G mX11_variables d [.ref (gW G 6)] h Q := by
  refine C.of_X (by decide +kernel) (Nat.le_of_ble_eq_true rfl) wX11_variables ?_
  show X G mX11_variables d none [] 0 [(0, .ref (gW G 6))] [] h Q
  refine x_aload_n (pc' := 1) 0 (dX11_variables 0 rfl rfl) rfl rfl rfl ?_
  refine x_getR (pc' := 4) (dX11_variables 1 rfl rfl) g113 q838 (Or.inl rfl) rfl (hf_of 9 s6.1 rfl (by decide) m9_113) (s6.2 3 _ rfl rfl).1 ?_
  exact x_aret (dX11_variables 2 rfl rfl) rfl (Or.inr ⟨_, rfl⟩) (Or.inr ⟨_, rfl⟩) hf
theorem bX11_variable (G : Gh) (d : Nat) (h : AH) (Q : Outcome → AH → Prop) (p1 : Int32) (s6 : So 6 (gW G) h) (hf : vp_in p1 6 ∧ (Q (.returned (some (.int (aI h (gW G 1113) p1.toNatClampNeg)))) h)) : C G mX11_variable d [.ref (gW G 6), .int (p1)] h Q := by
  refine C.of_X (by decide +kernel) (Nat.le_of_ble_eq_true rfl) wX11_variable ?_
  show X G mX11_variable d none [] 0 [(0, .ref (gW G 6)), (1, .int (p1))] [] h Q
  refine x_aload_n (pc' := 1) 0 (dX11_variable 0 rfl rfl) rfl rfl rfl ?_
  refine x_getR (pc' := 4) (dX11_variable 1 rfl rfl) g113 q838 (Or.inl rfl) rfl (hf_of 9 s6.1 rfl (by decide) m9_113) (s6.2 3 _ rfl rfl).1 ?_
  refine x_iload_n (pc' := 5) 1 (dX11_variable 2 rfl rfl) rfl rfl rfl ?_
  obtain ⟨i1, hf⟩ := hf
  refine x_iald (pc' := 6) (dX11_variable 3 rfl rfl) rfl (s6.2 3 _ rfl rfl).2.1 (by rw [(s6.2 3 _ rfl rfl).2.2.2 (by decide)]; exact i1) ?_
  exact x_iret (dX11_variable 4 rfl rfl) rfl hf
theorem bX11_push (G : Gh) (d : Nat) (h : AH) (Q : Outcome → AH → Prop) (p1 : Nat) (s6 : So 6 (gW G) h) (hf : ∃ b1, fR h (gW G 6) 111 = some b1 ∧ (hK h b1 = 1007 ∧ (((fI h (gW G 6) 112) = (Int32.ofNat (hL h b1)) → ((¬ (2 * (fI h (gW G 6) 112) : Int32) < 0) ∧ (hc h + 1 ≤ MC) ∧ (hs h + (2 * (fI h (gW G 6) 112) : Int32).toNatClampNeg ≤ MS) ∧ ∀ q15, hK h q15 = 0 → ∀ h17, h17 = nA h q15 7 (2 * (fI h (gW G 6) 112) : Int32).toNatClampNeg → (X G mX11_push d none [] 24 [(0, .ref (gW G 6)), (1, .ref (p1)), (2, .ref (q15)), (3, .int (0))] [] h17 Q))) ∧ (¬ ((fI h (gW G 6) 112) = (Int32.ofNat (hL h b1))) → (∃ b5, fR h (gW G 6) 111 = some b5 ∧ (hK h b5 = 1007 ∧ Ns (gW G) b5 ∧ vp_in (fI h (gW G 6) 112) (hL h b5) ∧ AOK G h p1 7 "LetMill$Binding" ∧ ∀ h9, h9 = sR h b5 (fI h (gW G 6) 112).toNatClampNeg (some p1) → (∀ h12, h12 = pI h9 (gW G 6) 112 ((fI h9 (gW G 6) 112) + 1) → (Q (.returned none) h12)))))))) : C G mX11_push d [.ref (gW G 6), .ref (p1)] h Q := by
  refine C.of_X (by decide +kernel) (Nat.le_of_ble_eq_true rfl) wX11_push ?_
  show X G mX11_push d none [] 0 [(0, .ref (gW G 6)), (1, .ref (p1))] [] h Q
  refine x_aload_n (pc' := 1) 0 (dX11_push 0 rfl rfl) rfl rfl rfl ?_
  refine x_getI (pc' := 4) (dX11_push 1 rfl rfl) g112 q834 (Or.inl rfl) rfl (hf_of 9 s6.1 rfl (by decide) m9_112) ?_
  refine x_aload_n (pc' := 5) 0 (dX11_push 2 rfl rfl) rfl rfl rfl ?_
  obtain ⟨b1, e2, hf⟩ := hf
  refine x_getR (pc' := 8) (dX11_push 3 rfl rfl) g111 q832 (Or.inl rfl) rfl (hf_of 9 s6.1 rfl (by decide) m9_111) e2 ?_
  obtain ⟨k3, hf⟩ := hf
  refine x_alen (pc' := 9) (t := 7) (ty := .object "LetMill$Binding") (dX11_push 4 rfl rfl) rfl rfl k3 ?_
  refine x_icmp_ne (pc' := 12) (tgt := 52) (dX11_push 5 rfl rfl) (by decide) rfl (fun c4 => ?_) (fun c4 => ?_)
  · replace hf := hf.2 c4
    refine x_aload_n (pc' := 53) 0 (dX11_push 30 rfl rfl) rfl rfl rfl ?_
    obtain ⟨b5, e6, hf⟩ := hf
    refine x_getR (pc' := 56) (dX11_push 31 rfl rfl) g111 q832 (Or.inl rfl) rfl (hf_of 9 s6.1 rfl (by decide) m9_111) e6 ?_
    refine x_aload_n (pc' := 57) 0 (dX11_push 32 rfl rfl) rfl rfl rfl ?_
    refine x_getI (pc' := 60) (dX11_push 33 rfl rfl) g112 q834 (Or.inl rfl) rfl (hf_of 9 s6.1 rfl (by decide) m9_112) ?_
    refine x_aload_n (pc' := 61) 1 (dX11_push 34 rfl rfl) rfl rfl rfl ?_
    obtain ⟨k7, hf⟩ := hf
    obtain ⟨n11, hf⟩ := hf
    obtain ⟨i8, hf⟩ := hf
    obtain ⟨o14, hf⟩ := hf
    refine x_aast (pc' := 62) (t := 7) (E := "LetMill$Binding") (dX11_push 35 rfl rfl) rfl (by decide) rfl (by decide) k7 (Or.inr ⟨n11, by decide⟩) i8 o14 (fun h9 e10 => ?_)
    replace hf := hf h9 e10
    replace k3 : hK h9 b1 = 1007 := by rw [e10]; exact k3
    replace k7 : hK h9 b5 = 1007 := by rw [e10]; exact k7
    replace s6 : So 6 (gW G) h9 := by rw [e10]; exact s6.le sc6 (sR_le )
    refine x_aload_n (pc' := 63) 0 (dX11_push 36 rfl rfl) rfl rfl rfl ?_
    refine x_dup (pc' := 64) (dX11_push 37 rfl rfl) rfl rfl ?_
    refine x_getI (pc' := 67) (dX11_push 38 rfl rfl) g112 q834 (Or.inl rfl) rfl (hf_of 9 s6.1 rfl (by decide) m9_112) ?_
    refine x_iconst (pc' := 68) (v := 1) (dX11_push 39 rfl rfl) (by decide) rfl ?_
    refine x_iadd (pc' := 69) (dX11_push 40 rfl rfl) rfl ?_
    refine x_putI (pc' := 72) (dX11_push 41 rfl rfl) g112 q834 (Or.inl rfl) (Or.inl rfl) (Or.inl (by decide)) rfl (hf_of 9 s6.1 rfl (by decide) m9_112) (fun h12 e13 => ?_)
    replace hf := hf h12 e13
    replace k3 : hK h12 b1 = 1007 := by rw [e13]; exact k3
    replace k7 : hK h12 b5 = 1007 := by rw [e13]; exact k7
    replace s6 : So 6 (gW G) h12 := by rw [e13]; exact s6.le sc6 (pI_le (Or.inl rfl))
    exact x_vret (dX11_push 42 rfl rfl) rfl hf
  · replace hf := hf.1 (Classical.not_not.mp c4)
    replace c4 := Classical.not_not.mp c4
    refine x_iconst (pc' := 13) (v := 2) (dX11_push 6 rfl rfl) (by decide) rfl ?_
    refine x_aload_n (pc' := 14) 0 (dX11_push 7 rfl rfl) rfl rfl rfl ?_
    refine x_getI (pc' := 17) (dX11_push 8 rfl rfl) g112 q834 (Or.inl rfl) rfl (hf_of 9 s6.1 rfl (by decide) m9_112) ?_
    refine x_imul (pc' := 18) (dX11_push 9 rfl rfl) rfl ?_
    obtain ⟨z19, n1, n2, hf⟩ := hf
    refine x_newq (pc' := 21) (t := 7) (E := "LetMill$Binding") (dX11_push 10 rfl rfl) q795 (by decide) (by decide) rfl rfl z19 (by decide) n1 n2 (fun q15 h17 k16 e18 => ?_)
    replace hf := hf q15 k16 h17 e18
    replace k3 : hK h17 b1 = 1007 := by rw [e18]; exact kNA k3 (by decide) k16
    replace s6 : So 6 (gW G) h17 := by rw [e18]; exact s6.le sc6 (nA_le k16)
    have k20 : hK h17 q15 = 1007 := by rw [e18]; exact kNAs
    refine x_astore_n (pc' := 22) (dX11_push 11 rfl rfl) rfl (by decide) rfl rfl ?_
    refine x_iconst (pc' := 23) (v := 0) (dX11_push 12 rfl rfl) (by decide) rfl ?_
    refine x_istore_n (pc' := 24) (dX11_push 13 rfl rfl) rfl (by decide) rfl rfl ?_
    exact X.sub [2, 3, 1, 0] rfl (by simp) hf
theorem bX11_push_24 (G : Gh) (d : Nat) (h : AH) (Q : Outcome → AH → Prop) (l1 : Nat) (l2 : Nat) (l3 : Int32) (s6 : So 6 (gW G) h) (hf : ((fI h (gW G 6) 112) ≤ l3 → (∀ h2, h2 = pR h (gW G 6) 111 (some l2) → (∃ b3, fR h2 (gW G 6) 111 = some b3 ∧ (hK h2 b3 = 1007 ∧ Ns (gW G) b3 ∧ vp_in (fI h2 (gW G 6) 112) (hL h2 b3) ∧ AOK G h2 l1 7 "LetMill$Binding" ∧ ∀ h7, h7 = sR h2 b3 (fI h2 (gW G 6) 112).toNatClampNeg (some l1) → (∀ h10, h10 = pI h7 (gW G 6) 112 ((fI h7 (gW G 6) 112) + 1) → (Q (.returned none) h10)))))) ∧ (¬ ((fI h (gW G 6) 112) ≤ l3) → (∃ b14, fR h (gW G 6) 111 = some b14 ∧ (hK h b14 = 1007 ∧ vp_in l3 (hL h b14) ∧ ∃ b18, aR h b14 l3.toNatClampNeg = some b18 ∧ (hK h l2 = 1007 ∧ Ns (gW G) l2 ∧ vp_in l3 (hL h l2) ∧ AOK G h b18 7 "LetMill$Binding" ∧ ∀ h22, h22 = sR h l2 l3.toNatClampNeg (some b18) → (∀ x25 : Int32, x25 = l3 + 1 → (X G mX11_push d none [] 24 [(0, .ref (gW G 6)), (1, .ref (l1)), (2, .ref (l2)), (3, .int (x25))] [] h22 Q))))))) : X G mX11_push d none [] 24 [(0, .ref (gW G 6)), (1, .ref (l1)), (2, .ref (l2)), (3, .int (l3))] [] h Q := by
  refine x_iload_n (pc' := 25) 3 (dX11_push 14 rfl rfl) rfl rfl rfl ?_
  refine x_aload_n (pc' := 26) 0 (dX11_push 15 rfl rfl) rfl rfl rfl ?_
  refine x_getI (pc' := 29) (dX11_push 16 rfl rfl) g112 q834 (Or.inl rfl) rfl (hf_of 9 s6.1 rfl (by decide) m9_112) ?_
  refine x_icmp_ge (pc' := 32) (tgt := 47) (dX11_push 17 rfl rfl) (by decide) rfl (fun c1 => ?_) (fun c1 => ?_)
  · replace hf := hf.1 c1
    refine x_aload_n (pc' := 48) 0 (dX11_push 27 rfl rfl) rfl rfl rfl ?_
    refine x_aload_n (pc' := 49) 2 (dX11_push 28 rfl rfl) rfl rfl rfl ?_
    refine x_putR (pc' := 52) (dX11_push 29 rfl rfl) g111 q832 (Or.inl rfl) (Or.inl rfl) (Or.inl (by decide)) rfl (hf_of 9 s6.1 rfl (by decide) m9_111) (fun h2 e13 => ?_)
    replace hf := hf h2 e13
    replace s6 : So 6 (gW G) h2 := by rw [e13]; exact s6.le sc6 (pR_le (Or.inl rfl))
    refine x_aload_n (pc' := 53) 0 (dX11_push 30 rfl rfl) rfl rfl rfl ?_
    obtain ⟨b3, e4, hf⟩ := hf
    refine x_getR (pc' := 56) (dX11_push 31 rfl rfl) g111 q832 (Or.inl rfl) rfl (hf_of 9 s6.1 rfl (by decide) m9_111) e4 ?_
    refine x_aload_n (pc' := 57) 0 (dX11_push 32 rfl rfl) rfl rfl rfl ?_
    refine x_getI (pc' := 60) (dX11_push 33 rfl rfl) g112 q834 (Or.inl rfl) rfl (hf_of 9 s6.1 rfl (by decide) m9_112) ?_
    refine x_aload_n (pc' := 61) 1 (dX11_push 34 rfl rfl) rfl rfl rfl ?_
    obtain ⟨k5, hf⟩ := hf
    obtain ⟨n9, hf⟩ := hf
    obtain ⟨i6, hf⟩ := hf
    obtain ⟨o12, hf⟩ := hf
    refine x_aast (pc' := 62) (t := 7) (E := "LetMill$Binding") (dX11_push 35 rfl rfl) rfl (by decide) rfl (by decide) k5 (Or.inr ⟨n9, by decide⟩) i6 o12 (fun h7 e8 => ?_)
    replace hf := hf h7 e8
    replace k5 : hK h7 b3 = 1007 := by rw [e8]; exact k5
    replace s6 : So 6 (gW G) h7 := by rw [e8]; exact s6.le sc6 (sR_le )
    refine x_aload_n (pc' := 63) 0 (dX11_push 36 rfl rfl) rfl rfl rfl ?_
    refine x_dup (pc' := 64) (dX11_push 37 rfl rfl) rfl rfl ?_
    refine x_getI (pc' := 67) (dX11_push 38 rfl rfl) g112 q834 (Or.inl rfl) rfl (hf_of 9 s6.1 rfl (by decide) m9_112) ?_
    refine x_iconst (pc' := 68) (v := 1) (dX11_push 39 rfl rfl) (by decide) rfl ?_
    refine x_iadd (pc' := 69) (dX11_push 40 rfl rfl) rfl ?_
    refine x_putI (pc' := 72) (dX11_push 41 rfl rfl) g112 q834 (Or.inl rfl) (Or.inl rfl) (Or.inl (by decide)) rfl (hf_of 9 s6.1 rfl (by decide) m9_112) (fun h10 e11 => ?_)
    replace hf := hf h10 e11
    replace k5 : hK h10 b3 = 1007 := by rw [e11]; exact k5
    replace s6 : So 6 (gW G) h10 := by rw [e11]; exact s6.le sc6 (pI_le (Or.inl rfl))
    exact x_vret (dX11_push 42 rfl rfl) rfl hf
  · replace hf := hf.2 c1
    refine x_aload_n (pc' := 33) 2 (dX11_push 18 rfl rfl) rfl rfl rfl ?_
    refine x_iload_n (pc' := 34) 3 (dX11_push 19 rfl rfl) rfl rfl rfl ?_
    refine x_aload_n (pc' := 35) 0 (dX11_push 20 rfl rfl) rfl rfl rfl ?_
    obtain ⟨b14, e15, hf⟩ := hf
    refine x_getR (pc' := 38) (dX11_push 21 rfl rfl) g111 q832 (Or.inl rfl) rfl (hf_of 9 s6.1 rfl (by decide) m9_111) e15 ?_
    refine x_iload_n (pc' := 39) 3 (dX11_push 22 rfl rfl) rfl rfl rfl ?_
    obtain ⟨k16, hf⟩ := hf
    obtain ⟨i17, hf⟩ := hf
    obtain ⟨b18, e19, hf⟩ := hf
    refine x_aald (pc' := 40) (t := 7) (C := "LetMill$Binding") (dX11_push 23 rfl rfl) rfl (by decide) rfl k16 i17 e19 ?_
    obtain ⟨k20, hf⟩ := hf
    obtain ⟨n24, hf⟩ := hf
    obtain ⟨i21, hf⟩ := hf
    obtain ⟨o26, hf⟩ := hf
    refine x_aast (pc' := 41) (t := 7) (E := "LetMill$Binding") (dX11_push 24 rfl rfl) rfl (by decide) rfl (by decide) k20 (Or.inr ⟨n24, by decide⟩) i21 o26 (fun h22 e23 => ?_)
    replace hf := hf h22 e23
    replace k16 : hK h22 b14 = 1007 := by rw [e23]; exact k16
    replace k20 : hK h22 l2 = 1007 := by rw [e23]; exact k20
    replace s6 : So 6 (gW G) h22 := by rw [e23]; exact s6.le sc6 (sR_le )
    replace hf := hf _ rfl
    refine x_iinc (pc' := 44) 3 (dX11_push 25 rfl rfl) rfl (by rfl) (by decide) rfl rfl ?_
    refine x_goto (tgt := 24) (dX11_push 26 rfl rfl) (by decide) ?_
    exact X.sub [1, 2, 3, 0] rfl (by simp) hf
theorem bX11_match (G : Gh) (d : Nat) (h : AH) (Q : Outcome → AH → Prop) (p1 : Nat) (p2 : Nat) (hf : ∀ x1 : Int32, x1 = (-1) → (X G mX11_match (d + 1) none [] 5 [(0, .ref (gW G 6)), (1, .ref (p1)), (2, .ref (p2)), (3, .int (x1)), (4, .int (0))] [] h Q)) : C G mX11_match (d + 1) [.ref (gW G 6), .ref (p1), .ref (p2)] h Q := by
  refine C.of_X (by decide +kernel) (Nat.le_of_ble_eq_true rfl) wX11_match ?_
  show X G mX11_match (d + 1) none [] 0 [(0, .ref (gW G 6)), (1, .ref (p1)), (2, .ref (p2))] [] h Q
  refine x_iconst (pc' := 1) (v := -1) (dX11_match 0 rfl rfl) (by decide) rfl ?_
  replace hf := hf _ rfl
  refine x_istore_n (pc' := 2) (dX11_match 1 rfl rfl) rfl (by decide) rfl rfl ?_
  refine x_iconst (pc' := 3) (v := 0) (dX11_match 2 rfl rfl) (by decide) rfl ?_
  refine x_istore (pc' := 5) (dX11_match 3 rfl rfl) (by decide) rfl rfl ?_
  exact X.sub [2, 3, 4, 1, 0] rfl (by simp) hf
theorem bX11_match_5 (G : Gh) (d : Nat) (h : AH) (Q : Outcome → AH → Prop) (l1 : Nat) (l2 : Nat) (l3 : Int32) (l4 : Int32) (s6 : So 6 (gW G) h) (hf : hK h l1 = 6 ∧ (((fI h l1 78) ≤ l4 → (Q (.returned (some (.int l3))) h)) ∧ (¬ ((fI h l1 78) ≤ l4) → (C G mX7_clause d [.ref (l1), .int (l4)] h (KR Q (fun b5 h3 => C G mX11_clause d [.ref (gW G 6), .ref (b5), .ref (l2)] h3 (KI Q (fun x8 h6 => (0 ≤ l3 → (hK h6 b5 = 29 ∧ (∃ b11, fR h6 b5 318 = some b11 ∧ (HF h6 b11 296 0 ∧ (C G mX11_same d [.ref (gW G 6), .int (x8), .int (l3), .int (fI h6 b11 296)] h6 (KV Q (fun h14 => ∀ x16 : Int32, x16 = l4 + 1 → (X G mX11_match (d + 1) none [] 5 [(0, .ref (gW G 6)), (1, .ref (l1)), (2, .ref (l2)), (3, .int (l3)), (4, .int (x16))] [] h14 Q)))))))) ∧ (¬ (0 ≤ l3) → (∀ x17 : Int32, x17 = l4 + 1 → (X G mX11_match (d + 1) none [] 5 [(0, .ref (gW G 6)), (1, .ref (l1)), (2, .ref (l2)), (3, .int (x8)), (4, .int (x17))] [] h6 Q))))))))))) : X G mX11_match (d + 1) none [] 5 [(0, .ref (gW G 6)), (1, .ref (l1)), (2, .ref (l2)), (3, .int (l3)), (4, .int (l4))] [] h Q := by
  refine x_iload (pc' := 7) 4 (dX11_match 4 rfl rfl) rfl rfl ?_
  refine x_aload_n (pc' := 8) 1 (dX11_match 5 rfl rfl) rfl rfl rfl ?_
  obtain ⟨k1, hf⟩ := hf
  refine x_getI (pc' := 11) (dX11_match 6 rfl rfl) g78 q577 (Or.inl rfl) rfl (hf_of 5 k1 rfl (by decide) m5_78) ?_
  refine x_icmp_ge (pc' := 14) (tgt := 62) (dX11_match 7 rfl rfl) (by decide) rfl (fun c2 => ?_) (fun c2 => ?_)
  · replace hf := hf.1 c2
    refine x_iload_n (pc' := 63) 3 (dX11_match 31 rfl rfl) rfl rfl rfl ?_
    exact x_iret (dX11_match 32 rfl rfl) rfl hf
  · replace hf := hf.2 c2
    refine x_aload_n (pc' := 15) 1 (dX11_match 8 rfl rfl) rfl rfl rfl ?_
    refine x_iload (pc' := 17) 4 (dX11_match 9 rfl rfl) rfl rfl ?_
    refine x_inv (pc' := 20) (ν := mX7_clause) (av := [_, _]) (st := []) rfl rfl (dX11_match 10 rfl rfl) (Nat.le_of_ble_eq_true rfl) wX7_clause q221 (inv_V (k := 5) (dX11_match 10 rfl rfl) q2429 q2197 q2198 wX7_clause (by decide) lX7_clause (by decide) k1) (exN (by decide)) rfl ?_
    refine C.mono hf (fun _ _ => KR.g (fun b5 h3 hf le4 => ?_))
    have k1 := leK le4 k1 (by decide)
    replace s6 := s6.le sc6 (le4)
    refine x_astore (pc' := 22) (dX11_match 11 rfl rfl) (by decide) rfl rfl ?_
    refine x_aload_n (pc' := 23) 1 (dX11_match 12 rfl rfl) rfl rfl rfl ?_
    refine x_aload (pc' := 25) 0 (dX11_match 13 rfl rfl) rfl rfl ?_
    refine x_aload_n (pc' := 26) 3 (dX11_match 14 rfl rfl) rfl rfl rfl ?_
    refine x_inv (pc' := 29) (ν := mX11_clause) (av := [_, _, _]) (st := []) rfl rfl (dX11_match 15 rfl rfl) (Nat.le_of_ble_eq_true rfl) wX11_clause q225 (inv_V (k := 9) (dX11_match 15 rfl rfl) q2430 q2431 q2432 wX11_clause (by decide) lX11_clause (by decide) s6.1) (exN (by decide)) rfl ?_
    refine C.mono hf (fun _ _ => KI.g (fun x8 h6 hf le7 => ?_))
    have k1 := leK le7 k1 (by decide)
    replace s6 := s6.le sc6 (le7)
    refine x_istore (pc' := 31) (dX11_match 16 rfl rfl) (by decide) rfl rfl ?_
    refine x_iload_n (pc' := 32) 5 (dX11_match 17 rfl rfl) rfl rfl rfl ?_
    refine x_if_ge (pc' := 35) (tgt := 41) (dX11_match 18 rfl rfl) (by decide) rfl (fun c9 => ?_) (fun c9 => ?_)
    · replace hf := hf.1 c9
      refine x_aload_n (pc' := 42) 2 (dX11_match 22 rfl rfl) rfl rfl rfl ?_
      refine x_iload (pc' := 44) 0 (dX11_match 23 rfl rfl) rfl rfl ?_
      refine x_iload_n (pc' := 45) 5 (dX11_match 24 rfl rfl) rfl rfl rfl ?_
      refine x_aload (pc' := 47) 1 (dX11_match 25 rfl rfl) rfl rfl ?_
      obtain ⟨k10, hf⟩ := hf
      obtain ⟨b11, e12, hf⟩ := hf
      refine x_getR (pc' := 50) (dX11_match 26 rfl rfl) g318 q1501 (Or.inl rfl) rfl (hf_of 28 k10 rfl (by decide) m28_318) e12 ?_
      obtain ⟨u13, hf⟩ := hf
      refine x_getI (pc' := 53) (dX11_match 27 rfl rfl) g296 q1543 (Or.inl rfl) rfl u13 ?_
      refine x_inv (pc' := 56) (ν := mX11_same) (av := [_, _, _, _]) (st := []) rfl rfl (dX11_match 28 rfl rfl) (Nat.le_of_ble_eq_true rfl) wX11_same q225 (inv_V (k := 9) (dX11_match 28 rfl rfl) q2509 q2483 q2484 wX11_same (by decide) lX11_same (by decide) s6.1) (exN (by decide)) rfl ?_
      refine C.mono hf (fun _ _ => KV.g (fun h14 hf le15 => ?_))
      have k1 := leK le15 k1 (by decide)
      have k10 := leK le15 k10 (by decide)
      replace s6 := s6.le sc6 (le15)
      replace hf := hf _ rfl
      refine x_iinc (pc' := 59) 6 (dX11_match 29 rfl rfl) rfl (by rfl) (by decide) rfl rfl ?_
      refine x_goto (tgt := 5) (dX11_match 30 rfl rfl) (by decide) ?_
      exact X.sub [3, 4, 5, 6, 0] rfl (by simp) hf
    · replace hf := hf.2 c9
      refine x_iload (pc' := 37) 0 (dX11_match 19 rfl rfl) rfl rfl ?_
      refine x_istore_n (pc' := 38) (dX11_match 20 rfl rfl) rfl (by decide) rfl rfl ?_
      refine x_goto (tgt := 56) (dX11_match 21 rfl rfl) (by decide) ?_
      replace hf := hf _ rfl
      refine x_iinc (pc' := 59) 6 (dX11_match 29 rfl rfl) rfl (by rfl) (by decide) rfl rfl ?_
      refine x_goto (tgt := 5) (dX11_match 30 rfl rfl) (by decide) ?_
      exact X.sub [4, 5, 6, 1, 0] rfl (by simp) hf
theorem bX11_clause (G : Gh) (d : Nat) (h : AH) (Q : Outcome → AH → Prop) (p1 : Nat) (p2 : Nat) (s6 : So 6 (gW G) h) (hf : ∀ x1 : Int32, x1 = fI h (gW G 6) 112 → (X G mX11_clause (d + 1) none [] 8 [(0, .ref (gW G 6)), (1, .ref (p1)), (2, .ref (p2)), (3, .int (x1)), (4, .int (0))] [] h Q)) : C G mX11_clause (d + 1) [.ref (gW G 6), .ref (p1), .ref (p2)] h Q := by
  refine C.of_X (by decide +kernel) (Nat.le_of_ble_eq_true rfl) wX11_clause ?_
  show X G mX11_clause (d + 1) none [] 0 [(0, .ref (gW G 6)), (1, .ref (p1)), (2, .ref (p2))] [] h Q
  refine x_aload_n (pc' := 1) 0 (dX11_clause 0 rfl rfl) rfl rfl rfl ?_
  refine x_getI (pc' := 4) (dX11_clause 1 rfl rfl) g112 q834 (Or.inl rfl) rfl (hf_of 9 s6.1 rfl (by decide) m9_112) ?_
  replace hf := hf _ rfl
  refine x_istore_n (pc' := 5) (dX11_clause 2 rfl rfl) rfl (by decide) rfl rfl ?_
  refine x_iconst (pc' := 6) (v := 0) (dX11_clause 3 rfl rfl) (by decide) rfl ?_
  refine x_istore (pc' := 8) (dX11_clause 4 rfl rfl) (by decide) rfl rfl ?_
  exact X.sub [2, 3, 4, 1, 0] rfl (by simp) hf
theorem bX11_clause_8 (G : Gh) (d : Nat) (h : AH) (Q : Outcome → AH → Prop) (l1 : Nat) (l2 : Nat) (l3 : Int32) (l4 : Int32) (s6 : So 6 (gW G) h) (hf : hK h l1 = 29 ∧ (∃ b2, fR h l1 317 = some b2 ∧ (hK h b2 = 1008 ∧ (((Int32.ofNat (hL h b2)) ≤ l4 → (∃ b6, fR h l1 318 = some b6 ∧ (∃ (k : Nat) (ν : Mu), VT ⟨"LetMill$Exp", "infer", "(LLetMill$Typer;)I"⟩ VMExp_infer k ν ∧ hK h b6 = k + 1 ∧ C G ν d [.ref (b6), .ref (gW G 6)] h (KI Q (fun x10 h8 => ∀ h11, h11 = pI h8 (gW G 6) 112 l3 → (Q (.returned (some (.int x10))) h11)))))) ∧ (¬ ((Int32.ofNat (hL h b2)) ≤ l4) → (∃ b16, fR h l1 317 = some b16 ∧ (hK h b16 = 1008 ∧ vp_in l4 (hL h b16) ∧ ∃ b20, aR h b16 l4.toNatClampNeg = some b20 ∧ (∃ (k : Nat) (ν : Mu), VT ⟨"LetMill$Pat", "infer", "(LLetMill$Typer;)I"⟩ VMPat_infer k ν ∧ hK h b20 = k + 1 ∧ C G ν d [.ref (b20), .ref (gW G 6)] h (KI Q (fun x24 h22 => hK h22 l2 = 1000 ∧ vp_in l4 (hL h22 l2) ∧ ((0 ≤ (aI h22 l2 l4.toNatClampNeg) → (vp_in l4 (hL h22 l2) ∧ (∃ b29, fR h22 l1 317 = some b29 ∧ (hK h22 b29 = 1008 ∧ vp_in l4 (hL h22 b29) ∧ ∃ b33, aR h22 b29 l4.toNatClampNeg = some b33 ∧ (HF h22 b33 302 0 ∧ (C G mX11_same d [.ref (gW G 6), .int (x24), .int (aI h22 l2 l4.toNatClampNeg), .int (fI h22 b33 302)] h22 (KV Q (fun h36 => ∀ x38 : Int32, x38 = l4 + 1 → (X G mX11_clause (d + 1) none [] 8 [(0, .ref (gW G 6)), (1, .ref (l1)), (2, .ref (l2)), (3, .int (l3)), (4, .int (x38))] [] h36 Q))))))))) ∧ (¬ (0 ≤ (aI h22 l2 l4.toNatClampNeg)) → (Ns (gW G) l2 ∧ vp_in l4 (hL h22 l2) ∧ ∀ h40, h40 = sI h22 l2 l4.toNatClampNeg x24 → (∀ x43 : Int32, x43 = l4 + 1 → (X G mX11_clause (d + 1) none [] 8 [(0, .ref (gW G 6)), (1, .ref (l1)), (2, .ref (l2)), (3, .int (l3)), (4, .int (x43))] [] h40 Q))))))))))))))) : X G mX11_clause (d + 1) none [] 8 [(0, .ref (gW G 6)), (1, .ref (l1)), (2, .ref (l2)), (3, .int (l3)), (4, .int (l4))] [] h Q := by
  refine x_iload (pc' := 10) 4 (dX11_clause 5 rfl rfl) rfl rfl ?_
  refine x_aload_n (pc' := 11) 1 (dX11_clause 6 rfl rfl) rfl rfl rfl ?_
  obtain ⟨k1, hf⟩ := hf
  obtain ⟨b2, e3, hf⟩ := hf
  refine x_getR (pc' := 14) (dX11_clause 7 rfl rfl) g317 q1496 (Or.inl rfl) rfl (hf_of 28 k1 rfl (by decide) m28_317) e3 ?_
  obtain ⟨k4, hf⟩ := hf
  refine x_alen (pc' := 15) (t := 8) (ty := .object "LetMill$Pat") (dX11_clause 8 rfl rfl) rfl rfl k4 ?_
  refine x_icmp_ge (pc' := 18) (tgt := 73) (dX11_clause 9 rfl rfl) (by decide) rfl (fun c5 => ?_) (fun c5 => ?_)
  · replace hf := hf.1 c5
    refine x_aload_n (pc' := 74) 1 (dX11_clause 39 rfl rfl) rfl rfl rfl ?_
    obtain ⟨b6, e7, hf⟩ := hf
    refine x_getR (pc' := 77) (dX11_clause 40 rfl rfl) g318 q1501 (Or.inl rfl) rfl (hf_of 28 k1 rfl (by decide) m28_318) e7 ?_
    refine x_aload_n (pc' := 78) 0 (dX11_clause 41 rfl rfl) rfl rfl rfl ?_
    obtain ⟨k, ν, ⟨v0, v1, v2, v3, v4, v5, v6, v7⟩, k13, hf⟩ := hf
    refine x_inv (pc' := 81) (ν := ν) (st := []) rfl (sub_tr v7 rfl) (dX11_clause 42 rfl rfl) (by have := v5; simp only [List.map, List.sum_cons, List.sum_nil, Value.category]; omega) v1 v2 (inv_U (k := k) (av := [_]) (dX11_clause 42 rfl rfl) q2510 q2512 (by decide) v3 v4 (by decide) (show _ = some 1 by decide +kernel) v0 k13) (exN v6) rfl ?_
    refine C.mono hf (fun _ _ => KI.g (fun x10 h8 hf le9 => ?_))
    replace le9 := Le.nx v6 le9
    have k1 := leK le9 k1 (by decide)
    have k4 := leK le9 k4 (by decide)
    replace s6 := s6.le sc6 (le9)
    refine x_istore (pc' := 83) (dX11_clause 43 rfl rfl) (by decide) rfl rfl ?_
    refine x_aload_n (pc' := 84) 1 (dX11_clause 44 rfl rfl) rfl rfl rfl ?_
    refine x_iload_n (pc' := 85) 4 (dX11_clause 45 rfl rfl) rfl rfl rfl ?_
    refine x_putI (pc' := 88) (dX11_clause 46 rfl rfl) g112 q834 (Or.inl rfl) (Or.inl rfl) (Or.inl (by decide)) rfl (hf_of 9 s6.1 rfl (by decide) m9_112) (fun h11 e12 => ?_)
    replace hf := hf h11 e12
    replace k1 : hK h11 l1 = 29 := by rw [e12]; exact k1
    replace k4 : hK h11 b2 = 1008 := by rw [e12]; exact k4
    replace s6 : So 6 (gW G) h11 := by rw [e12]; exact s6.le sc6 (pI_le (Or.inl rfl))
    refine x_iload (pc' := 90) 0 (dX11_clause 47 rfl rfl) rfl rfl ?_
    exact x_iret (dX11_clause 48 rfl rfl) rfl hf
  · replace hf := hf.2 c5
    refine x_aload_n (pc' := 19) 1 (dX11_clause 10 rfl rfl) rfl rfl rfl ?_
    obtain ⟨b16, e17, hf⟩ := hf
    refine x_getR (pc' := 22) (dX11_clause 11 rfl rfl) g317 q1496 (Or.inl rfl) rfl (hf_of 28 k1 rfl (by decide) m28_317) e17 ?_
    refine x_iload (pc' := 24) 4 (dX11_clause 12 rfl rfl) rfl rfl ?_
    obtain ⟨k18, hf⟩ := hf
    obtain ⟨i19, hf⟩ := hf
    obtain ⟨b20, e21, hf⟩ := hf
    refine x_aald (pc' := 25) (t := 8) (C := "LetMill$Pat") (dX11_clause 13 rfl rfl) rfl (by decide) rfl k18 i19 e21 ?_
    refine x_aload_n (pc' := 26) 0 (dX11_clause 14 rfl rfl) rfl rfl rfl ?_
    obtain ⟨k, ν, ⟨v0, v1, v2, v3, v4, v5, v6, v7⟩, k44, hf⟩ := hf
    refine x_inv (pc' := 29) (ν := ν) (st := []) rfl (sub_tr v7 rfl) (dX11_clause 15 rfl rfl) (by have := v5; simp only [List.map, List.sum_cons, List.sum_nil, Value.category]; omega) v1 v2 (inv_U (k := k) (av := [_]) (dX11_clause 15 rfl rfl) q2434 q2436 (by decide) v3 v4 (by decide) (show _ = some 1 by decide +kernel) v0 k44) (exN v6) rfl ?_
    refine C.mono hf (fun _ _ => KI.g (fun x24 h22 hf le23 => ?_))
    replace le23 := Le.nx v6 le23
    have k1 := leK le23 k1 (by decide)
    have k4 := leK le23 k4 (by decide)
    have k18 := leK le23 k18 (by decide)
    replace s6 := s6.le sc6 (le23)
    refine x_istore (pc' := 31) (dX11_clause 16 rfl rfl) (by decide) rfl rfl ?_
    refine x_aload_n (pc' := 32) 3 (dX11_clause 17 rfl rfl) rfl rfl rfl ?_
    refine x_iload (pc' := 34) 5 (dX11_clause 18 rfl rfl) rfl rfl ?_
    obtain ⟨k25, hf⟩ := hf
    obtain ⟨i26, hf⟩ := hf
    refine x_iald (pc' := 35) (dX11_clause 19 rfl rfl) rfl k25 i26 ?_
    refine x_if_ge (pc' := 38) (tgt := 47) (dX11_clause 20 rfl rfl) (by decide) rfl (fun c27 => ?_) (fun c27 => ?_)
    · replace hf := hf.1 c27
      refine x_aload_n (pc' := 48) 1 (dX11_clause 26 rfl rfl) rfl rfl rfl ?_
      refine x_iload (pc' := 50) 0 (dX11_clause 27 rfl rfl) rfl rfl ?_
      refine x_aload_n (pc' := 51) 3 (dX11_clause 28 rfl rfl) rfl rfl rfl ?_
      refine x_iload (pc' := 53) 5 (dX11_clause 29 rfl rfl) rfl rfl ?_
      obtain ⟨i28, hf⟩ := hf
      refine x_iald (pc' := 54) (dX11_clause 30 rfl rfl) rfl k25 i28 ?_
      refine x_aload_n (pc' := 55) 2 (dX11_clause 31 rfl rfl) rfl rfl rfl ?_
      obtain ⟨b29, e30, hf⟩ := hf
      refine x_getR (pc' := 58) (dX11_clause 32 rfl rfl) g317 q1496 (Or.inl rfl) rfl (hf_of 28 k1 rfl (by decide) m28_317) e30 ?_
      refine x_iload (pc' := 60) 5 (dX11_clause 33 rfl rfl) rfl rfl ?_
      obtain ⟨k31, hf⟩ := hf
      obtain ⟨i32, hf⟩ := hf
      obtain ⟨b33, e34, hf⟩ := hf
      refine x_aald (pc' := 61) (t := 8) (C := "LetMill$Pat") (dX11_clause 34 rfl rfl) rfl (by decide) rfl k31 i32 e34 ?_
      obtain ⟨u35, hf⟩ := hf
      refine x_getI (pc' := 64) (dX11_clause 35 rfl rfl) g302 q1356 (Or.inl rfl) rfl u35 ?_
      refine x_inv (pc' := 67) (ν := mX11_same) (av := [_, _, _, _]) (st := []) rfl rfl (dX11_clause 36 rfl rfl) (Nat.le_of_ble_eq_true rfl) wX11_same q225 (inv_V (k := 9) (dX11_clause 36 rfl rfl) q2509 q2483 q2484 wX11_same (by decide) lX11_same (by decide) s6.1) (exN (by decide)) rfl ?_
      refine C.mono hf (fun _ _ => KV.g (fun h36 hf le37 => ?_))
      have k1 := leK le37 k1 (by decide)
      have k4 := leK le37 k4 (by decide)
      have k18 := leK le37 k18 (by decide)
      have k25 := leK le37 k25 (by decide)
      have k31 := leK le37 k31 (by decide)
      replace s6 := s6.le sc6 (le37)
      replace hf := hf _ rfl
      refine x_iinc (pc' := 70) 5 (dX11_clause 37 rfl rfl) rfl (by rfl) (by decide) rfl rfl ?_
      refine x_goto (tgt := 8) (dX11_clause 38 rfl rfl) (by decide) ?_
      exact X.sub [2, 3, 4, 5, 0] rfl (by simp) hf
    · replace hf := hf.2 c27
      refine x_aload_n (pc' := 39) 3 (dX11_clause 21 rfl rfl) rfl rfl rfl ?_
      refine x_iload (pc' := 41) 5 (dX11_clause 22 rfl rfl) rfl rfl ?_
      refine x_iload (pc' := 43) 0 (dX11_clause 23 rfl rfl) rfl rfl ?_
      obtain ⟨n42, hf⟩ := hf
      obtain ⟨i39, hf⟩ := hf
      refine x_iast (pc' := 44) (dX11_clause 24 rfl rfl) rfl k25 (Or.inr ⟨n42, by decide⟩) i39 (fun h40 e41 => ?_)
      replace hf := hf h40 e41
      replace k1 : hK h40 l1 = 29 := by rw [e41]; exact k1
      replace k4 : hK h40 b2 = 1008 := by rw [e41]; exact k4
      replace k18 : hK h40 b16 = 1008 := by rw [e41]; exact k18
      replace k25 : hK h40 l2 = 1000 := by rw [e41]; exact k25
      replace s6 : So 6 (gW G) h40 := by rw [e41]; exact s6.le sc6 (sI_le )
      refine x_goto (tgt := 67) (dX11_clause 25 rfl rfl) (by decide) ?_
      replace hf := hf _ rfl
      refine x_iinc (pc' := 70) 5 (dX11_clause 37 rfl rfl) rfl (by rfl) (by decide) rfl rfl ?_
      refine x_goto (tgt := 8) (dX11_clause 38 rfl rfl) (by decide) ?_
      exact X.sub [2, 3, 4, 5, 0] rfl (by simp) hf
theorem bX11_same (G : Gh) (d : Nat) (h : AH) (Q : Outcome → AH → Prop) (p1 : Int32) (p2 : Int32) (p3 : Int32) (s1 : So 1 (gW G) h) (s2 : So 2 (gW G) h) (s6 : So 6 (gW G) h) (hf : C G mX3_same d [.ref (gW G 2), .int (p1), .int (p2)] h (KI Q (fun x3 h1 => (x3 = 0 → ((hc h1 + 1 ≤ MC) ∧ (hs h1 + 8 ≤ MS) ∧ ∀ q5, hK h1 q5 = 0 → ∀ h7, h7 = nO h1 q5 17 → (vp_in p3 4098 ∧ (C G mX18_init d [.ref (q5), .int (5), .int (aI h7 (gW G 1025) p3.toNatClampNeg)] h7 (KV Q (fun h11 => Q (.threw q5) h11)))))) ∧ (¬ x3 = 0 → (Q (.returned none) h1))))) : C G mX11_same (d + 1) [.ref (gW G 6), .int (p1), .int (p2), .int (p3)] h Q := by
  refine C.of_X (by decide +kernel) (Nat.le_of_ble_eq_true rfl) wX11_same ?_
  show X G mX11_same (d + 1) none [] 0 [(0, .ref (gW G 6)), (1, .int (p1)), (2, .int (p2)), (3, .int (p3))] [] h Q
  refine x_aload_n (pc' := 1) 0 (dX11_same 0 rfl rfl) rfl rfl rfl ?_
  refine x_getR (pc' := 4) (dX11_same 1 rfl rfl) g108 q796 (Or.inl rfl) rfl (hf_of 9 s6.1 rfl (by decide) m9_108) (s6.2 0 _ rfl rfl).1 ?_
  refine x_iload_n (pc' := 5) 1 (dX11_same 2 rfl rfl) rfl rfl rfl ?_
  refine x_iload_n (pc' := 6) 2 (dX11_same 3 rfl rfl) rfl rfl rfl ?_
  refine x_inv (pc' := 9) (ν := mX3_same) (av := [_, _, _]) (st := []) rfl rfl (dX11_same 4 rfl rfl) (Nat.le_of_ble_eq_true rfl) wX3_same q213 (inv_V (k := 2) (dX11_same 4 rfl rfl) q2486 q2487 q2488 wX3_same (by decide) lX3_same (by decide) s2.1) (exN (by decide)) rfl ?_
  refine C.mono hf (fun _ _ => KI.g (fun x3 h1 hf le2 => ?_))
  replace s1 := s1.le sc1 (le2)
  replace s2 := s2.le sc2 (le2)
  replace s6 := s6.le sc6 (le2)
  refine x_if_ne (pc' := 12) (tgt := 30) (dX11_same 5 rfl rfl) (by decide) rfl (fun c4 => ?_) (fun c4 => ?_)
  · replace hf := hf.2 c4
    exact x_vret (dX11_same 16 rfl rfl) rfl hf
  · replace hf := hf.1 (Classical.not_not.mp c4)
    replace c4 := Classical.not_not.mp c4
    obtain ⟨n1, n2, hf⟩ := hf
    refine x_new (pc' := 15) (k := 17) (dX11_same 6 rfl rfl) q2498 (by decide) rfl (by decide) n1 n2 (fun q5 h7 k6 e8 => ?_)
    replace hf := hf q5 k6 h7 e8
    replace s1 : So 1 (gW G) h7 := by rw [e8]; exact s1.le sc1 (nO_le k6)
    replace s2 : So 2 (gW G) h7 := by rw [e8]; exact s2.le sc2 (nO_le k6)
    replace s6 : So 6 (gW G) h7 := by rw [e8]; exact s6.le sc6 (nO_le k6)
    have k9 : hK h7 q5 = 18 := by rw [e8]; exact kNOs
    refine x_dup (pc' := 16) (dX11_same 7 rfl rfl) rfl rfl ?_
    refine x_iconst (pc' := 17) (v := 5) (dX11_same 8 rfl rfl) (by decide) rfl ?_
    refine x_aload_n (pc' := 18) 0 (dX11_same 9 rfl rfl) rfl rfl rfl ?_
    refine x_getR (pc' := 21) (dX11_same 10 rfl rfl) g109 q821 (Or.inl rfl) rfl (hf_of 9 s6.1 rfl (by decide) m9_109) (s6.2 1 _ rfl rfl).1 ?_
    refine x_getR (pc' := 24) (dX11_same 11 rfl rfl) g25 q326 (Or.inl rfl) rfl (hf_of 1 s1.1 rfl (by decide) m1_25) (s1.2 3 _ rfl rfl).1 ?_
    refine x_iload_n (pc' := 25) 3 (dX11_same 12 rfl rfl) rfl rfl rfl ?_
    obtain ⟨i10, hf⟩ := hf
    refine x_iald (pc' := 26) (dX11_same 13 rfl rfl) rfl (s1.2 3 _ rfl rfl).2.1 (by rw [(s1.2 3 _ rfl rfl).2.2.2 (by decide)]; exact i10) ?_
    refine x_inv (pc' := 29) (ν := mX18_init) (av := [_, _, _]) (st := [_]) rfl rfl (dX11_same 14 rfl rfl) (Nat.le_of_ble_eq_true rfl) wX18_init q239 (inv_I (dX11_same 14 rfl rfl) q2499 q1303 q1304 rfl (by decide) lX18_init) (fun b hb => by exact Or.inl (by have e : some _ = some b := hb; cases e; simp)) rfl ?_
    refine C.mono hf (fun _ _ => KV.g (fun h11 hf le12 => ?_))
    replace s1 := s1.leX sc1 le12 k9 (by decide)
    replace s2 := s2.leX sc2 le12 k9 (by decide)
    replace s6 := s6.leX sc6 le12 k9 (by decide)
    have k9 := leK le12 k9 (by decide)
    exact x_athrow (dX11_same 15 rfl rfl) rfl hf
theorem bX11_typeOf (G : Gh) (d : Nat) (h : AH) (Q : Outcome → AH → Prop) (p1 : Nat) (s2 : So 2 (gW G) h) (s6 : So 6 (gW G) h) (hf : hK h p1 = 13 ∧ ((0 ≤ (fI h p1 129) → (((fI h p1 128) = 0 → (Q (.returned (some (.int (fI h p1 127)))) h)) ∧ (¬ ((fI h p1 128) = 0) → (C G mX3_mark d [.ref (gW G 2)] h (KI Q (fun x6 h4 => C G mX3_copied d [.ref (gW G 2), .int (fI h p1 127), .int (x6)] h4 (KI Q (fun x9 h7 => Q (.returned (some (.int x9))) h7)))))))) ∧ (¬ (0 ≤ (fI h p1 129)) → (∃ b10, fR h p1 130 = some b10 ∧ (C G mX3_read d [.ref (gW G 2), .ref (b10)] h (KI Q (fun x14 h12 => Q (.returned (some (.int x14))) h12))))))) : C G mX11_typeOf (d + 1) [.ref (gW G 6), .ref (p1)] h Q := by
  refine C.of_X (by decide +kernel) (Nat.le_of_ble_eq_true rfl) wX11_typeOf ?_
  show X G mX11_typeOf (d + 1) none [] 0 [(0, .ref (gW G 6)), (1, .ref (p1))] [] h Q
  refine x_aload_n (pc' := 1) 1 (dX11_typeOf 0 rfl rfl) rfl rfl rfl ?_
  obtain ⟨k1, hf⟩ := hf
  refine x_getI (pc' := 4) (dX11_typeOf 1 rfl rfl) g129 q930 (Or.inl rfl) rfl (hf_of 12 k1 rfl (by decide) m12_129) ?_
  refine x_if_ge (pc' := 7) (tgt := 19) (dX11_typeOf 2 rfl rfl) (by decide) rfl (fun c2 => ?_) (fun c2 => ?_)
  · replace hf := hf.1 c2
    refine x_aload_n (pc' := 20) 1 (dX11_typeOf 9 rfl rfl) rfl rfl rfl ?_
    refine x_getZ (pc' := 23) (dX11_typeOf 10 rfl rfl) g128 q927 (Or.inl rfl) rfl (hf_of 12 k1 rfl (by decide) m12_128) ?_
    refine x_if_eq (pc' := 26) (tgt := 47) (dX11_typeOf 11 rfl rfl) (by decide) rfl (fun c3 => ?_) (fun c3 => ?_)
    · replace hf := hf.1 c3
      refine x_aload_n (pc' := 48) 1 (dX11_typeOf 21 rfl rfl) rfl rfl rfl ?_
      refine x_getI (pc' := 51) (dX11_typeOf 22 rfl rfl) g127 q925 (Or.inl rfl) rfl (hf_of 12 k1 rfl (by decide) m12_127) ?_
      exact x_iret (dX11_typeOf 23 rfl rfl) rfl hf
    · replace hf := hf.2 c3
      refine x_aload_n (pc' := 27) 0 (dX11_typeOf 12 rfl rfl) rfl rfl rfl ?_
      refine x_getR (pc' := 30) (dX11_typeOf 13 rfl rfl) g108 q796 (Or.inl rfl) rfl (hf_of 9 s6.1 rfl (by decide) m9_108) (s6.2 0 _ rfl rfl).1 ?_
      refine x_aload_n (pc' := 31) 1 (dX11_typeOf 14 rfl rfl) rfl rfl rfl ?_
      refine x_getI (pc' := 34) (dX11_typeOf 15 rfl rfl) g127 q925 (Or.inl rfl) rfl (hf_of 12 k1 rfl (by decide) m12_127) ?_
      refine x_aload_n (pc' := 35) 0 (dX11_typeOf 16 rfl rfl) rfl rfl rfl ?_
      refine x_getR (pc' := 38) (dX11_typeOf 17 rfl rfl) g108 q796 (Or.inl rfl) rfl (hf_of 9 s6.1 rfl (by decide) m9_108) (s6.2 0 _ rfl rfl).1 ?_
      refine x_inv (pc' := 41) (ν := mX3_mark) (av := [_]) (st := [_, _]) rfl rfl (dX11_typeOf 18 rfl rfl) (Nat.le_of_ble_eq_true rfl) wX3_mark q213 (inv_V (k := 2) (dX11_typeOf 18 rfl rfl) q2662 q2406 q2407 wX3_mark (by decide) lX3_mark (by decide) s2.1) (exN (by decide)) rfl ?_
      refine C.mono hf (fun _ _ => KI.g (fun x6 h4 hf le5 => ?_))
      have k1 := leK le5 k1 (by decide)
      replace s2 := s2.le sc2 (le5)
      replace s6 := s6.le sc6 (le5)
      refine x_inv (pc' := 44) (ν := mX3_copied) (av := [_, _, _]) (st := []) rfl rfl (dX11_typeOf 19 rfl rfl) (Nat.le_of_ble_eq_true rfl) wX3_copied q213 (inv_V (k := 2) (dX11_typeOf 19 rfl rfl) q2663 q2664 q2665 wX3_copied (by decide) lX3_copied (by decide) s2.1) (exN (by decide)) rfl ?_
      refine C.mono hf (fun _ _ => KI.g (fun x9 h7 hf le8 => ?_))
      have k1 := leK le8 k1 (by decide)
      replace s2 := s2.le sc2 (le8)
      replace s6 := s6.le sc6 (le8)
      refine x_goto (tgt := 51) (dX11_typeOf 20 rfl rfl) (by decide) ?_
      exact x_iret (dX11_typeOf 23 rfl rfl) rfl hf
  · replace hf := hf.2 c2
    refine x_aload_n (pc' := 8) 0 (dX11_typeOf 3 rfl rfl) rfl rfl rfl ?_
    refine x_getR (pc' := 11) (dX11_typeOf 4 rfl rfl) g108 q796 (Or.inl rfl) rfl (hf_of 9 s6.1 rfl (by decide) m9_108) (s6.2 0 _ rfl rfl).1 ?_
    refine x_aload_n (pc' := 12) 1 (dX11_typeOf 5 rfl rfl) rfl rfl rfl ?_
    obtain ⟨b10, e11, hf⟩ := hf
    refine x_getR (pc' := 15) (dX11_typeOf 6 rfl rfl) g130 q933 (Or.inl rfl) rfl (hf_of 12 k1 rfl (by decide) m12_130) e11 ?_
    refine x_inv (pc' := 18) (ν := mX3_read) (av := [_, _]) (st := []) rfl rfl (dX11_typeOf 7 rfl rfl) (Nat.le_of_ble_eq_true rfl) wX3_read q213 (inv_V (k := 2) (dX11_typeOf 7 rfl rfl) q2661 q2445 q2446 wX3_read (by decide) lX3_read (by decide) s2.1) (exN (by decide)) rfl ?_
    refine C.mono hf (fun _ _ => KI.g (fun x14 h12 hf le13 => ?_))
    have k1 := leK le13 k1 (by decide)
    replace s2 := s2.le sc2 (le13)
    replace s6 := s6.le sc6 (le13)
    exact x_iret (dX11_typeOf 8 rfl rfl) rfl hf
theorem bX11_declared (G : Gh) (d : Nat) (h : AH) (Q : Outcome → AH → Prop) (p1 : Int32) (p2 : Int32) (p3 : Int32) (hf : X G mX11_declared (d + 1) none [] 3 [(0, .ref (gW G 6)), (1, .int (p1)), (2, .int (p2)), (3, .int (p3)), (4, .int (p1))] [] h Q) : C G mX11_declared (d + 1) [.ref (gW G 6), .int (p1), .int (p2), .int (p3)] h Q := by
  refine C.of_X (by decide +kernel) (Nat.le_of_ble_eq_true rfl) wX11_declared ?_
  show X G mX11_declared (d + 1) none [] 0 [(0, .ref (gW G 6)), (1, .int (p1)), (2, .int (p2)), (3, .int (p3))] [] h Q
  refine x_iload_n (pc' := 1) 1 (dX11_declared 0 rfl rfl) rfl rfl rfl ?_
  refine x_istore (pc' := 3) (dX11_declared 1 rfl rfl) (by decide) rfl rfl ?_
  exact X.sub [1, 2, 3, 4, 0] rfl (by simp) hf
theorem bX11_declared_3 (G : Gh) (d : Nat) (h : AH) (Q : Outcome → AH → Prop) (l1 : Int32) (l2 : Int32) (l3 : Int32) (l4 : Int32) (s1 : So 1 (gW G) h) (s2 : So 2 (gW G) h) (s6 : So 6 (gW G) h) (hf : ((fI h (gW G 6) 112) ≤ l4 → ((l3 = 0 → (Q (.returned none) h)) ∧ (¬ l3 = 0 → (C G mX3_mark d [.ref (gW G 2)] h (KI Q (fun x5 h3 => X G mX11_declared (d + 1) none [] 78 [(0, .ref (gW G 6)), (1, .int (l1)), (4, .int (x5)), (5, .int (0))] [] h3 Q)))))) ∧ (¬ ((fI h (gW G 6) 112) ≤ l4) → (∃ b6, fR h (gW G 6) 111 = some b6 ∧ (hK h b6 = 1007 ∧ vp_in l4 (hL h b6) ∧ ∃ b10, aR h b6 l4.toNatClampNeg = some b10 ∧ (hK h b10 = 13 ∧ (C G mX3_size d [.ref (gW G 2), .int (fI h b10 127), .int (60)] h (KI Q (fun x15 h13 => (x15 ≤ 60 → (∀ x17 : Int32, x17 = l4 + 1 → (X G mX11_declared (d + 1) none [] 3 [(0, .ref (gW G 6)), (1, .int (l1)), (2, .int (l2)), (3, .int (l3)), (4, .int (x17))] [] h13 Q))) ∧ (¬ (x15 ≤ 60) → ((hc h13 + 1 ≤ MC) ∧ (hs h13 + 8 ≤ MS) ∧ ∀ q18, hK h13 q18 = 0 → ∀ h20, h20 = nO h13 q18 17 → (vp_in l2 4098 ∧ (C G mX18_init d [.ref (q18), .int (6), .int (aI h20 (gW G 1025) l2.toNatClampNeg)] h20 (KV Q (fun h24 => Q (.threw q18) h24)))))))))))))) : X G mX11_declared (d + 1) none [] 3 [(0, .ref (gW G 6)), (1, .int (l1)), (2, .int (l2)), (3, .int (l3)), (4, .int (l4))] [] h Q := by
  refine x_iload (pc' := 5) 4 (dX11_declared 2 rfl rfl) rfl rfl ?_
  refine x_aload_n (pc' := 6) 0 (dX11_declared 3 rfl rfl) rfl rfl rfl ?_
  refine x_getI (pc' := 9) (dX11_declared 4 rfl rfl) g112 q834 (Or.inl rfl) rfl (hf_of 9 s6.1 rfl (by decide) m9_112) ?_
  refine x_icmp_ge (pc' := 12) (tgt := 61) (dX11_declared 5 rfl rfl) (by decide) rfl (fun c1 => ?_) (fun c1 => ?_)
  · replace hf := hf.1 c1
    refine x_iload_n (pc' := 62) 3 (dX11_declared 29 rfl rfl) rfl rfl rfl ?_
    refine x_if_ne (pc' := 65) (tgt := 66) (dX11_declared 30 rfl rfl) (by decide) rfl (fun c2 => ?_) (fun c2 => ?_)
    · replace hf := hf.2 c2
      refine x_aload_n (pc' := 67) 0 (dX11_declared 32 rfl rfl) rfl rfl rfl ?_
      refine x_getR (pc' := 70) (dX11_declared 33 rfl rfl) g108 q796 (Or.inl rfl) rfl (hf_of 9 s6.1 rfl (by decide) m9_108) (s6.2 0 _ rfl rfl).1 ?_
      refine x_inv (pc' := 73) (ν := mX3_mark) (av := [_]) (st := []) rfl rfl (dX11_declared 34 rfl rfl) (Nat.le_of_ble_eq_true rfl) wX3_mark q213 (inv_V (k := 2) (dX11_declared 34 rfl rfl) q2662 q2406 q2407 wX3_mark (by decide) lX3_mark (by decide) s2.1) (exN (by decide)) rfl ?_
      refine C.mono hf (fun _ _ => KI.g (fun x5 h3 hf le4 => ?_))
      replace s1 := s1.le sc1 (le4)
      replace s2 := s2.le sc2 (le4)
      replace s6 := s6.le sc6 (le4)
      refine x_istore (pc' := 75) (dX11_declared 35 rfl rfl) (by decide) rfl rfl ?_
      refine x_iconst (pc' := 76) (v := 0) (dX11_declared 36 rfl rfl) (by decide) rfl ?_
      refine x_istore (pc' := 78) (dX11_declared 37 rfl rfl) (by decide) rfl rfl ?_
      exact X.sub [2, 3, 1, 0] rfl (by simp) hf
    · replace hf := hf.1 (Classical.not_not.mp c2)
      replace c2 := Classical.not_not.mp c2
      exact x_vret (dX11_declared 31 rfl rfl) rfl hf
  · replace hf := hf.2 c1
    refine x_aload_n (pc' := 13) 0 (dX11_declared 6 rfl rfl) rfl rfl rfl ?_
    refine x_getR (pc' := 16) (dX11_declared 7 rfl rfl) g108 q796 (Or.inl rfl) rfl (hf_of 9 s6.1 rfl (by decide) m9_108) (s6.2 0 _ rfl rfl).1 ?_
    refine x_aload_n (pc' := 17) 0 (dX11_declared 8 rfl rfl) rfl rfl rfl ?_
    obtain ⟨b6, e7, hf⟩ := hf
    refine x_getR (pc' := 20) (dX11_declared 9 rfl rfl) g111 q832 (Or.inl rfl) rfl (hf_of 9 s6.1 rfl (by decide) m9_111) e7 ?_
    refine x_iload (pc' := 22) 4 (dX11_declared 10 rfl rfl) rfl rfl ?_
    obtain ⟨k8, hf⟩ := hf
    obtain ⟨i9, hf⟩ := hf
    obtain ⟨b10, e11, hf⟩ := hf
    refine x_aald (pc' := 23) (t := 7) (C := "LetMill$Binding") (dX11_declared 11 rfl rfl) rfl (by decide) rfl k8 i9 e11 ?_
    obtain ⟨k12, hf⟩ := hf
    refine x_getI (pc' := 26) (dX11_declared 12 rfl rfl) g127 q925 (Or.inl rfl) rfl (hf_of 12 k12 rfl (by decide) m12_127) ?_
    refine x_bipush (pc' := 28) (v := 60) (dX11_declared 13 rfl rfl) (by decide) rfl ?_
    refine x_inv (pc' := 31) (ν := mX3_size) (av := [_, _, _]) (st := []) rfl rfl (dX11_declared 14 rfl rfl) (Nat.le_of_ble_eq_true rfl) wX3_size q213 (inv_V (k := 2) (dX11_declared 14 rfl rfl) q2745 q2385 q2386 wX3_size (by decide) lX3_size (by decide) s2.1) (exN (by decide)) rfl ?_
    refine C.mono hf (fun _ _ => KI.g (fun x15 h13 hf le14 => ?_))
    have k8 := leK le14 k8 (by decide)
    have k12 := leK le14 k12 (by decide)
    replace s1 := s1.le sc1 (le14)
    replace s2 := s2.le sc2 (le14)
    replace s6 := s6.le sc6 (le14)
    refine x_bipush (pc' := 33) (v := 60) (dX11_declared 15 rfl rfl) (by decide) rfl ?_
    refine x_icmp_le (pc' := 36) (tgt := 55) (dX11_declared 16 rfl rfl) (by decide) rfl (fun c16 => ?_) (fun c16 => ?_)
    · replace hf := hf.1 c16
      replace hf := hf _ rfl
      refine x_iinc (pc' := 58) 4 (dX11_declared 27 rfl rfl) rfl (by rfl) (by decide) rfl rfl ?_
      refine x_goto (tgt := 3) (dX11_declared 28 rfl rfl) (by decide) ?_
      exact X.sub [1, 2, 3, 4, 0] rfl (by simp) hf
    · replace hf := hf.2 c16
      obtain ⟨n1, n2, hf⟩ := hf
      refine x_new (pc' := 39) (k := 17) (dX11_declared 17 rfl rfl) q2498 (by decide) rfl (by decide) n1 n2 (fun q18 h20 k19 e21 => ?_)
      replace hf := hf q18 k19 h20 e21
      replace k8 : hK h20 b6 = 1007 := by rw [e21]; exact kNO k8 (by decide) k19
      replace k12 : hK h20 b10 = 13 := by rw [e21]; exact kNO k12 (by decide) k19
      replace s1 : So 1 (gW G) h20 := by rw [e21]; exact s1.le sc1 (nO_le k19)
      replace s2 : So 2 (gW G) h20 := by rw [e21]; exact s2.le sc2 (nO_le k19)
      replace s6 : So 6 (gW G) h20 := by rw [e21]; exact s6.le sc6 (nO_le k19)
      have k22 : hK h20 q18 = 18 := by rw [e21]; exact kNOs
      refine x_dup (pc' := 40) (dX11_declared 18 rfl rfl) rfl rfl ?_
      refine x_bipush (pc' := 42) (v := 6) (dX11_declared 19 rfl rfl) (by decide) rfl ?_
      refine x_aload_n (pc' := 43) 0 (dX11_declared 20 rfl rfl) rfl rfl rfl ?_
      refine x_getR (pc' := 46) (dX11_declared 21 rfl rfl) g109 q821 (Or.inl rfl) rfl (hf_of 9 s6.1 rfl (by decide) m9_109) (s6.2 1 _ rfl rfl).1 ?_
      refine x_getR (pc' := 49) (dX11_declared 22 rfl rfl) g25 q326 (Or.inl rfl) rfl (hf_of 1 s1.1 rfl (by decide) m1_25) (s1.2 3 _ rfl rfl).1 ?_
      refine x_iload_n (pc' := 50) 2 (dX11_declared 23 rfl rfl) rfl rfl rfl ?_
      obtain ⟨i23, hf⟩ := hf
      refine x_iald (pc' := 51) (dX11_declared 24 rfl rfl) rfl (s1.2 3 _ rfl rfl).2.1 (by rw [(s1.2 3 _ rfl rfl).2.2.2 (by decide)]; exact i23) ?_
      refine x_inv (pc' := 54) (ν := mX18_init) (av := [_, _, _]) (st := [_]) rfl rfl (dX11_declared 25 rfl rfl) (Nat.le_of_ble_eq_true rfl) wX18_init q239 (inv_I (dX11_declared 25 rfl rfl) q2499 q1303 q1304 rfl (by decide) lX18_init) (fun b hb => by exact Or.inl (by have e : some _ = some b := hb; cases e; simp)) rfl ?_
      refine C.mono hf (fun _ _ => KV.g (fun h24 hf le25 => ?_))
      replace s1 := s1.leX sc1 le25 k22 (by decide)
      replace s2 := s2.leX sc2 le25 k22 (by decide)
      replace s6 := s6.leX sc6 le25 k22 (by decide)
      have k8 := leK le25 k8 (by decide)
      have k12 := leK le25 k12 (by decide)
      have k22 := leK le25 k22 (by decide)
      exact x_athrow (dX11_declared 26 rfl rfl) rfl hf
theorem bX11_declared_78 (G : Gh) (d : Nat) (h : AH) (Q : Outcome → AH → Prop) (l1 : Int32) (l4 : Int32) (l5 : Int32) (s2 : So 2 (gW G) h) (s6 : So 6 (gW G) h) (hf : (l1 ≤ l5 → (C G mX3_mark d [.ref (gW G 2)] h (KI Q (fun x4 h2 => X G mX11_declared (d + 1) none [] 121 [(0, .ref (gW G 6)), (4, .int (l4)), (5, .int (x4)), (6, .int (l1))] [] h2 Q)))) ∧ (¬ (l1 ≤ l5) → (∃ b5, fR h (gW G 6) 111 = some b5 ∧ (hK h b5 = 1007 ∧ vp_in l5 (hL h b5) ∧ ∃ b9, aR h b5 l5.toNatClampNeg = some b9 ∧ (hK h b9 = 13 ∧ (C G mX3_touch d [.ref (gW G 2), .int (fI h b9 127), .int (l4)] h (KV Q (fun h12 => ∀ x14 : Int32, x14 = l5 + 1 → (X G mX11_declared (d + 1) none [] 78 [(0, .ref (gW G 6)), (1, .int (l1)), (4, .int (l4)), (5, .int (x14))] [] h12 Q))))))))) : X G mX11_declared (d + 1) none [] 78 [(0, .ref (gW G 6)), (1, .int (l1)), (4, .int (l4)), (5, .int (l5))] [] h Q := by
  refine x_iload (pc' := 80) 3 (dX11_declared 38 rfl rfl) rfl rfl ?_
  refine x_iload_n (pc' := 81) 1 (dX11_declared 39 rfl rfl) rfl rfl rfl ?_
  refine x_icmp_ge (pc' := 84) (tgt := 109) (dX11_declared 40 rfl rfl) (by decide) rfl (fun c1 => ?_) (fun c1 => ?_)
  · replace hf := hf.1 c1
    refine x_aload_n (pc' := 110) 0 (dX11_declared 52 rfl rfl) rfl rfl rfl ?_
    refine x_getR (pc' := 113) (dX11_declared 53 rfl rfl) g108 q796 (Or.inl rfl) rfl (hf_of 9 s6.1 rfl (by decide) m9_108) (s6.2 0 _ rfl rfl).1 ?_
    refine x_inv (pc' := 116) (ν := mX3_mark) (av := [_]) (st := []) rfl rfl (dX11_declared 54 rfl rfl) (Nat.le_of_ble_eq_true rfl) wX3_mark q213 (inv_V (k := 2) (dX11_declared 54 rfl rfl) q2662 q2406 q2407 wX3_mark (by decide) lX3_mark (by decide) s2.1) (exN (by decide)) rfl ?_
    refine C.mono hf (fun _ _ => KI.g (fun x4 h2 hf le3 => ?_))
    replace s2 := s2.le sc2 (le3)
    replace s6 := s6.le sc6 (le3)
    refine x_istore (pc' := 118) (dX11_declared 55 rfl rfl) (by decide) rfl rfl ?_
    refine x_iload_n (pc' := 119) 2 (dX11_declared 56 rfl rfl) rfl rfl rfl ?_
    refine x_istore (pc' := 121) (dX11_declared 57 rfl rfl) (by decide) rfl rfl ?_
    exact X.sub [2, 4, 1, 0] rfl (by simp) hf
  · replace hf := hf.2 c1
    refine x_aload_n (pc' := 85) 0 (dX11_declared 41 rfl rfl) rfl rfl rfl ?_
    refine x_getR (pc' := 88) (dX11_declared 42 rfl rfl) g108 q796 (Or.inl rfl) rfl (hf_of 9 s6.1 rfl (by decide) m9_108) (s6.2 0 _ rfl rfl).1 ?_
    refine x_aload_n (pc' := 89) 0 (dX11_declared 43 rfl rfl) rfl rfl rfl ?_
    obtain ⟨b5, e6, hf⟩ := hf
    refine x_getR (pc' := 92) (dX11_declared 44 rfl rfl) g111 q832 (Or.inl rfl) rfl (hf_of 9 s6.1 rfl (by decide) m9_111) e6 ?_
    refine x_iload (pc' := 94) 3 (dX11_declared 45 rfl rfl) rfl rfl ?_
    obtain ⟨k7, hf⟩ := hf
    obtain ⟨i8, hf⟩ := hf
    obtain ⟨b9, e10, hf⟩ := hf
    refine x_aald (pc' := 95) (t := 7) (C := "LetMill$Binding") (dX11_declared 46 rfl rfl) rfl (by decide) rfl k7 i8 e10 ?_
    obtain ⟨k11, hf⟩ := hf
    refine x_getI (pc' := 98) (dX11_declared 47 rfl rfl) g127 q925 (Or.inl rfl) rfl (hf_of 12 k11 rfl (by decide) m12_127) ?_
    refine x_iload (pc' := 100) 2 (dX11_declared 48 rfl rfl) rfl rfl ?_
    refine x_inv (pc' := 103) (ν := mX3_touch) (av := [_, _, _]) (st := []) rfl rfl (dX11_declared 49 rfl rfl) (Nat.le_of_ble_eq_true rfl) wX3_touch q213 (inv_V (k := 2) (dX11_declared 49 rfl rfl) q2746 q2747 q2748 wX3_touch (by decide) lX3_touch (by decide) s2.1) (exN (by decide)) rfl ?_
    refine C.mono hf (fun _ _ => KV.g (fun h12 hf le13 => ?_))
    have k7 := leK le13 k7 (by decide)
    have k11 := leK le13 k11 (by decide)
    replace s2 := s2.le sc2 (le13)
    replace s6 := s6.le sc6 (le13)
    replace hf := hf _ rfl
    refine x_iinc (pc' := 106) 3 (dX11_declared 50 rfl rfl) rfl (by rfl) (by decide) rfl rfl ?_
    refine x_goto (tgt := 78) (dX11_declared 51 rfl rfl) (by decide) ?_
    exact X.sub [1, 2, 3, 0] rfl (by simp) hf
theorem bX11_declared_121 (G : Gh) (d : Nat) (h : AH) (Q : Outcome → AH → Prop) (l4 : Int32) (l5 : Int32) (l6 : Int32) (s2 : So 2 (gW G) h) (s6 : So 6 (gW G) h) (hf : ((fI h (gW G 6) 112) ≤ l6 → (Q (.returned none) h)) ∧ (¬ ((fI h (gW G 6) 112) ≤ l6) → (∃ b2, fR h (gW G 6) 111 = some b2 ∧ (hK h b2 = 1007 ∧ vp_in l6 (hL h b2) ∧ ∃ b6, aR h b2 l6.toNatClampNeg = some b6 ∧ (hK h b6 = 13 ∧ (C G mX3_generalise d [.ref (gW G 2), .int (fI h b6 127), .int (l4), .int (l5)] h (KI Q (fun x11 h9 => ∃ b12, fR h9 (gW G 6) 111 = some b12 ∧ (hK h9 b12 = 1007 ∧ vp_in l6 (hL h9 b12) ∧ ∃ b16, aR h9 b12 l6.toNatClampNeg = some b16 ∧ (hK h9 b16 = 13 ∧ (∀ h19, h19 = pI h9 b16 128 1 → (∀ x20 : Int32, x20 = l6 + 1 → (X G mX11_declared (d + 1) none [] 121 [(0, .ref (gW G 6)), (4, .int (l4)), (5, .int (l5)), (6, .int (x20))] [] h19 Q))))))))))))) : X G mX11_declared (d + 1) none [] 121 [(0, .ref (gW G 6)), (4, .int (l4)), (5, .int (l5)), (6, .int (l6))] [] h Q := by
  refine x_iload (pc' := 123) 3 (dX11_declared 58 rfl rfl) rfl rfl ?_
  refine x_aload_n (pc' := 124) 0 (dX11_declared 59 rfl rfl) rfl rfl rfl ?_
  refine x_getI (pc' := 127) (dX11_declared 60 rfl rfl) g112 q834 (Or.inl rfl) rfl (hf_of 9 s6.1 rfl (by decide) m9_112) ?_
  refine x_icmp_ge (pc' := 130) (tgt := 169) (dX11_declared 61 rfl rfl) (by decide) rfl (fun c1 => ?_) (fun c1 => ?_)
  · replace hf := hf.1 c1
    exact x_vret (dX11_declared 81 rfl rfl) rfl hf
  · replace hf := hf.2 c1
    refine x_aload_n (pc' := 131) 0 (dX11_declared 62 rfl rfl) rfl rfl rfl ?_
    refine x_getR (pc' := 134) (dX11_declared 63 rfl rfl) g108 q796 (Or.inl rfl) rfl (hf_of 9 s6.1 rfl (by decide) m9_108) (s6.2 0 _ rfl rfl).1 ?_
    refine x_aload_n (pc' := 135) 0 (dX11_declared 64 rfl rfl) rfl rfl rfl ?_
    obtain ⟨b2, e3, hf⟩ := hf
    refine x_getR (pc' := 138) (dX11_declared 65 rfl rfl) g111 q832 (Or.inl rfl) rfl (hf_of 9 s6.1 rfl (by decide) m9_111) e3 ?_
    refine x_iload (pc' := 140) 3 (dX11_declared 66 rfl rfl) rfl rfl ?_
    obtain ⟨k4, hf⟩ := hf
    obtain ⟨i5, hf⟩ := hf
    obtain ⟨b6, e7, hf⟩ := hf
    refine x_aald (pc' := 141) (t := 7) (C := "LetMill$Binding") (dX11_declared 67 rfl rfl) rfl (by decide) rfl k4 i5 e7 ?_
    obtain ⟨k8, hf⟩ := hf
    refine x_getI (pc' := 144) (dX11_declared 68 rfl rfl) g127 q925 (Or.inl rfl) rfl (hf_of 12 k8 rfl (by decide) m12_127) ?_
    refine x_iload (pc' := 146) 1 (dX11_declared 69 rfl rfl) rfl rfl ?_
    refine x_iload (pc' := 148) 2 (dX11_declared 70 rfl rfl) rfl rfl ?_
    refine x_inv (pc' := 151) (ν := mX3_generalise) (av := [_, _, _, _]) (st := []) rfl rfl (dX11_declared 71 rfl rfl) (Nat.le_of_ble_eq_true rfl) wX3_generalise q213 (inv_V (k := 2) (dX11_declared 71 rfl rfl) q2750 q2751 q2752 wX3_generalise (by decide) lX3_generalise (by decide) s2.1) (exN (by decide)) rfl ?_
    refine C.mono hf (fun _ _ => KI.g (fun x11 h9 hf le10 => ?_))
    have k4 := leK le10 k4 (by decide)
    have k8 := leK le10 k8 (by decide)
    replace s2 := s2.le sc2 (le10)
    replace s6 := s6.le sc6 (le10)
    refine x_pop (pc' := 152) (dX11_declared 72 rfl rfl) rfl rfl ?_
    refine x_aload_n (pc' := 153) 0 (dX11_declared 73 rfl rfl) rfl rfl rfl ?_
    obtain ⟨b12, e13, hf⟩ := hf
    refine x_getR (pc' := 156) (dX11_declared 74 rfl rfl) g111 q832 (Or.inl rfl) rfl (hf_of 9 s6.1 rfl (by decide) m9_111) e13 ?_
    refine x_iload (pc' := 158) 3 (dX11_declared 75 rfl rfl) rfl rfl ?_
    obtain ⟨k14, hf⟩ := hf
    obtain ⟨i15, hf⟩ := hf
    obtain ⟨b16, e17, hf⟩ := hf
    refine x_aald (pc' := 159) (t := 7) (C := "LetMill$Binding") (dX11_declared 76 rfl rfl) rfl (by decide) rfl k14 i15 e17 ?_
    refine x_iconst (pc' := 160) (v := 1) (dX11_declared 77 rfl rfl) (by decide) rfl ?_
    obtain ⟨k18, hf⟩ := hf
    refine x_putZ (pc' := 163) (dX11_declared 78 rfl rfl) g128 q927 (Or.inl rfl) (Or.inl rfl) (Or.inl (by decide)) rfl (hf_of 12 k18 rfl (by decide) m12_128) (by decide) (fun h19 e21 => ?_)
    replace hf := hf h19 e21
    replace k4 : hK h19 b2 = 1007 := by rw [e21]; exact k4
    replace k8 : hK h19 b6 = 13 := by rw [e21]; exact k8
    replace k14 : hK h19 b12 = 1007 := by rw [e21]; exact k14
    replace k18 : hK h19 b16 = 13 := by rw [e21]; exact k18
    replace s2 : So 2 (gW G) h19 := by rw [e21]; exact s2.le sc2 (pI_le (Or.inl rfl))
    replace s6 : So 6 (gW G) h19 := by rw [e21]; exact s6.le sc6 (pI_le (Or.inl rfl))
    replace hf := hf _ rfl
    refine x_iinc (pc' := 166) 3 (dX11_declared 79 rfl rfl) rfl (by rfl) (by decide) rfl rfl ?_
    refine x_goto (tgt := 121) (dX11_declared 80 rfl rfl) (by decide) ?_
    exact X.sub [1, 2, 3, 0] rfl (by simp) hf
theorem bX12_init (G : Gh) (d : Nat) (hd1 : 1 ≤ d) (h : AH) (Q : Outcome → AH → Prop) (a0 : Nat) (p1 : Nat) (hf : hK h a0 = 11 ∧ (∀ h2, h2 = pR h a0 114 (some p1) → (Q (.returned none) h2))) : C G mX12_init d [.ref (a0), .ref (p1)] h Q := by
  refine C.of_X (by decide +kernel) (Nat.le_of_ble_eq_true rfl) wX12_init ?_
  show X G mX12_init d (some a0) [] 0 [(0, .ref (a0)), (1, .ref (p1))] [] h Q
  refine x_aload_n (pc' := 1) 0 (dX12_init 0 rfl rfl) rfl rfl rfl ?_
  refine x_objInit (pc' := 4) (dX12_init 1 rfl rfl) q857 q288 q289 (by decide) (by omega) rfl ?_
  refine x_aload_n (pc' := 5) 0 (dX12_init 2 rfl rfl) rfl rfl rfl ?_
  refine x_aload_n (pc' := 6) 1 (dX12_init 3 rfl rfl) rfl rfl rfl ?_
  obtain ⟨k1, hf⟩ := hf
  refine x_putR (pc' := 9) (dX12_init 4 rfl rfl) g114 q858 (Or.inl rfl) (Or.inr ⟨rfl, rfl, rfl, rfl⟩) (Or.inr rfl) rfl (hf_of 10 k1 rfl (by decide) m10_114) (fun h2 e3 => ?_)
  replace hf := hf h2 e3
  replace k1 : hK h2 a0 = 11 := by rw [e3]; exact k1
  exact x_vret (dX12_init 5 rfl rfl) rfl hf
theorem bX12_read (G : Gh) (d : Nat) (h : AH) (Q : Outcome → AH → Prop)  (s7 : So 7 (gW G) h) (hf : ∀ h1, h1 = pI h (gW G 7) 115 0 → (∀ h2, h2 = pI h1 (gW G 7) 116 0 → (∀ h3, h3 = pI h2 (gW G 7) 117 0 → ((hc h3 + 1 ≤ MC) ∧ (hs h3 + 2 ≤ MS) ∧ ∀ q4, hK h3 q4 = 0 → ∀ h6, h6 = nO h3 q4 5 → (C G mX7_init d [.ref (q4)] h6 (KV Q (fun h9 => X G mX12_read (d + 1) none [] 23 [(0, .ref (gW G 7)), (1, .ref (q4))] [] h9 Q))))))) : C G mX12_read (d + 1) [.ref (gW G 7)] h Q := by
  refine C.of_X (by decide +kernel) (Nat.le_of_ble_eq_true rfl) wX12_read ?_
  show X G mX12_read (d + 1) none [] 0 [(0, .ref (gW G 7))] [] h Q
  refine x_aload_n (pc' := 1) 0 (dX12_read 0 rfl rfl) rfl rfl rfl ?_
  refine x_iconst (pc' := 2) (v := 0) (dX12_read 1 rfl rfl) (by decide) rfl ?_
  refine x_putI (pc' := 5) (dX12_read 2 rfl rfl) g115 q859 (Or.inl rfl) (Or.inl rfl) (Or.inl (by decide)) rfl (hf_of 10 s7.1 rfl (by decide) m10_115) (fun h1 e13 => ?_)
  replace hf := hf h1 e13
  replace s7 : So 7 (gW G) h1 := by rw [e13]; exact s7.le sc7 (pI_le (Or.inl rfl))
  refine x_aload_n (pc' := 6) 0 (dX12_read 3 rfl rfl) rfl rfl rfl ?_
  refine x_iconst (pc' := 7) (v := 0) (dX12_read 4 rfl rfl) (by decide) rfl ?_
  refine x_putI (pc' := 10) (dX12_read 5 rfl rfl) g116 q860 (Or.inl rfl) (Or.inl rfl) (Or.inl (by decide)) rfl (hf_of 10 s7.1 rfl (by decide) m10_116) (fun h2 e12 => ?_)
  replace hf := hf h2 e12
  replace s7 : So 7 (gW G) h2 := by rw [e12]; exact s7.le sc7 (pI_le (Or.inl rfl))
  refine x_aload_n (pc' := 11) 0 (dX12_read 6 rfl rfl) rfl rfl rfl ?_
  refine x_iconst (pc' := 12) (v := 0) (dX12_read 7 rfl rfl) (by decide) rfl ?_
  refine x_putI (pc' := 15) (dX12_read 8 rfl rfl) g117 q861 (Or.inl rfl) (Or.inl rfl) (Or.inl (by decide)) rfl (hf_of 10 s7.1 rfl (by decide) m10_117) (fun h3 e11 => ?_)
  replace hf := hf h3 e11
  replace s7 : So 7 (gW G) h3 := by rw [e11]; exact s7.le sc7 (pI_le (Or.inl rfl))
  obtain ⟨n1, n2, hf⟩ := hf
  refine x_new (pc' := 18) (k := 5) (dX12_read 9 rfl rfl) q1275 (by decide) rfl (by decide) n1 n2 (fun q4 h6 k5 e7 => ?_)
  replace hf := hf q4 k5 h6 e7
  replace s7 : So 7 (gW G) h6 := by rw [e7]; exact s7.le sc7 (nO_le k5)
  have k8 : hK h6 q4 = 6 := by rw [e7]; exact kNOs
  refine x_dup (pc' := 19) (dX12_read 10 rfl rfl) rfl rfl ?_
  refine x_inv (pc' := 22) (ν := mX7_init) (av := [_]) (st := [_]) rfl rfl (dX12_read 11 rfl rfl) (Nat.le_of_ble_eq_true rfl) wX7_init q221 (inv_N (host := "LetMill") (dX12_read 11 rfl rfl) (by decide) q560 q561 rfl (by decide) lX7_init) (fun b hb => by exact Or.inl (by have e : some _ = some b := hb; cases e; simp)) rfl ?_
  refine C.mono hf (fun _ _ => KV.g (fun h9 hf le10 => ?_))
  replace s7 := s7.leX sc7 le10 k8 (by decide)
  have k8 := leK le10 k8 (by decide)
  refine x_astore_n (pc' := 23) (dX12_read 12 rfl rfl) rfl (by decide) rfl rfl ?_
  exact X.sub [1, 0] rfl (by simp) hf
theorem bX12_read_23 (G : Gh) (d : Nat) (h : AH) (Q : Outcome → AH → Prop) (l1 : Nat) (s7 : So 7 (gW G) h) (hf : C G mX12_isDec d [.ref (gW G 7)] h (KI Q (fun x3 h1 => (x3 = 0 → (C G mX12_kind d [.ref (gW G 7)] h1 (KI Q (fun x7 h5 => (x7 = 291 → (Q (.returned (some (.ref (l1)))) h5)) ∧ (¬ x7 = 291 → (C G mX12_wrong d [.ref (gW G 7)] h5 (KR Q (fun b11 h9 => Q (.threw b11) h9)))))))) ∧ (¬ x3 = 0 → (C G mX12_dec d [.ref (gW G 7)] h1 (KR Q (fun b14 h12 => hK h12 l1 = 6 ∧ (C G mX7_add d [.ref (l1), .ref (b14)] h12 (KV Q (fun h15 => C G mX12_expect d [.ref (gW G 7), .int (59)] h15 (KI Q (fun x20 h18 => X G mX12_read (d + 1) none [] 23 [(0, .ref (gW G 7)), (1, .ref (l1))] [] h18 Q)))))))))))) : X G mX12_read (d + 1) none [] 23 [(0, .ref (gW G 7)), (1, .ref (l1))] [] h Q := by
  refine x_aload_n (pc' := 24) 0 (dX12_read 13 rfl rfl) rfl rfl rfl ?_
  refine x_inv (pc' := 27) (ν := mX12_isDec) (av := [_]) (st := []) rfl rfl (dX12_read 14 rfl rfl) (Nat.le_of_ble_eq_true rfl) wX12_isDec q226 (inv_V (k := 10) (dX12_read 14 rfl rfl) q1277 q1279 qs11 wX12_isDec (by decide) lX12_isDec (by decide) s7.1) (exN (by decide)) rfl ?_
  refine C.mono hf (fun _ _ => KI.g (fun x3 h1 hf le2 => ?_))
  replace s7 := s7.le sc7 (le2)
  refine x_if_eq (pc' := 30) (tgt := 48) (dX12_read 15 rfl rfl) (by decide) rfl (fun c4 => ?_) (fun c4 => ?_)
  · replace hf := hf.1 c4
    refine x_aload_n (pc' := 49) 0 (dX12_read 25 rfl rfl) rfl rfl rfl ?_
    refine x_inv (pc' := 52) (ν := mX12_kind) (av := [_]) (st := []) rfl rfl (dX12_read 26 rfl rfl) (Nat.le_of_ble_eq_true rfl) wX12_kind q226 (inv_V (k := 10) (dX12_read 26 rfl rfl) q1281 q1283 qs12 wX12_kind (by decide) lX12_kind (by decide) s7.1) (exN (by decide)) rfl ?_
    refine C.mono hf (fun _ _ => KI.g (fun x7 h5 hf le6 => ?_))
    replace s7 := s7.le sc7 (le6)
    refine x_sipush (pc' := 55) (v := 291) (dX12_read 27 rfl rfl) (by decide) rfl ?_
    refine x_icmp_eq (pc' := 58) (tgt := 63) (dX12_read 28 rfl rfl) (by decide) rfl (fun c8 => ?_) (fun c8 => ?_)
    · replace hf := hf.1 c8
      refine x_aload_n (pc' := 64) 1 (dX12_read 32 rfl rfl) rfl rfl rfl ?_
      exact x_aret (dX12_read 33 rfl rfl) rfl (Or.inl ⟨_, rfl⟩) (Or.inr ⟨_, rfl⟩) hf
    · replace hf := hf.2 c8
      refine x_aload_n (pc' := 59) 0 (dX12_read 29 rfl rfl) rfl rfl rfl ?_
      refine x_inv (pc' := 62) (ν := mX12_wrong) (av := [_]) (st := []) rfl rfl (dX12_read 30 rfl rfl) (Nat.le_of_ble_eq_true rfl) wX12_wrong q226 (inv_V (k := 10) (dX12_read 30 rfl rfl) q1289 q1291 qs14 wX12_wrong (by decide) lX12_wrong (by decide) s7.1) (exN (by decide)) rfl ?_
      refine C.mono hf (fun _ _ => KR.g (fun b11 h9 hf le10 => ?_))
      replace s7 := s7.le sc7 (le10)
      exact x_athrow (dX12_read 31 rfl rfl) rfl hf
  · replace hf := hf.2 c4
    refine x_aload_n (pc' := 31) 1 (dX12_read 16 rfl rfl) rfl rfl rfl ?_
    refine x_aload_n (pc' := 32) 0 (dX12_read 17 rfl rfl) rfl rfl rfl ?_
    refine x_inv (pc' := 35) (ν := mX12_dec) (av := [_]) (st := [_]) rfl rfl (dX12_read 18 rfl rfl) (Nat.le_of_ble_eq_true rfl) wX12_dec q226 (inv_V (k := 10) (dX12_read 18 rfl rfl) q1285 q1287 qs13 wX12_dec (by decide) lX12_dec (by decide) s7.1) (exN (by decide)) rfl ?_
    refine C.mono hf (fun _ _ => KR.g (fun b14 h12 hf le13 => ?_))
    replace s7 := s7.le sc7 (le13)
    obtain ⟨k17, hf⟩ := hf
    refine x_inv (pc' := 38) (ν := mX7_add) (av := [_, _]) (st := []) rfl rfl (dX12_read 19 rfl rfl) (Nat.le_of_ble_eq_true rfl) wX7_add q221 (inv_V (k := 5) (dX12_read 19 rfl rfl) q1401 q590 q591 wX7_add (by decide) lX7_add (by decide) k17) (exN (by decide)) rfl ?_
    refine C.mono hf (fun _ _ => KV.g (fun h15 hf le16 => ?_))
    have k17 := leK le16 k17 (by decide)
    replace s7 := s7.le sc7 (le16)
    refine x_aload_n (pc' := 39) 0 (dX12_read 20 rfl rfl) rfl rfl rfl ?_
    refine x_bipush (pc' := 41) (v := 59) (dX12_read 21 rfl rfl) (by decide) rfl ?_
    refine x_inv (pc' := 44) (ν := mX12_expect) (av := [_, _]) (st := []) rfl rfl (dX12_read 22 rfl rfl) (Nat.le_of_ble_eq_true rfl) wX12_expect q226 (inv_V (k := 10) (dX12_read 22 rfl rfl) q1471 q1473 qs21 wX12_expect (by decide) lX12_expect (by decide) s7.1) (exN (by decide)) rfl ?_
    refine C.mono hf (fun _ _ => KI.g (fun x20 h18 hf le19 => ?_))
    have k17 := leK le19 k17 (by decide)
    replace s7 := s7.le sc7 (le19)
    refine x_istore_n (pc' := 45) (dX12_read 23 rfl rfl) rfl (by decide) rfl rfl ?_
    refine x_goto (tgt := 23) (dX12_read 24 rfl rfl) (by decide) ?_
    exact X.sub [1, 2] rfl (by simp) hf
theorem bX12_isDec (G : Gh) (d : Nat) (h : AH) (Q : Outcome → AH → Prop)  (s7 : So 7 (gW G) h) (hf : C G mX12_kind d [.ref (gW G 7)] h (KI Q (fun x3 h1 => (x3 = 274 → (Q (.returned (some (.int 1))) h1)) ∧ (¬ x3 = 274 → (C G mX12_kind d [.ref (gW G 7)] h1 (KI Q (fun x7 h5 => (x7 = 263 → (Q (.returned (some (.int 1))) h5)) ∧ (¬ x7 = 263 → (C G mX12_kind d [.ref (gW G 7)] h5 (KI Q (fun x11 h9 => (x11 = 258 → (Q (.returned (some (.int 1))) h9)) ∧ (¬ x11 = 258 → (Q (.returned (some (.int 0))) h9))))))))))))) : C G mX12_isDec (d + 1) [.ref (gW G 7)] h Q := by
  refine C.of_X (by decide +kernel) (Nat.le_of_ble_eq_true rfl) wX12_isDec ?_
  show X G mX12_isDec (d + 1) none [] 0 [(0, .ref (gW G 7))] [] h Q
  refine x_aload_n (pc' := 1) 0 (dX12_isDec 0 rfl rfl) rfl rfl rfl ?_
  refine x_inv (pc' := 4) (ν := mX12_kind) (av := [_]) (st := []) rfl rfl (dX12_isDec 1 rfl rfl) (Nat.le_of_ble_eq_true rfl) wX12_kind q226 (inv_V (k := 10) (dX12_isDec 1 rfl rfl) q1281 q1283 qs12 wX12_kind (by decide) lX12_kind (by decide) s7.1) (exN (by decide)) rfl ?_
  refine C.mono hf (fun _ _ => KI.g (fun x3 h1 hf le2 => ?_))
  replace s7 := s7.le sc7 (le2)
  refine x_sipush (pc' := 7) (v := 274) (dX12_isDec 2 rfl rfl) (by decide) rfl ?_
  refine x_icmp_eq (pc' := 10) (tgt := 30) (dX12_isDec 3 rfl rfl) (by decide) rfl (fun c4 => ?_) (fun c4 => ?_)
  · replace hf := hf.1 c4
    refine x_iconst (pc' := 31) (v := 1) (dX12_isDec 12 rfl rfl) (by decide) rfl ?_
    refine x_goto (tgt := 35) (dX12_isDec 13 rfl rfl) (by decide) ?_
    exact x_zret (ty := .boolean) (dX12_isDec 15 rfl rfl) rfl (by decide) hf
  · replace hf := hf.2 c4
    refine x_aload_n (pc' := 11) 0 (dX12_isDec 4 rfl rfl) rfl rfl rfl ?_
    refine x_inv (pc' := 14) (ν := mX12_kind) (av := [_]) (st := []) rfl rfl (dX12_isDec 5 rfl rfl) (Nat.le_of_ble_eq_true rfl) wX12_kind q226 (inv_V (k := 10) (dX12_isDec 5 rfl rfl) q1281 q1283 qs12 wX12_kind (by decide) lX12_kind (by decide) s7.1) (exN (by decide)) rfl ?_
    refine C.mono hf (fun _ _ => KI.g (fun x7 h5 hf le6 => ?_))
    replace s7 := s7.le sc7 (le6)
    refine x_sipush (pc' := 17) (v := 263) (dX12_isDec 6 rfl rfl) (by decide) rfl ?_
    refine x_icmp_eq (pc' := 20) (tgt := 30) (dX12_isDec 7 rfl rfl) (by decide) rfl (fun c8 => ?_) (fun c8 => ?_)
    · replace hf := hf.1 c8
      refine x_iconst (pc' := 31) (v := 1) (dX12_isDec 12 rfl rfl) (by decide) rfl ?_
      refine x_goto (tgt := 35) (dX12_isDec 13 rfl rfl) (by decide) ?_
      exact x_zret (ty := .boolean) (dX12_isDec 15 rfl rfl) rfl (by decide) hf
    · replace hf := hf.2 c8
      refine x_aload_n (pc' := 21) 0 (dX12_isDec 8 rfl rfl) rfl rfl rfl ?_
      refine x_inv (pc' := 24) (ν := mX12_kind) (av := [_]) (st := []) rfl rfl (dX12_isDec 9 rfl rfl) (Nat.le_of_ble_eq_true rfl) wX12_kind q226 (inv_V (k := 10) (dX12_isDec 9 rfl rfl) q1281 q1283 qs12 wX12_kind (by decide) lX12_kind (by decide) s7.1) (exN (by decide)) rfl ?_
      refine C.mono hf (fun _ _ => KI.g (fun x11 h9 hf le10 => ?_))
      replace s7 := s7.le sc7 (le10)
      refine x_sipush (pc' := 27) (v := 258) (dX12_isDec 10 rfl rfl) (by decide) rfl ?_
      refine x_icmp_ne (pc' := 30) (tgt := 34) (dX12_isDec 11 rfl rfl) (by decide) rfl (fun c12 => ?_) (fun c12 => ?_)
      · replace hf := hf.2 c12
        refine x_iconst (pc' := 35) (v := 0) (dX12_isDec 14 rfl rfl) (by decide) rfl ?_
        exact x_zret (ty := .boolean) (dX12_isDec 15 rfl rfl) rfl (by decide) hf
      · replace hf := hf.1 (Classical.not_not.mp c12)
        replace c12 := Classical.not_not.mp c12
        refine x_iconst (pc' := 31) (v := 1) (dX12_isDec 12 rfl rfl) (by decide) rfl ?_
        refine x_goto (tgt := 35) (dX12_isDec 13 rfl rfl) (by decide) ?_
        exact x_zret (ty := .boolean) (dX12_isDec 15 rfl rfl) rfl (by decide) hf
theorem bX12_kind (G : Gh) (d : Nat) (h : AH) (Q : Outcome → AH → Prop)  (s1 : So 1 (gW G) h) (s7 : So 7 (gW G) h) (hf : vp_in (fI h (gW G 7) 115) 4098 ∧ (Q (.returned (some (.int (aI h (gW G 1024) (fI h (gW G 7) 115).toNatClampNeg)))) h)) : C G mX12_kind d [.ref (gW G 7)] h Q := by
  refine C.of_X (by decide +kernel) (Nat.le_of_ble_eq_true rfl) wX12_kind ?_
  show X G mX12_kind d none [] 0 [(0, .ref (gW G 7))] [] h Q
  refine x_aload_n (pc' := 1) 0 (dX12_kind 0 rfl rfl) rfl rfl rfl ?_
  refine x_getR (pc' := 4) (dX12_kind 1 rfl rfl) g114 q858 (Or.inl rfl) rfl (hf_of 10 s7.1 rfl (by decide) m10_114) (s7.2 0 _ rfl rfl).1 ?_
  refine x_getR (pc' := 7) (dX12_kind 2 rfl rfl) g24 q323 (Or.inl rfl) rfl (hf_of 1 s1.1 rfl (by decide) m1_24) (s1.2 2 _ rfl rfl).1 ?_
  refine x_aload_n (pc' := 8) 0 (dX12_kind 3 rfl rfl) rfl rfl rfl ?_
  refine x_getI (pc' := 11) (dX12_kind 4 rfl rfl) g115 q859 (Or.inl rfl) rfl (hf_of 10 s7.1 rfl (by decide) m10_115) ?_
  obtain ⟨i1, hf⟩ := hf
  refine x_iald (pc' := 12) (dX12_kind 5 rfl rfl) rfl (s1.2 2 _ rfl rfl).2.1 (by rw [(s1.2 2 _ rfl rfl).2.2.2 (by decide)]; exact i1) ?_
  exact x_iret (dX12_kind 6 rfl rfl) rfl hf
theorem bX12_dec (G : Gh) (d : Nat) (h : AH) (Q : Outcome → AH → Prop)  (s1 : So 1 (gW G) h) (s7 : So 7 (gW G) h) (hf : ((fI h (gW G 7) 117) = 60 → (C G mX12_wrong d [.ref (gW G 7)] h (KR Q (fun b38 h36 => Q (.threw b38) h36)))) ∧ (¬ ((fI h (gW G 7) 117) = 60) → (∀ h2, h2 = pI h (gW G 7) 117 ((fI h (gW G 7) 117) + 1) → (C G mX12_take d [.ref (gW G 7)] h2 (KI Q (fun x5 h3 => vp_in x5 4098 ∧ (((aI h3 (gW G 1024) x5.toNatClampNeg) = 274 → (∀ h17, h17 = pI h3 (gW G 7) 118 0 → (C G mX12_pat d [.ref (gW G 7)] h17 (KR Q (fun b20 h18 => C G mX12_expect d [.ref (gW G 7), .int (61)] h18 (KI Q (fun x23 h21 => (hc h21 + 1 ≤ MC) ∧ (hs h21 + 3 ≤ MS) ∧ ∀ q24, hK h21 q24 = 0 → ∀ h26, h26 = nO h21 q24 27 → (C G mX12_exp d [.ref (gW G 7)] h26 (KR Q (fun b31 h29 => C G mX30_init d [.ref (q24), .int (x5), .ref (b20), .ref (b31)] h29 (KV Q (fun h32 => Q (.returned (some (.ref (q24)))) h32)))))))))))) ∧ (¬ ((aI h3 (gW G 1024) x5.toNatClampNeg) = 274) → ((hc h3 + 1 ≤ MC) ∧ (hs h3 + 2 ≤ MS) ∧ ∀ q8, hK h3 q8 = 0 → ∀ h10, h10 = nO h3 q8 5 → (C G mX7_init d [.ref (q8)] h10 (KV Q (fun h13 => vp_in x5 4098 ∧ (((aI h13 (gW G 1024) x5.toNatClampNeg) = 263 → (X G mX12_dec (d + 1) none [] 98 [(0, .ref (gW G 7)), (1, .int (x5)), (2, .ref (q8))] [] h13 Q)) ∧ (¬ ((aI h13 (gW G 1024) x5.toNatClampNeg) = 263) → (X G mX12_dec (d + 1) none [] 126 [(0, .ref (gW G 7)), (1, .int (x5)), (2, .ref (q8))] [] h13 Q))))))))))))))) : C G mX12_dec (d + 1) [.ref (gW G 7)] h Q := by
  refine C.of_X (by decide +kernel) (Nat.le_of_ble_eq_true rfl) wX12_dec ?_
  show X G mX12_dec (d + 1) none [] 0 [(0, .ref (gW G 7))] [] h Q
  refine x_aload_n (pc' := 1) 0 (dX12_dec 0 rfl rfl) rfl rfl rfl ?_
  refine x_getI (pc' := 4) (dX12_dec 1 rfl rfl) g117 q861 (Or.inl rfl) rfl (hf_of 10 s7.1 rfl (by decide) m10_117) ?_
  refine x_bipush (pc' := 6) (v := 60) (dX12_dec 2 rfl rfl) (by decide) rfl ?_
  refine x_icmp_ne (pc' := 9) (tgt := 14) (dX12_dec 3 rfl rfl) (by decide) rfl (fun c1 => ?_) (fun c1 => ?_)
  · replace hf := hf.2 c1
    refine x_aload_n (pc' := 15) 0 (dX12_dec 7 rfl rfl) rfl rfl rfl ?_
    refine x_dup (pc' := 16) (dX12_dec 8 rfl rfl) rfl rfl ?_
    refine x_getI (pc' := 19) (dX12_dec 9 rfl rfl) g117 q861 (Or.inl rfl) rfl (hf_of 10 s7.1 rfl (by decide) m10_117) ?_
    refine x_iconst (pc' := 20) (v := 1) (dX12_dec 10 rfl rfl) (by decide) rfl ?_
    refine x_iadd (pc' := 21) (dX12_dec 11 rfl rfl) rfl ?_
    refine x_putI (pc' := 24) (dX12_dec 12 rfl rfl) g117 q861 (Or.inl rfl) (Or.inl rfl) (Or.inl (by decide)) rfl (hf_of 10 s7.1 rfl (by decide) m10_117) (fun h2 e35 => ?_)
    replace hf := hf h2 e35
    replace s1 : So 1 (gW G) h2 := by rw [e35]; exact s1.le sc1 (pI_le (Or.inl rfl))
    replace s7 : So 7 (gW G) h2 := by rw [e35]; exact s7.le sc7 (pI_le (Or.inl rfl))
    refine x_aload_n (pc' := 25) 0 (dX12_dec 13 rfl rfl) rfl rfl rfl ?_
    refine x_inv (pc' := 28) (ν := mX12_take) (av := [_]) (st := []) rfl rfl (dX12_dec 14 rfl rfl) (Nat.le_of_ble_eq_true rfl) wX12_take q226 (inv_V (k := 10) (dX12_dec 14 rfl rfl) q1316 q1318 qs15 wX12_take (by decide) lX12_take (by decide) s7.1) (exN (by decide)) rfl ?_
    refine C.mono hf (fun _ _ => KI.g (fun x5 h3 hf le4 => ?_))
    replace s1 := s1.le sc1 (le4)
    replace s7 := s7.le sc7 (le4)
    refine x_istore_n (pc' := 29) (dX12_dec 15 rfl rfl) rfl (by decide) rfl rfl ?_
    refine x_aload_n (pc' := 30) 1 (dX12_dec 16 rfl rfl) rfl rfl rfl ?_
    refine x_getR (pc' := 33) (dX12_dec 17 rfl rfl) g114 q858 (Or.inl rfl) rfl (hf_of 10 s7.1 rfl (by decide) m10_114) (s7.2 0 _ rfl rfl).1 ?_
    refine x_getR (pc' := 36) (dX12_dec 18 rfl rfl) g24 q323 (Or.inl rfl) rfl (hf_of 1 s1.1 rfl (by decide) m1_24) (s1.2 2 _ rfl rfl).1 ?_
    refine x_iload_n (pc' := 37) 0 (dX12_dec 19 rfl rfl) rfl rfl rfl ?_
    obtain ⟨i6, hf⟩ := hf
    refine x_iald (pc' := 38) (dX12_dec 20 rfl rfl) rfl (s1.2 2 _ rfl rfl).2.1 (by rw [(s1.2 2 _ rfl rfl).2.2.2 (by decide)]; exact i6) ?_
    refine x_sipush (pc' := 41) (v := 274) (dX12_dec 21 rfl rfl) (by decide) rfl ?_
    refine x_icmp_ne (pc' := 44) (tgt := 75) (dX12_dec 22 rfl rfl) (by decide) rfl (fun c7 => ?_) (fun c7 => ?_)
    · replace hf := hf.2 c7
      obtain ⟨n1, n2, hf⟩ := hf
      refine x_new (pc' := 78) (k := 5) (dX12_dec 41 rfl rfl) q1275 (by decide) rfl (by decide) n1 n2 (fun q8 h10 k9 e11 => ?_)
      replace hf := hf q8 k9 h10 e11
      replace s1 : So 1 (gW G) h10 := by rw [e11]; exact s1.le sc1 (nO_le k9)
      replace s7 : So 7 (gW G) h10 := by rw [e11]; exact s7.le sc7 (nO_le k9)
      have k12 : hK h10 q8 = 6 := by rw [e11]; exact kNOs
      refine x_dup (pc' := 79) (dX12_dec 42 rfl rfl) rfl rfl ?_
      refine x_inv (pc' := 82) (ν := mX7_init) (av := [_]) (st := [_]) rfl rfl (dX12_dec 43 rfl rfl) (Nat.le_of_ble_eq_true rfl) wX7_init q221 (inv_N (host := "LetMill") (dX12_dec 43 rfl rfl) (by decide) q560 q561 rfl (by decide) lX7_init) (fun b hb => by exact Or.inl (by have e : some _ = some b := hb; cases e; simp)) rfl ?_
      refine C.mono hf (fun _ _ => KV.g (fun h13 hf le14 => ?_))
      replace s1 := s1.leX sc1 le14 k12 (by decide)
      replace s7 := s7.leX sc7 le14 k12 (by decide)
      have k12 := leK le14 k12 (by decide)
      refine x_astore_n (pc' := 83) (dX12_dec 44 rfl rfl) rfl (by decide) rfl rfl ?_
      refine x_aload_n (pc' := 84) 2 (dX12_dec 45 rfl rfl) rfl rfl rfl ?_
      refine x_getR (pc' := 87) (dX12_dec 46 rfl rfl) g114 q858 (Or.inl rfl) rfl (hf_of 10 s7.1 rfl (by decide) m10_114) (s7.2 0 _ rfl rfl).1 ?_
      refine x_getR (pc' := 90) (dX12_dec 47 rfl rfl) g24 q323 (Or.inl rfl) rfl (hf_of 1 s1.1 rfl (by decide) m1_24) (s1.2 2 _ rfl rfl).1 ?_
      refine x_iload_n (pc' := 91) 1 (dX12_dec 48 rfl rfl) rfl rfl rfl ?_
      obtain ⟨i15, hf⟩ := hf
      refine x_iald (pc' := 92) (dX12_dec 49 rfl rfl) rfl (s1.2 2 _ rfl rfl).2.1 (by rw [(s1.2 2 _ rfl rfl).2.2.2 (by decide)]; exact i15) ?_
      refine x_sipush (pc' := 95) (v := 263) (dX12_dec 50 rfl rfl) (by decide) rfl ?_
      refine x_icmp_ne (pc' := 98) (tgt := 126) (dX12_dec 51 rfl rfl) (by decide) rfl (fun c16 => ?_) (fun c16 => ?_)
      · replace hf := hf.2 c16
        exact X.sub [2, 1, 0] rfl (by simp) hf
      · replace hf := hf.1 (Classical.not_not.mp c16)
        replace c16 := Classical.not_not.mp c16
        exact X.sub [2, 1, 0] rfl (by simp) hf
    · replace hf := hf.1 (Classical.not_not.mp c7)
      replace c7 := Classical.not_not.mp c7
      refine x_aload_n (pc' := 45) 1 (dX12_dec 23 rfl rfl) rfl rfl rfl ?_
      refine x_iconst (pc' := 46) (v := 0) (dX12_dec 24 rfl rfl) (by decide) rfl ?_
      refine x_putI (pc' := 49) (dX12_dec 25 rfl rfl) g118 q862 (Or.inl rfl) (Or.inl rfl) (Or.inl (by decide)) rfl (hf_of 10 s7.1 rfl (by decide) m10_118) (fun h17 e34 => ?_)
      replace hf := hf h17 e34
      replace s1 : So 1 (gW G) h17 := by rw [e34]; exact s1.le sc1 (pI_le (Or.inl rfl))
      replace s7 : So 7 (gW G) h17 := by rw [e34]; exact s7.le sc7 (pI_le (Or.inl rfl))
      refine x_aload_n (pc' := 50) 1 (dX12_dec 26 rfl rfl) rfl rfl rfl ?_
      refine x_inv (pc' := 53) (ν := mX12_pat) (av := [_]) (st := []) rfl rfl (dX12_dec 27 rfl rfl) (Nat.le_of_ble_eq_true rfl) wX12_pat q226 (inv_V (k := 10) (dX12_dec 27 rfl rfl) q1320 q1322 qs16 wX12_pat (by decide) lX12_pat (by decide) s7.1) (exN (by decide)) rfl ?_
      refine C.mono hf (fun _ _ => KR.g (fun b20 h18 hf le19 => ?_))
      replace s1 := s1.le sc1 (le19)
      replace s7 := s7.le sc7 (le19)
      refine x_astore_n (pc' := 54) (dX12_dec 28 rfl rfl) rfl (by decide) rfl rfl ?_
      refine x_aload_n (pc' := 55) 2 (dX12_dec 29 rfl rfl) rfl rfl rfl ?_
      refine x_bipush (pc' := 57) (v := 61) (dX12_dec 30 rfl rfl) (by decide) rfl ?_
      refine x_inv (pc' := 60) (ν := mX12_expect) (av := [_, _]) (st := []) rfl rfl (dX12_dec 31 rfl rfl) (Nat.le_of_ble_eq_true rfl) wX12_expect q226 (inv_V (k := 10) (dX12_dec 31 rfl rfl) q1471 q1473 qs21 wX12_expect (by decide) lX12_expect (by decide) s7.1) (exN (by decide)) rfl ?_
      refine C.mono hf (fun _ _ => KI.g (fun x23 h21 hf le22 => ?_))
      replace s1 := s1.le sc1 (le22)
      replace s7 := s7.le sc7 (le22)
      refine x_istore_n (pc' := 61) (dX12_dec 32 rfl rfl) rfl (by decide) rfl rfl ?_
      obtain ⟨n1, n2, hf⟩ := hf
      refine x_new (pc' := 64) (k := 27) (dX12_dec 33 rfl rfl) q1475 (by decide) rfl (by decide) n1 n2 (fun q24 h26 k25 e27 => ?_)
      replace hf := hf q24 k25 h26 e27
      replace s1 : So 1 (gW G) h26 := by rw [e27]; exact s1.le sc1 (nO_le k25)
      replace s7 : So 7 (gW G) h26 := by rw [e27]; exact s7.le sc7 (nO_le k25)
      have k28 : hK h26 q24 = 28 := by rw [e27]; exact kNOs
      refine x_dup (pc' := 65) (dX12_dec 34 rfl rfl) rfl rfl ?_
      refine x_iload_n (pc' := 66) 2 (dX12_dec 35 rfl rfl) rfl rfl rfl ?_
      refine x_aload_n (pc' := 67) 1 (dX12_dec 36 rfl rfl) rfl rfl rfl ?_
      refine x_aload_n (pc' := 68) 3 (dX12_dec 37 rfl rfl) rfl rfl rfl ?_
      refine x_inv (pc' := 71) (ν := mX12_exp) (av := [_]) (st := [_, _, _, _]) rfl rfl (dX12_dec 38 rfl rfl) (Nat.le_of_ble_eq_true rfl) wX12_exp q226 (inv_V (k := 10) (dX12_dec 38 rfl rfl) q1477 q1479 qs22 wX12_exp (by decide) lX12_exp (by decide) s7.1) (exN (by decide)) rfl ?_
      refine C.mono hf (fun _ _ => KR.g (fun b31 h29 hf le30 => ?_))
      have k28 := leK le30 k28 (by decide)
      replace s1 := s1.le sc1 (le30)
      replace s7 := s7.le sc7 (le30)
      refine x_inv (pc' := 74) (ν := mX30_init) (av := [_, _, _, _]) (st := [_]) rfl rfl (dX12_dec 39 rfl rfl) (Nat.le_of_ble_eq_true rfl) wX30_init q251 (inv_I (dX12_dec 39 rfl rfl) q1816 q1817 q1818 rfl (by decide) lX30_init) (fun b hb => by exact Or.inl (by have e : some _ = some b := hb; cases e; simp)) rfl ?_
      refine C.mono hf (fun _ _ => KV.g (fun h32 hf le33 => ?_))
      replace s1 := s1.leX sc1 le33 k28 (by decide)
      replace s7 := s7.leX sc7 le33 k28 (by decide)
      have k28 := leK le33 k28 (by decide)
      exact x_aret (dX12_dec 40 rfl rfl) rfl (Or.inl ⟨_, rfl⟩) (Or.inr ⟨_, rfl⟩) hf
  · replace hf := hf.1 (Classical.not_not.mp c1)
    replace c1 := Classical.not_not.mp c1
    refine x_aload_n (pc' := 10) 0 (dX12_dec 4 rfl rfl) rfl rfl rfl ?_
    refine x_inv (pc' := 13) (ν := mX12_wrong) (av := [_]) (st := []) rfl rfl (dX12_dec 5 rfl rfl) (Nat.le_of_ble_eq_true rfl) wX12_wrong q226 (inv_V (k := 10) (dX12_dec 5 rfl rfl) q1289 q1291 qs14 wX12_wrong (by decide) lX12_wrong (by decide) s7.1) (exN (by decide)) rfl ?_
    refine C.mono hf (fun _ _ => KR.g (fun b38 h36 hf le37 => ?_))
    replace s1 := s1.le sc1 (le37)
    replace s7 := s7.le sc7 (le37)
    exact x_athrow (dX12_dec 6 rfl rfl) rfl hf
theorem bX12_dec_98 (G : Gh) (d : Nat) (h : AH) (Q : Outcome → AH → Prop) (l1 : Int32) (l2 : Nat) (s7 : So 7 (gW G) h) (hf : C G mX12_fun d [.ref (gW G 7)] h (KR Q (fun b3 h1 => hK h1 l2 = 6 ∧ (C G mX7_add d [.ref (l2), .ref (b3)] h1 (KV Q (fun h4 => C G mX12_skip d [.ref (gW G 7), .int (256)] h4 (KI Q (fun x9 h7 => (x9 = 0 → ((hc h7 + 1 ≤ MC) ∧ (hs h7 + 2 ≤ MS) ∧ ∀ q11, hK h7 q11 = 0 → ∀ h13, h13 = nO h7 q11 45 → (C G mX49_init d [.ref (q11), .int (l1), .ref (l2)] h13 (KV Q (fun h16 => Q (.returned (some (.ref (q11)))) h16))))) ∧ (¬ x9 = 0 → (X G mX12_dec (d + 1) none [] 98 [(0, .ref (gW G 7)), (1, .int (l1)), (2, .ref (l2))] [] h7 Q)))))))))) : X G mX12_dec (d + 1) none [] 98 [(0, .ref (gW G 7)), (1, .int (l1)), (2, .ref (l2))] [] h Q := by
  refine x_aload_n (pc' := 99) 2 (dX12_dec 52 rfl rfl) rfl rfl rfl ?_
  refine x_aload_n (pc' := 100) 0 (dX12_dec 53 rfl rfl) rfl rfl rfl ?_
  refine x_inv (pc' := 103) (ν := mX12_fun) (av := [_]) (st := [_]) rfl rfl (dX12_dec 54 rfl rfl) (Nat.le_of_ble_eq_true rfl) wX12_fun q226 (inv_V (k := 10) (dX12_dec 54 rfl rfl) q1841 q1843 qs31 wX12_fun (by decide) lX12_fun (by decide) s7.1) (exN (by decide)) rfl ?_
  refine C.mono hf (fun _ _ => KR.g (fun b3 h1 hf le2 => ?_))
  replace s7 := s7.le sc7 (le2)
  obtain ⟨k6, hf⟩ := hf
  refine x_inv (pc' := 106) (ν := mX7_add) (av := [_, _]) (st := []) rfl rfl (dX12_dec 55 rfl rfl) (Nat.le_of_ble_eq_true rfl) wX7_add q221 (inv_V (k := 5) (dX12_dec 55 rfl rfl) q1401 q590 q591 wX7_add (by decide) lX7_add (by decide) k6) (exN (by decide)) rfl ?_
  refine C.mono hf (fun _ _ => KV.g (fun h4 hf le5 => ?_))
  have k6 := leK le5 k6 (by decide)
  replace s7 := s7.le sc7 (le5)
  refine x_aload_n (pc' := 107) 0 (dX12_dec 56 rfl rfl) rfl rfl rfl ?_
  refine x_sipush (pc' := 110) (v := 256) (dX12_dec 57 rfl rfl) (by decide) rfl ?_
  refine x_inv (pc' := 113) (ν := mX12_skip) (av := [_, _]) (st := []) rfl rfl (dX12_dec 58 rfl rfl) (Nat.le_of_ble_eq_true rfl) wX12_skip q226 (inv_V (k := 10) (dX12_dec 58 rfl rfl) q1511 q1513 qs24 wX12_skip (by decide) lX12_skip (by decide) s7.1) (exN (by decide)) rfl ?_
  refine C.mono hf (fun _ _ => KI.g (fun x9 h7 hf le8 => ?_))
  have k6 := leK le8 k6 (by decide)
  replace s7 := s7.le sc7 (le8)
  refine x_if_ne (pc' := 116) (tgt := 98) (dX12_dec 59 rfl rfl) (by decide) rfl (fun c10 => ?_) (fun c10 => ?_)
  · replace hf := hf.2 c10
    exact X.sub [0, 1, 2] rfl (by simp) hf
  · replace hf := hf.1 (Classical.not_not.mp c10)
    replace c10 := Classical.not_not.mp c10
    obtain ⟨n1, n2, hf⟩ := hf
    refine x_new (pc' := 119) (k := 45) (dX12_dec 60 rfl rfl) q1869 (by decide) rfl (by decide) n1 n2 (fun q11 h13 k12 e14 => ?_)
    replace hf := hf q11 k12 h13 e14
    replace k6 : hK h13 l2 = 6 := by rw [e14]; exact kNO k6 (by decide) k12
    replace s7 : So 7 (gW G) h13 := by rw [e14]; exact s7.le sc7 (nO_le k12)
    have k15 : hK h13 q11 = 46 := by rw [e14]; exact kNOs
    refine x_dup (pc' := 120) (dX12_dec 61 rfl rfl) rfl rfl ?_
    refine x_iload_n (pc' := 121) 1 (dX12_dec 62 rfl rfl) rfl rfl rfl ?_
    refine x_aload_n (pc' := 122) 2 (dX12_dec 63 rfl rfl) rfl rfl rfl ?_
    refine x_inv (pc' := 125) (ν := mX49_init) (av := [_, _, _]) (st := [_]) rfl rfl (dX12_dec 64 rfl rfl) (Nat.le_of_ble_eq_true rfl) wX49_init q270 (inv_I (dX12_dec 64 rfl rfl) q1871 q1872 q1873 rfl (by decide) lX49_init) (fun b hb => by exact Or.inl (by have e : some _ = some b := hb; cases e; simp)) rfl ?_
    refine C.mono hf (fun _ _ => KV.g (fun h16 hf le17 => ?_))
    replace s7 := s7.leX sc7 le17 k15 (by decide)
    have k6 := leK le17 k6 (by decide)
    have k15 := leK le17 k15 (by decide)
    exact x_aret (dX12_dec 65 rfl rfl) rfl (Or.inl ⟨_, rfl⟩) (Or.inr ⟨_, rfl⟩) hf
theorem bX12_dec_126 (G : Gh) (d : Nat) (h : AH) (Q : Outcome → AH → Prop) (l1 : Int32) (l2 : Nat) (s7 : So 7 (gW G) h) (hf : C G mX12_data d [.ref (gW G 7)] h (KR Q (fun b3 h1 => hK h1 l2 = 6 ∧ (C G mX7_add d [.ref (l2), .ref (b3)] h1 (KV Q (fun h4 => C G mX12_skip d [.ref (gW G 7), .int (256)] h4 (KI Q (fun x9 h7 => (x9 = 0 → ((hc h7 + 1 ≤ MC) ∧ (hs h7 + 3 ≤ MS) ∧ ∀ q11, hK h7 q11 = 0 → ∀ h13, h13 = nO h7 q11 52 → (C G mX57_init d [.ref (q11), .int (l1), .ref (l2)] h13 (KV Q (fun h16 => Q (.returned (some (.ref (q11)))) h16))))) ∧ (¬ x9 = 0 → (X G mX12_dec (d + 1) none [] 126 [(0, .ref (gW G 7)), (1, .int (l1)), (2, .ref (l2))] [] h7 Q)))))))))) : X G mX12_dec (d + 1) none [] 126 [(0, .ref (gW G 7)), (1, .int (l1)), (2, .ref (l2))] [] h Q := by
  refine x_aload_n (pc' := 127) 2 (dX12_dec 66 rfl rfl) rfl rfl rfl ?_
  refine x_aload_n (pc' := 128) 0 (dX12_dec 67 rfl rfl) rfl rfl rfl ?_
  refine x_inv (pc' := 131) (ν := mX12_data) (av := [_]) (st := [_]) rfl rfl (dX12_dec 68 rfl rfl) (Nat.le_of_ble_eq_true rfl) wX12_data q226 (inv_V (k := 10) (dX12_dec 68 rfl rfl) q1880 q1882 qs32 wX12_data (by decide) lX12_data (by decide) s7.1) (exN (by decide)) rfl ?_
  refine C.mono hf (fun _ _ => KR.g (fun b3 h1 hf le2 => ?_))
  replace s7 := s7.le sc7 (le2)
  obtain ⟨k6, hf⟩ := hf
  refine x_inv (pc' := 134) (ν := mX7_add) (av := [_, _]) (st := []) rfl rfl (dX12_dec 69 rfl rfl) (Nat.le_of_ble_eq_true rfl) wX7_add q221 (inv_V (k := 5) (dX12_dec 69 rfl rfl) q1401 q590 q591 wX7_add (by decide) lX7_add (by decide) k6) (exN (by decide)) rfl ?_
  refine C.mono hf (fun _ _ => KV.g (fun h4 hf le5 => ?_))
  have k6 := leK le5 k6 (by decide)
  replace s7 := s7.le sc7 (le5)
  refine x_aload_n (pc' := 135) 0 (dX12_dec 70 rfl rfl) rfl rfl rfl ?_
  refine x_sipush (pc' := 138) (v := 256) (dX12_dec 71 rfl rfl) (by decide) rfl ?_
  refine x_inv (pc' := 141) (ν := mX12_skip) (av := [_, _]) (st := []) rfl rfl (dX12_dec 72 rfl rfl) (Nat.le_of_ble_eq_true rfl) wX12_skip q226 (inv_V (k := 10) (dX12_dec 72 rfl rfl) q1511 q1513 qs24 wX12_skip (by decide) lX12_skip (by decide) s7.1) (exN (by decide)) rfl ?_
  refine C.mono hf (fun _ _ => KI.g (fun x9 h7 hf le8 => ?_))
  have k6 := leK le8 k6 (by decide)
  replace s7 := s7.le sc7 (le8)
  refine x_if_ne (pc' := 144) (tgt := 126) (dX12_dec 73 rfl rfl) (by decide) rfl (fun c10 => ?_) (fun c10 => ?_)
  · replace hf := hf.2 c10
    exact X.sub [0, 1, 2] rfl (by simp) hf
  · replace hf := hf.1 (Classical.not_not.mp c10)
    replace c10 := Classical.not_not.mp c10
    obtain ⟨n1, n2, hf⟩ := hf
    refine x_new (pc' := 147) (k := 52) (dX12_dec 74 rfl rfl) q2009 (by decide) rfl (by decide) n1 n2 (fun q11 h13 k12 e14 => ?_)
    replace hf := hf q11 k12 h13 e14
    replace k6 : hK h13 l2 = 6 := by rw [e14]; exact kNO k6 (by decide) k12
    replace s7 : So 7 (gW G) h13 := by rw [e14]; exact s7.le sc7 (nO_le k12)
    have k15 : hK h13 q11 = 53 := by rw [e14]; exact kNOs
    refine x_dup (pc' := 148) (dX12_dec 75 rfl rfl) rfl rfl ?_
    refine x_iload_n (pc' := 149) 1 (dX12_dec 76 rfl rfl) rfl rfl rfl ?_
    refine x_aload_n (pc' := 150) 2 (dX12_dec 77 rfl rfl) rfl rfl rfl ?_
    refine x_inv (pc' := 153) (ν := mX57_init) (av := [_, _, _]) (st := [_]) rfl rfl (dX12_dec 78 rfl rfl) (Nat.le_of_ble_eq_true rfl) wX57_init q278 (inv_I (dX12_dec 78 rfl rfl) q2011 q2012 q2013 rfl (by decide) lX57_init) (fun b hb => by exact Or.inl (by have e : some _ = some b := hb; cases e; simp)) rfl ?_
    refine C.mono hf (fun _ _ => KV.g (fun h16 hf le17 => ?_))
    replace s7 := s7.leX sc7 le17 k15 (by decide)
    have k6 := leK le17 k6 (by decide)
    have k15 := leK le17 k15 (by decide)
    exact x_aret (dX12_dec 79 rfl rfl) rfl (Or.inl ⟨_, rfl⟩) (Or.inr ⟨_, rfl⟩) hf
theorem bX12_wrong (G : Gh) (d : Nat) (h : AH) (Q : Outcome → AH → Prop)  (s1 : So 1 (gW G) h) (s7 : So 7 (gW G) h) (hf : (hc h + 1 ≤ MC) ∧ (hs h + 8 ≤ MS) ∧ ∀ q1, hK h q1 = 0 → ∀ h3, h3 = nO h q1 17 → (vp_in (fI h3 (gW G 7) 115) 4098 ∧ (C G mX18_init d [.ref (q1), .int (1), .int (aI h3 (gW G 1025) (fI h3 (gW G 7) 115).toNatClampNeg)] h3 (KV Q (fun h7 => Q (.returned (some (.ref (q1)))) h7))))) : C G mX12_wrong (d + 1) [.ref (gW G 7)] h Q := by
  refine C.of_X (by decide +kernel) (Nat.le_of_ble_eq_true rfl) wX12_wrong ?_
  show X G mX12_wrong (d + 1) none [] 0 [(0, .ref (gW G 7))] [] h Q
  obtain ⟨n1, n2, hf⟩ := hf
  refine x_new (pc' := 3) (k := 17) (dX12_wrong 0 rfl rfl) q1293 (by decide) rfl (by decide) n1 n2 (fun q1 h3 k2 e4 => ?_)
  replace hf := hf q1 k2 h3 e4
  replace s1 : So 1 (gW G) h3 := by rw [e4]; exact s1.le sc1 (nO_le k2)
  replace s7 : So 7 (gW G) h3 := by rw [e4]; exact s7.le sc7 (nO_le k2)
  have k5 : hK h3 q1 = 18 := by rw [e4]; exact kNOs
  refine x_dup (pc' := 4) (dX12_wrong 1 rfl rfl) rfl rfl ?_
  refine x_iconst (pc' := 5) (v := 1) (dX12_wrong 2 rfl rfl) (by decide) rfl ?_
  refine x_aload_n (pc' := 6) 0 (dX12_wrong 3 rfl rfl) rfl rfl rfl ?_
  refine x_getR (pc' := 9) (dX12_wrong 4 rfl rfl) g114 q858 (Or.inl rfl) rfl (hf_of 10 s7.1 rfl (by decide) m10_114) (s7.2 0 _ rfl rfl).1 ?_
  refine x_getR (pc' := 12) (dX12_wrong 5 rfl rfl) g25 q327 (Or.inl rfl) rfl (hf_of 1 s1.1 rfl (by decide) m1_25) (s1.2 3 _ rfl rfl).1 ?_
  refine x_aload_n (pc' := 13) 0 (dX12_wrong 6 rfl rfl) rfl rfl rfl ?_
  refine x_getI (pc' := 16) (dX12_wrong 7 rfl rfl) g115 q859 (Or.inl rfl) rfl (hf_of 10 s7.1 rfl (by decide) m10_115) ?_
  obtain ⟨i6, hf⟩ := hf
  refine x_iald (pc' := 17) (dX12_wrong 8 rfl rfl) rfl (s1.2 3 _ rfl rfl).2.1 (by rw [(s1.2 3 _ rfl rfl).2.2.2 (by decide)]; exact i6) ?_
  refine x_inv (pc' := 20) (ν := mX18_init) (av := [_, _, _]) (st := [_]) rfl rfl (dX12_wrong 9 rfl rfl) (Nat.le_of_ble_eq_true rfl) wX18_init q239 (inv_I (dX12_wrong 9 rfl rfl) q1302 q1303 q1304 rfl (by decide) lX18_init) (fun b hb => by exact Or.inl (by have e : some _ = some b := hb; cases e; simp)) rfl ?_
  refine C.mono hf (fun _ _ => KV.g (fun h7 hf le8 => ?_))
  replace s1 := s1.leX sc1 le8 k5 (by decide)
  replace s7 := s7.leX sc7 le8 k5 (by decide)
  have k5 := leK le8 k5 (by decide)
  exact x_aret (dX12_wrong 10 rfl rfl) rfl (Or.inl ⟨_, rfl⟩) (Or.inr ⟨_, rfl⟩) hf
theorem bX12_take (G : Gh) (d : Nat) (h : AH) (Q : Outcome → AH → Prop)  (s7 : So 7 (gW G) h) (hf : (30 < (fI h (gW G 7) 116) → (C G mX12_wrong d [.ref (gW G 7)] h (KR Q (fun b4 h2 => Q (.threw b4) h2)))) ∧ (¬ (30 < (fI h (gW G 7) 116)) → (C G mX12_kind d [.ref (gW G 7)] h (KI Q (fun x7 h5 => (x7 = 291 → (C G mX12_wrong d [.ref (gW G 7)] h5 (KR Q (fun b11 h9 => Q (.threw b11) h9)))) ∧ (¬ x7 = 291 → (C G mX12_kind d [.ref (gW G 7)] h5 (KI Q (fun x14 h12 => (x14 = 292 → (C G mX12_wrong d [.ref (gW G 7)] h12 (KR Q (fun b20 h18 => Q (.threw b20) h18)))) ∧ (¬ x14 = 292 → (∀ h16, h16 = pI h12 (gW G 7) 115 ((fI h12 (gW G 7) 115) + 1) → (Q (.returned (some (.int ((fI h16 (gW G 7) 115) - 1)))) h16)))))))))))) : C G mX12_take (d + 1) [.ref (gW G 7)] h Q := by
  refine C.of_X (by decide +kernel) (Nat.le_of_ble_eq_true rfl) wX12_take ?_
  show X G mX12_take (d + 1) none [] 0 [(0, .ref (gW G 7))] [] h Q
  refine x_aload_n (pc' := 1) 0 (dX12_take 0 rfl rfl) rfl rfl rfl ?_
  refine x_getI (pc' := 4) (dX12_take 1 rfl rfl) g116 q860 (Or.inl rfl) rfl (hf_of 10 s7.1 rfl (by decide) m10_116) ?_
  refine x_bipush (pc' := 6) (v := 30) (dX12_take 2 rfl rfl) (by decide) rfl ?_
  refine x_icmp_gt (pc' := 9) (tgt := 29) (dX12_take 3 rfl rfl) (by decide) rfl (fun c1 => ?_) (fun c1 => ?_)
  · replace hf := hf.1 c1
    refine x_aload_n (pc' := 30) 0 (dX12_take 12 rfl rfl) rfl rfl rfl ?_
    refine x_inv (pc' := 33) (ν := mX12_wrong) (av := [_]) (st := []) rfl rfl (dX12_take 13 rfl rfl) (Nat.le_of_ble_eq_true rfl) wX12_wrong q226 (inv_V (k := 10) (dX12_take 13 rfl rfl) q1289 q1291 qs14 wX12_wrong (by decide) lX12_wrong (by decide) s7.1) (exN (by decide)) rfl ?_
    refine C.mono hf (fun _ _ => KR.g (fun b4 h2 hf le3 => ?_))
    replace s7 := s7.le sc7 (le3)
    exact x_athrow (dX12_take 14 rfl rfl) rfl hf
  · replace hf := hf.2 c1
    refine x_aload_n (pc' := 10) 0 (dX12_take 4 rfl rfl) rfl rfl rfl ?_
    refine x_inv (pc' := 13) (ν := mX12_kind) (av := [_]) (st := []) rfl rfl (dX12_take 5 rfl rfl) (Nat.le_of_ble_eq_true rfl) wX12_kind q226 (inv_V (k := 10) (dX12_take 5 rfl rfl) q1281 q1283 qs12 wX12_kind (by decide) lX12_kind (by decide) s7.1) (exN (by decide)) rfl ?_
    refine C.mono hf (fun _ _ => KI.g (fun x7 h5 hf le6 => ?_))
    replace s7 := s7.le sc7 (le6)
    refine x_sipush (pc' := 16) (v := 291) (dX12_take 6 rfl rfl) (by decide) rfl ?_
    refine x_icmp_eq (pc' := 19) (tgt := 29) (dX12_take 7 rfl rfl) (by decide) rfl (fun c8 => ?_) (fun c8 => ?_)
    · replace hf := hf.1 c8
      refine x_aload_n (pc' := 30) 0 (dX12_take 12 rfl rfl) rfl rfl rfl ?_
      refine x_inv (pc' := 33) (ν := mX12_wrong) (av := [_]) (st := []) rfl rfl (dX12_take 13 rfl rfl) (Nat.le_of_ble_eq_true rfl) wX12_wrong q226 (inv_V (k := 10) (dX12_take 13 rfl rfl) q1289 q1291 qs14 wX12_wrong (by decide) lX12_wrong (by decide) s7.1) (exN (by decide)) rfl ?_
      refine C.mono hf (fun _ _ => KR.g (fun b11 h9 hf le10 => ?_))
      replace s7 := s7.le sc7 (le10)
      exact x_athrow (dX12_take 14 rfl rfl) rfl hf
    · replace hf := hf.2 c8
      refine x_aload_n (pc' := 20) 0 (dX12_take 8 rfl rfl) rfl rfl rfl ?_
      refine x_inv (pc' := 23) (ν := mX12_kind) (av := [_]) (st := []) rfl rfl (dX12_take 9 rfl rfl) (Nat.le_of_ble_eq_true rfl) wX12_kind q226 (inv_V (k := 10) (dX12_take 9 rfl rfl) q1281 q1283 qs12 wX12_kind (by decide) lX12_kind (by decide) s7.1) (exN (by decide)) rfl ?_
      refine C.mono hf (fun _ _ => KI.g (fun x14 h12 hf le13 => ?_))
      replace s7 := s7.le sc7 (le13)
      refine x_sipush (pc' := 26) (v := 292) (dX12_take 10 rfl rfl) (by decide) rfl ?_
      refine x_icmp_ne (pc' := 29) (tgt := 34) (dX12_take 11 rfl rfl) (by decide) rfl (fun c15 => ?_) (fun c15 => ?_)
      · replace hf := hf.2 c15
        refine x_aload_n (pc' := 35) 0 (dX12_take 15 rfl rfl) rfl rfl rfl ?_
        refine x_dup (pc' := 36) (dX12_take 16 rfl rfl) rfl rfl ?_
        refine x_getI (pc' := 39) (dX12_take 17 rfl rfl) g115 q859 (Or.inl rfl) rfl (hf_of 10 s7.1 rfl (by decide) m10_115) ?_
        refine x_iconst (pc' := 40) (v := 1) (dX12_take 18 rfl rfl) (by decide) rfl ?_
        refine x_iadd (pc' := 41) (dX12_take 19 rfl rfl) rfl ?_
        refine x_putI (pc' := 44) (dX12_take 20 rfl rfl) g115 q859 (Or.inl rfl) (Or.inl rfl) (Or.inl (by decide)) rfl (hf_of 10 s7.1 rfl (by decide) m10_115) (fun h16 e17 => ?_)
        replace hf := hf h16 e17
        replace s7 : So 7 (gW G) h16 := by rw [e17]; exact s7.le sc7 (pI_le (Or.inl rfl))
        refine x_aload_n (pc' := 45) 0 (dX12_take 21 rfl rfl) rfl rfl rfl ?_
        refine x_getI (pc' := 48) (dX12_take 22 rfl rfl) g115 q859 (Or.inl rfl) rfl (hf_of 10 s7.1 rfl (by decide) m10_115) ?_
        refine x_iconst (pc' := 49) (v := 1) (dX12_take 23 rfl rfl) (by decide) rfl ?_
        refine x_isub (pc' := 50) (dX12_take 24 rfl rfl) rfl ?_
        exact x_iret (dX12_take 25 rfl rfl) rfl hf
      · replace hf := hf.1 (Classical.not_not.mp c15)
        replace c15 := Classical.not_not.mp c15
        refine x_aload_n (pc' := 30) 0 (dX12_take 12 rfl rfl) rfl rfl rfl ?_
        refine x_inv (pc' := 33) (ν := mX12_wrong) (av := [_]) (st := []) rfl rfl (dX12_take 13 rfl rfl) (Nat.le_of_ble_eq_true rfl) wX12_wrong q226 (inv_V (k := 10) (dX12_take 13 rfl rfl) q1289 q1291 qs14 wX12_wrong (by decide) lX12_wrong (by decide) s7.1) (exN (by decide)) rfl ?_
        refine C.mono hf (fun _ _ => KR.g (fun b20 h18 hf le19 => ?_))
        replace s7 := s7.le sc7 (le19)
        exact x_athrow (dX12_take 14 rfl rfl) rfl hf
theorem bX12_pat (G : Gh) (d : Nat) (h : AH) (Q : Outcome → AH → Prop)  (s7 : So 7 (gW G) h) (hf : ∀ x1 : Int32, x1 = fI h (gW G 7) 115 → (C G mX12_kind d [.ref (gW G 7)] h (KI Q (fun x4 h2 => (x4 = 281 → (C G mX12_takePat d [.ref (gW G 7)] h2 (KI Q (fun x32 h30 => (hc h30 + 1 ≤ MC) ∧ (hs h30 + 3 ≤ MS) ∧ ∀ q33, hK h30 q33 = 0 → ∀ h35, h35 = nO h30 q33 18 → (C G mX12_beginsPat d [.ref (gW G 7)] h35 (KI Q (fun x40 h38 => (x40 = 0 → (C G mX20_init d [.ref (q33), .int (x32), .null] h38 (KV Q (fun h42 => C G mX12_kind d [.ref (gW G 7)] h42 (KI Q (fun x46 h44 => (x46 = 286 → (C G mX12_takePat d [.ref (gW G 7)] h44 (KI Q (fun x50 h48 => ∀ h51, h51 = pI h48 (gW G 7) 116 ((fI h48 (gW G 7) 116) + 1) → (C G mX12_pat d [.ref (gW G 7)] h51 (KR Q (fun b54 h52 => ∀ h55, h55 = pI h52 (gW G 7) 116 ((fI h52 (gW G 7) 116) - 1) → ((hc h55 + 1 ≤ MC) ∧ (hs h55 + 3 ≤ MS) ∧ ∀ q56, hK h55 q56 = 0 → ∀ h58, h58 = nO h55 q56 26 → (C G mX28_init d [.ref (q56), .int (x1), .ref (q33), .ref (b54)] h58 (KV Q (fun h61 => Q (.returned (some (.ref (q56)))) h61))))))))))) ∧ (¬ x46 = 286 → (Q (.returned (some (.ref (q33)))) h44)))))))) ∧ (¬ x40 = 0 → (C G mX12_atPat d [.ref (gW G 7)] h38 (KR Q (fun b67 h65 => C G mX20_init d [.ref (q33), .int (x32), .ref (b67)] h65 (KV Q (fun h68 => C G mX12_kind d [.ref (gW G 7)] h68 (KI Q (fun x72 h70 => (x72 = 286 → (C G mX12_takePat d [.ref (gW G 7)] h70 (KI Q (fun x76 h74 => ∀ h77, h77 = pI h74 (gW G 7) 116 ((fI h74 (gW G 7) 116) + 1) → (C G mX12_pat d [.ref (gW G 7)] h77 (KR Q (fun b80 h78 => ∀ h81, h81 = pI h78 (gW G 7) 116 ((fI h78 (gW G 7) 116) - 1) → ((hc h81 + 1 ≤ MC) ∧ (hs h81 + 3 ≤ MS) ∧ ∀ q82, hK h81 q82 = 0 → ∀ h84, h84 = nO h81 q82 26 → (C G mX28_init d [.ref (q82), .int (x1), .ref (q33), .ref (b80)] h84 (KV Q (fun h87 => Q (.returned (some (.ref (q82)))) h87))))))))))) ∧ (¬ x72 = 286 → (Q (.returned (some (.ref (q33)))) h70))))))))))))))))) ∧ (¬ x4 = 281 → (C G mX12_atPat d [.ref (gW G 7)] h2 (KR Q (fun b8 h6 => C G mX12_kind d [.ref (gW G 7)] h6 (KI Q (fun x11 h9 => (x11 = 286 → (C G mX12_takePat d [.ref (gW G 7)] h9 (KI Q (fun x15 h13 => ∀ h16, h16 = pI h13 (gW G 7) 116 ((fI h13 (gW G 7) 116) + 1) → (C G mX12_pat d [.ref (gW G 7)] h16 (KR Q (fun b19 h17 => ∀ h20, h20 = pI h17 (gW G 7) 116 ((fI h17 (gW G 7) 116) - 1) → ((hc h20 + 1 ≤ MC) ∧ (hs h20 + 3 ≤ MS) ∧ ∀ q21, hK h20 q21 = 0 → ∀ h23, h23 = nO h20 q21 26 → (C G mX28_init d [.ref (q21), .int (x1), .ref (b8), .ref (b19)] h23 (KV Q (fun h26 => Q (.returned (some (.ref (q21)))) h26))))))))))) ∧ (¬ x11 = 286 → (Q (.returned (some (.ref (b8)))) h9)))))))))))) : C G mX12_pat (d + 1) [.ref (gW G 7)] h Q := by
  refine C.of_X (by decide +kernel) (Nat.le_of_ble_eq_true rfl) wX12_pat ?_
  show X G mX12_pat (d + 1) none [] 0 [(0, .ref (gW G 7))] [] h Q
  refine x_aload_n (pc' := 1) 0 (dX12_pat 0 rfl rfl) rfl rfl rfl ?_
  refine x_getI (pc' := 4) (dX12_pat 1 rfl rfl) g115 q859 (Or.inl rfl) rfl (hf_of 10 s7.1 rfl (by decide) m10_115) ?_
  replace hf := hf _ rfl
  refine x_istore_n (pc' := 5) (dX12_pat 2 rfl rfl) rfl (by decide) rfl rfl ?_
  refine x_aload_n (pc' := 6) 1 (dX12_pat 3 rfl rfl) rfl rfl rfl ?_
  refine x_inv (pc' := 9) (ν := mX12_kind) (av := [_]) (st := []) rfl rfl (dX12_pat 4 rfl rfl) (Nat.le_of_ble_eq_true rfl) wX12_kind q226 (inv_V (k := 10) (dX12_pat 4 rfl rfl) q1281 q1283 qs12 wX12_kind (by decide) lX12_kind (by decide) s7.1) (exN (by decide)) rfl ?_
  refine C.mono hf (fun _ _ => KI.g (fun x4 h2 hf le3 => ?_))
  replace s7 := s7.le sc7 (le3)
  refine x_sipush (pc' := 12) (v := 281) (dX12_pat 5 rfl rfl) (by decide) rfl ?_
  refine x_icmp_ne (pc' := 15) (tgt := 47) (dX12_pat 6 rfl rfl) (by decide) rfl (fun c5 => ?_) (fun c5 => ?_)
  · replace hf := hf.2 c5
    refine x_aload_n (pc' := 48) 1 (dX12_pat 23 rfl rfl) rfl rfl rfl ?_
    refine x_inv (pc' := 51) (ν := mX12_atPat) (av := [_]) (st := []) rfl rfl (dX12_pat 24 rfl rfl) (Nat.le_of_ble_eq_true rfl) wX12_atPat q226 (inv_V (k := 10) (dX12_pat 24 rfl rfl) q1334 q1336 qs19 wX12_atPat (by decide) lX12_atPat (by decide) s7.1) (exN (by decide)) rfl ?_
    refine C.mono hf (fun _ _ => KR.g (fun b8 h6 hf le7 => ?_))
    replace s7 := s7.le sc7 (le7)
    refine x_astore_n (pc' := 52) (dX12_pat 25 rfl rfl) rfl (by decide) rfl rfl ?_
    refine x_aload_n (pc' := 53) 2 (dX12_pat 26 rfl rfl) rfl rfl rfl ?_
    refine x_inv (pc' := 56) (ν := mX12_kind) (av := [_]) (st := []) rfl rfl (dX12_pat 27 rfl rfl) (Nat.le_of_ble_eq_true rfl) wX12_kind q226 (inv_V (k := 10) (dX12_pat 27 rfl rfl) q1281 q1283 qs12 wX12_kind (by decide) lX12_kind (by decide) s7.1) (exN (by decide)) rfl ?_
    refine C.mono hf (fun _ _ => KI.g (fun x11 h9 hf le10 => ?_))
    replace s7 := s7.le sc7 (le10)
    refine x_sipush (pc' := 59) (v := 286) (dX12_pat 28 rfl rfl) (by decide) rfl ?_
    refine x_icmp_eq (pc' := 62) (tgt := 64) (dX12_pat 29 rfl rfl) (by decide) rfl (fun c12 => ?_) (fun c12 => ?_)
    · replace hf := hf.1 c12
      refine x_aload_n (pc' := 65) 2 (dX12_pat 32 rfl rfl) rfl rfl rfl ?_
      refine x_inv (pc' := 68) (ν := mX12_takePat) (av := [_]) (st := []) rfl rfl (dX12_pat 33 rfl rfl) (Nat.le_of_ble_eq_true rfl) wX12_takePat q226 (inv_V (k := 10) (dX12_pat 33 rfl rfl) q1324 q1326 qs17 wX12_takePat (by decide) lX12_takePat (by decide) s7.1) (exN (by decide)) rfl ?_
      refine C.mono hf (fun _ _ => KI.g (fun x15 h13 hf le14 => ?_))
      replace s7 := s7.le sc7 (le14)
      refine x_istore_n (pc' := 69) (dX12_pat 34 rfl rfl) rfl (by decide) rfl rfl ?_
      refine x_aload_n (pc' := 70) 3 (dX12_pat 35 rfl rfl) rfl rfl rfl ?_
      refine x_dup (pc' := 71) (dX12_pat 36 rfl rfl) rfl rfl ?_
      refine x_getI (pc' := 74) (dX12_pat 37 rfl rfl) g116 q860 (Or.inl rfl) rfl (hf_of 10 s7.1 rfl (by decide) m10_116) ?_
      refine x_iconst (pc' := 75) (v := 1) (dX12_pat 38 rfl rfl) (by decide) rfl ?_
      refine x_iadd (pc' := 76) (dX12_pat 39 rfl rfl) rfl ?_
      refine x_putI (pc' := 79) (dX12_pat 40 rfl rfl) g116 q860 (Or.inl rfl) (Or.inl rfl) (Or.inl (by decide)) rfl (hf_of 10 s7.1 rfl (by decide) m10_116) (fun h16 e29 => ?_)
      replace hf := hf h16 e29
      replace s7 : So 7 (gW G) h16 := by rw [e29]; exact s7.le sc7 (pI_le (Or.inl rfl))
      refine x_aload_n (pc' := 80) 3 (dX12_pat 41 rfl rfl) rfl rfl rfl ?_
      refine x_inv (pc' := 83) (ν := mX12_pat) (av := [_]) (st := []) rfl rfl (dX12_pat 42 rfl rfl) (Nat.le_of_ble_eq_true rfl) wX12_pat q226 (inv_V (k := 10) (dX12_pat 42 rfl rfl) q1320 q1322 qs16 wX12_pat (by decide) lX12_pat (by decide) s7.1) (exN (by decide)) rfl ?_
      refine C.mono hf (fun _ _ => KR.g (fun b19 h17 hf le18 => ?_))
      replace s7 := s7.le sc7 (le18)
      refine x_astore (pc' := 85) (dX12_pat 43 rfl rfl) (by decide) rfl rfl ?_
      refine x_aload_n (pc' := 86) 4 (dX12_pat 44 rfl rfl) rfl rfl rfl ?_
      refine x_dup (pc' := 87) (dX12_pat 45 rfl rfl) rfl rfl ?_
      refine x_getI (pc' := 90) (dX12_pat 46 rfl rfl) g116 q860 (Or.inl rfl) rfl (hf_of 10 s7.1 rfl (by decide) m10_116) ?_
      refine x_iconst (pc' := 91) (v := 1) (dX12_pat 47 rfl rfl) (by decide) rfl ?_
      refine x_isub (pc' := 92) (dX12_pat 48 rfl rfl) rfl ?_
      refine x_putI (pc' := 95) (dX12_pat 49 rfl rfl) g116 q860 (Or.inl rfl) (Or.inl rfl) (Or.inl (by decide)) rfl (hf_of 10 s7.1 rfl (by decide) m10_116) (fun h20 e28 => ?_)
      replace hf := hf h20 e28
      replace s7 : So 7 (gW G) h20 := by rw [e28]; exact s7.le sc7 (pI_le (Or.inl rfl))
      obtain ⟨n1, n2, hf⟩ := hf
      refine x_new (pc' := 98) (k := 26) (dX12_pat 50 rfl rfl) q1457 (by decide) rfl (by decide) n1 n2 (fun q21 h23 k22 e24 => ?_)
      replace hf := hf q21 k22 h23 e24
      replace s7 : So 7 (gW G) h23 := by rw [e24]; exact s7.le sc7 (nO_le k22)
      have k25 : hK h23 q21 = 27 := by rw [e24]; exact kNOs
      refine x_dup (pc' := 99) (dX12_pat 51 rfl rfl) rfl rfl ?_
      refine x_iload_n (pc' := 100) 3 (dX12_pat 52 rfl rfl) rfl rfl rfl ?_
      refine x_aload_n (pc' := 101) 2 (dX12_pat 53 rfl rfl) rfl rfl rfl ?_
      refine x_aload (pc' := 103) 0 (dX12_pat 54 rfl rfl) rfl rfl ?_
      refine x_inv (pc' := 106) (ν := mX28_init) (av := [_, _, _, _]) (st := [_]) rfl rfl (dX12_pat 55 rfl rfl) (Nat.le_of_ble_eq_true rfl) wX28_init q249 (inv_I (dX12_pat 55 rfl rfl) q1459 q1460 q1461 rfl (by decide) lX28_init) (fun b hb => by exact Or.inl (by have e : some _ = some b := hb; cases e; simp)) rfl ?_
      refine C.mono hf (fun _ _ => KV.g (fun h26 hf le27 => ?_))
      replace s7 := s7.leX sc7 le27 k25 (by decide)
      have k25 := leK le27 k25 (by decide)
      exact x_aret (dX12_pat 56 rfl rfl) rfl (Or.inl ⟨_, rfl⟩) (Or.inr ⟨_, rfl⟩) hf
    · replace hf := hf.2 c12
      refine x_aload_n (pc' := 63) 0 (dX12_pat 30 rfl rfl) rfl rfl rfl ?_
      exact x_aret (dX12_pat 31 rfl rfl) rfl (Or.inl ⟨_, rfl⟩) (Or.inr ⟨_, rfl⟩) hf
  · replace hf := hf.1 (Classical.not_not.mp c5)
    replace c5 := Classical.not_not.mp c5
    refine x_aload_n (pc' := 16) 1 (dX12_pat 7 rfl rfl) rfl rfl rfl ?_
    refine x_inv (pc' := 19) (ν := mX12_takePat) (av := [_]) (st := []) rfl rfl (dX12_pat 8 rfl rfl) (Nat.le_of_ble_eq_true rfl) wX12_takePat q226 (inv_V (k := 10) (dX12_pat 8 rfl rfl) q1324 q1326 qs17 wX12_takePat (by decide) lX12_takePat (by decide) s7.1) (exN (by decide)) rfl ?_
    refine C.mono hf (fun _ _ => KI.g (fun x32 h30 hf le31 => ?_))
    replace s7 := s7.le sc7 (le31)
    refine x_istore_n (pc' := 20) (dX12_pat 9 rfl rfl) rfl (by decide) rfl rfl ?_
    obtain ⟨n1, n2, hf⟩ := hf
    refine x_new (pc' := 23) (k := 18) (dX12_pat 10 rfl rfl) q1328 (by decide) rfl (by decide) n1 n2 (fun q33 h35 k34 e36 => ?_)
    replace hf := hf q33 k34 h35 e36
    replace s7 : So 7 (gW G) h35 := by rw [e36]; exact s7.le sc7 (nO_le k34)
    have k37 : hK h35 q33 = 19 := by rw [e36]; exact kNOs
    refine x_dup (pc' := 24) (dX12_pat 11 rfl rfl) rfl rfl ?_
    refine x_iload_n (pc' := 25) 0 (dX12_pat 12 rfl rfl) rfl rfl rfl ?_
    refine x_aload_n (pc' := 26) 2 (dX12_pat 13 rfl rfl) rfl rfl rfl ?_
    refine x_inv (pc' := 29) (ν := mX12_beginsPat) (av := [_]) (st := [_, _, _]) rfl rfl (dX12_pat 14 rfl rfl) (Nat.le_of_ble_eq_true rfl) wX12_beginsPat q226 (inv_V (k := 10) (dX12_pat 14 rfl rfl) q1330 q1332 qs18 wX12_beginsPat (by decide) lX12_beginsPat (by decide) s7.1) (exN (by decide)) rfl ?_
    refine C.mono hf (fun _ _ => KI.g (fun x40 h38 hf le39 => ?_))
    have k37 := leK le39 k37 (by decide)
    replace s7 := s7.le sc7 (le39)
    refine x_if_eq (pc' := 32) (tgt := 39) (dX12_pat 15 rfl rfl) (by decide) rfl (fun c41 => ?_) (fun c41 => ?_)
    · replace hf := hf.1 c41
      refine x_null (pc' := 40) (dX12_pat 19 rfl rfl) rfl ?_
      refine x_inv (pc' := 43) (ν := mX20_init) (av := [_, _, _]) (st := [_]) rfl rfl (dX12_pat 20 rfl rfl) (Nat.le_of_ble_eq_true rfl) wX20_init q241 (inv_I (dX12_pat 20 rfl rfl) q1371 q1372 q1373 rfl (by decide) lX20_init) (fun b hb => by exact Or.inl (by have e : some _ = some b := hb; cases e; simp)) rfl ?_
      refine C.mono hf (fun _ _ => KV.g (fun h42 hf le43 => ?_))
      replace s7 := s7.leX sc7 le43 k37 (by decide)
      have k37 := leK le43 k37 (by decide)
      refine x_astore_n (pc' := 44) (dX12_pat 21 rfl rfl) rfl (by decide) rfl rfl ?_
      refine x_goto (tgt := 52) (dX12_pat 22 rfl rfl) (by decide) ?_
      refine x_aload_n (pc' := 53) 3 (dX12_pat 26 rfl rfl) rfl rfl rfl ?_
      refine x_inv (pc' := 56) (ν := mX12_kind) (av := [_]) (st := []) rfl rfl (dX12_pat 27 rfl rfl) (Nat.le_of_ble_eq_true rfl) wX12_kind q226 (inv_V (k := 10) (dX12_pat 27 rfl rfl) q1281 q1283 qs12 wX12_kind (by decide) lX12_kind (by decide) s7.1) (exN (by decide)) rfl ?_
      refine C.mono hf (fun _ _ => KI.g (fun x46 h44 hf le45 => ?_))
      have k37 := leK le45 k37 (by decide)
      replace s7 := s7.le sc7 (le45)
      refine x_sipush (pc' := 59) (v := 286) (dX12_pat 28 rfl rfl) (by decide) rfl ?_
      refine x_icmp_eq (pc' := 62) (tgt := 64) (dX12_pat 29 rfl rfl) (by decide) rfl (fun c47 => ?_) (fun c47 => ?_)
      · replace hf := hf.1 c47
        refine x_aload_n (pc' := 65) 3 (dX12_pat 32 rfl rfl) rfl rfl rfl ?_
        refine x_inv (pc' := 68) (ν := mX12_takePat) (av := [_]) (st := []) rfl rfl (dX12_pat 33 rfl rfl) (Nat.le_of_ble_eq_true rfl) wX12_takePat q226 (inv_V (k := 10) (dX12_pat 33 rfl rfl) q1324 q1326 qs17 wX12_takePat (by decide) lX12_takePat (by decide) s7.1) (exN (by decide)) rfl ?_
        refine C.mono hf (fun _ _ => KI.g (fun x50 h48 hf le49 => ?_))
        have k37 := leK le49 k37 (by decide)
        replace s7 := s7.le sc7 (le49)
        refine x_istore_n (pc' := 69) (dX12_pat 34 rfl rfl) rfl (by decide) rfl rfl ?_
        refine x_aload_n (pc' := 70) 3 (dX12_pat 35 rfl rfl) rfl rfl rfl ?_
        refine x_dup (pc' := 71) (dX12_pat 36 rfl rfl) rfl rfl ?_
        refine x_getI (pc' := 74) (dX12_pat 37 rfl rfl) g116 q860 (Or.inl rfl) rfl (hf_of 10 s7.1 rfl (by decide) m10_116) ?_
        refine x_iconst (pc' := 75) (v := 1) (dX12_pat 38 rfl rfl) (by decide) rfl ?_
        refine x_iadd (pc' := 76) (dX12_pat 39 rfl rfl) rfl ?_
        refine x_putI (pc' := 79) (dX12_pat 40 rfl rfl) g116 q860 (Or.inl rfl) (Or.inl rfl) (Or.inl (by decide)) rfl (hf_of 10 s7.1 rfl (by decide) m10_116) (fun h51 e64 => ?_)
        replace hf := hf h51 e64
        replace k37 : hK h51 q33 = 19 := by rw [e64]; exact k37
        replace s7 : So 7 (gW G) h51 := by rw [e64]; exact s7.le sc7 (pI_le (Or.inl rfl))
        refine x_aload_n (pc' := 80) 3 (dX12_pat 41 rfl rfl) rfl rfl rfl ?_
        refine x_inv (pc' := 83) (ν := mX12_pat) (av := [_]) (st := []) rfl rfl (dX12_pat 42 rfl rfl) (Nat.le_of_ble_eq_true rfl) wX12_pat q226 (inv_V (k := 10) (dX12_pat 42 rfl rfl) q1320 q1322 qs16 wX12_pat (by decide) lX12_pat (by decide) s7.1) (exN (by decide)) rfl ?_
        refine C.mono hf (fun _ _ => KR.g (fun b54 h52 hf le53 => ?_))
        have k37 := leK le53 k37 (by decide)
        replace s7 := s7.le sc7 (le53)
        refine x_astore (pc' := 85) (dX12_pat 43 rfl rfl) (by decide) rfl rfl ?_
        refine x_aload_n (pc' := 86) 4 (dX12_pat 44 rfl rfl) rfl rfl rfl ?_
        refine x_dup (pc' := 87) (dX12_pat 45 rfl rfl) rfl rfl ?_
        refine x_getI (pc' := 90) (dX12_pat 46 rfl rfl) g116 q860 (Or.inl rfl) rfl (hf_of 10 s7.1 rfl (by decide) m10_116) ?_
        refine x_iconst (pc' := 91) (v := 1) (dX12_pat 47 rfl rfl) (by decide) rfl ?_
        refine x_isub (pc' := 92) (dX12_pat 48 rfl rfl) rfl ?_
        refine x_putI (pc' := 95) (dX12_pat 49 rfl rfl) g116 q860 (Or.inl rfl) (Or.inl rfl) (Or.inl (by decide)) rfl (hf_of 10 s7.1 rfl (by decide) m10_116) (fun h55 e63 => ?_)
        replace hf := hf h55 e63
        replace k37 : hK h55 q33 = 19 := by rw [e63]; exact k37
        replace s7 : So 7 (gW G) h55 := by rw [e63]; exact s7.le sc7 (pI_le (Or.inl rfl))
        obtain ⟨n1, n2, hf⟩ := hf
        refine x_new (pc' := 98) (k := 26) (dX12_pat 50 rfl rfl) q1457 (by decide) rfl (by decide) n1 n2 (fun q56 h58 k57 e59 => ?_)
        replace hf := hf q56 k57 h58 e59
        replace k37 : hK h58 q33 = 19 := by rw [e59]; exact kNO k37 (by decide) k57
        replace s7 : So 7 (gW G) h58 := by rw [e59]; exact s7.le sc7 (nO_le k57)
        have k60 : hK h58 q56 = 27 := by rw [e59]; exact kNOs
        refine x_dup (pc' := 99) (dX12_pat 51 rfl rfl) rfl rfl ?_
        refine x_iload_n (pc' := 100) 3 (dX12_pat 52 rfl rfl) rfl rfl rfl ?_
        refine x_aload_n (pc' := 101) 2 (dX12_pat 53 rfl rfl) rfl rfl rfl ?_
        refine x_aload (pc' := 103) 0 (dX12_pat 54 rfl rfl) rfl rfl ?_
        refine x_inv (pc' := 106) (ν := mX28_init) (av := [_, _, _, _]) (st := [_]) rfl rfl (dX12_pat 55 rfl rfl) (Nat.le_of_ble_eq_true rfl) wX28_init q249 (inv_I (dX12_pat 55 rfl rfl) q1459 q1460 q1461 rfl (by decide) lX28_init) (fun b hb => by exact Or.inl (by have e : some _ = some b := hb; cases e; simp)) rfl ?_
        refine C.mono hf (fun _ _ => KV.g (fun h61 hf le62 => ?_))
        replace s7 := s7.leX sc7 le62 k60 (by decide)
        have k37 := leK le62 k37 (by decide)
        have k60 := leK le62 k60 (by decide)
        exact x_aret (dX12_pat 56 rfl rfl) rfl (Or.inl ⟨_, rfl⟩) (Or.inr ⟨_, rfl⟩) hf
      · replace hf := hf.2 c47
        refine x_aload_n (pc' := 63) 0 (dX12_pat 30 rfl rfl) rfl rfl rfl ?_
        exact x_aret (dX12_pat 31 rfl rfl) rfl (Or.inl ⟨_, rfl⟩) (Or.inr ⟨_, rfl⟩) hf
    · replace hf := hf.2 c41
      refine x_aload_n (pc' := 33) 2 (dX12_pat 16 rfl rfl) rfl rfl rfl ?_
      refine x_inv (pc' := 36) (ν := mX12_atPat) (av := [_]) (st := [_, _, _]) rfl rfl (dX12_pat 17 rfl rfl) (Nat.le_of_ble_eq_true rfl) wX12_atPat q226 (inv_V (k := 10) (dX12_pat 17 rfl rfl) q1334 q1336 qs19 wX12_atPat (by decide) lX12_atPat (by decide) s7.1) (exN (by decide)) rfl ?_
      refine C.mono hf (fun _ _ => KR.g (fun b67 h65 hf le66 => ?_))
      have k37 := leK le66 k37 (by decide)
      replace s7 := s7.le sc7 (le66)
      refine x_goto (tgt := 40) (dX12_pat 18 rfl rfl) (by decide) ?_
      refine x_inv (pc' := 43) (ν := mX20_init) (av := [_, _, _]) (st := [_]) rfl rfl (dX12_pat 20 rfl rfl) (Nat.le_of_ble_eq_true rfl) wX20_init q241 (inv_I (dX12_pat 20 rfl rfl) q1371 q1372 q1373 rfl (by decide) lX20_init) (fun b hb => by exact Or.inl (by have e : some _ = some b := hb; cases e; simp)) rfl ?_
      refine C.mono hf (fun _ _ => KV.g (fun h68 hf le69 => ?_))
      replace s7 := s7.leX sc7 le69 k37 (by decide)
      have k37 := leK le69 k37 (by decide)
      refine x_astore_n (pc' := 44) (dX12_pat 21 rfl rfl) rfl (by decide) rfl rfl ?_
      refine x_goto (tgt := 52) (dX12_pat 22 rfl rfl) (by decide) ?_
      refine x_aload_n (pc' := 53) 3 (dX12_pat 26 rfl rfl) rfl rfl rfl ?_
      refine x_inv (pc' := 56) (ν := mX12_kind) (av := [_]) (st := []) rfl rfl (dX12_pat 27 rfl rfl) (Nat.le_of_ble_eq_true rfl) wX12_kind q226 (inv_V (k := 10) (dX12_pat 27 rfl rfl) q1281 q1283 qs12 wX12_kind (by decide) lX12_kind (by decide) s7.1) (exN (by decide)) rfl ?_
      refine C.mono hf (fun _ _ => KI.g (fun x72 h70 hf le71 => ?_))
      have k37 := leK le71 k37 (by decide)
      replace s7 := s7.le sc7 (le71)
      refine x_sipush (pc' := 59) (v := 286) (dX12_pat 28 rfl rfl) (by decide) rfl ?_
      refine x_icmp_eq (pc' := 62) (tgt := 64) (dX12_pat 29 rfl rfl) (by decide) rfl (fun c73 => ?_) (fun c73 => ?_)
      · replace hf := hf.1 c73
        refine x_aload_n (pc' := 65) 3 (dX12_pat 32 rfl rfl) rfl rfl rfl ?_
        refine x_inv (pc' := 68) (ν := mX12_takePat) (av := [_]) (st := []) rfl rfl (dX12_pat 33 rfl rfl) (Nat.le_of_ble_eq_true rfl) wX12_takePat q226 (inv_V (k := 10) (dX12_pat 33 rfl rfl) q1324 q1326 qs17 wX12_takePat (by decide) lX12_takePat (by decide) s7.1) (exN (by decide)) rfl ?_
        refine C.mono hf (fun _ _ => KI.g (fun x76 h74 hf le75 => ?_))
        have k37 := leK le75 k37 (by decide)
        replace s7 := s7.le sc7 (le75)
        refine x_istore_n (pc' := 69) (dX12_pat 34 rfl rfl) rfl (by decide) rfl rfl ?_
        refine x_aload_n (pc' := 70) 3 (dX12_pat 35 rfl rfl) rfl rfl rfl ?_
        refine x_dup (pc' := 71) (dX12_pat 36 rfl rfl) rfl rfl ?_
        refine x_getI (pc' := 74) (dX12_pat 37 rfl rfl) g116 q860 (Or.inl rfl) rfl (hf_of 10 s7.1 rfl (by decide) m10_116) ?_
        refine x_iconst (pc' := 75) (v := 1) (dX12_pat 38 rfl rfl) (by decide) rfl ?_
        refine x_iadd (pc' := 76) (dX12_pat 39 rfl rfl) rfl ?_
        refine x_putI (pc' := 79) (dX12_pat 40 rfl rfl) g116 q860 (Or.inl rfl) (Or.inl rfl) (Or.inl (by decide)) rfl (hf_of 10 s7.1 rfl (by decide) m10_116) (fun h77 e90 => ?_)
        replace hf := hf h77 e90
        replace k37 : hK h77 q33 = 19 := by rw [e90]; exact k37
        replace s7 : So 7 (gW G) h77 := by rw [e90]; exact s7.le sc7 (pI_le (Or.inl rfl))
        refine x_aload_n (pc' := 80) 3 (dX12_pat 41 rfl rfl) rfl rfl rfl ?_
        refine x_inv (pc' := 83) (ν := mX12_pat) (av := [_]) (st := []) rfl rfl (dX12_pat 42 rfl rfl) (Nat.le_of_ble_eq_true rfl) wX12_pat q226 (inv_V (k := 10) (dX12_pat 42 rfl rfl) q1320 q1322 qs16 wX12_pat (by decide) lX12_pat (by decide) s7.1) (exN (by decide)) rfl ?_
        refine C.mono hf (fun _ _ => KR.g (fun b80 h78 hf le79 => ?_))
        have k37 := leK le79 k37 (by decide)
        replace s7 := s7.le sc7 (le79)
        refine x_astore (pc' := 85) (dX12_pat 43 rfl rfl) (by decide) rfl rfl ?_
        refine x_aload_n (pc' := 86) 4 (dX12_pat 44 rfl rfl) rfl rfl rfl ?_
        refine x_dup (pc' := 87) (dX12_pat 45 rfl rfl) rfl rfl ?_
        refine x_getI (pc' := 90) (dX12_pat 46 rfl rfl) g116 q860 (Or.inl rfl) rfl (hf_of 10 s7.1 rfl (by decide) m10_116) ?_
        refine x_iconst (pc' := 91) (v := 1) (dX12_pat 47 rfl rfl) (by decide) rfl ?_
        refine x_isub (pc' := 92) (dX12_pat 48 rfl rfl) rfl ?_
        refine x_putI (pc' := 95) (dX12_pat 49 rfl rfl) g116 q860 (Or.inl rfl) (Or.inl rfl) (Or.inl (by decide)) rfl (hf_of 10 s7.1 rfl (by decide) m10_116) (fun h81 e89 => ?_)
        replace hf := hf h81 e89
        replace k37 : hK h81 q33 = 19 := by rw [e89]; exact k37
        replace s7 : So 7 (gW G) h81 := by rw [e89]; exact s7.le sc7 (pI_le (Or.inl rfl))
        obtain ⟨n1, n2, hf⟩ := hf
        refine x_new (pc' := 98) (k := 26) (dX12_pat 50 rfl rfl) q1457 (by decide) rfl (by decide) n1 n2 (fun q82 h84 k83 e85 => ?_)
        replace hf := hf q82 k83 h84 e85
        replace k37 : hK h84 q33 = 19 := by rw [e85]; exact kNO k37 (by decide) k83
        replace s7 : So 7 (gW G) h84 := by rw [e85]; exact s7.le sc7 (nO_le k83)
        have k86 : hK h84 q82 = 27 := by rw [e85]; exact kNOs
        refine x_dup (pc' := 99) (dX12_pat 51 rfl rfl) rfl rfl ?_
        refine x_iload_n (pc' := 100) 3 (dX12_pat 52 rfl rfl) rfl rfl rfl ?_
        refine x_aload_n (pc' := 101) 2 (dX12_pat 53 rfl rfl) rfl rfl rfl ?_
        refine x_aload (pc' := 103) 0 (dX12_pat 54 rfl rfl) rfl rfl ?_
        refine x_inv (pc' := 106) (ν := mX28_init) (av := [_, _, _, _]) (st := [_]) rfl rfl (dX12_pat 55 rfl rfl) (Nat.le_of_ble_eq_true rfl) wX28_init q249 (inv_I (dX12_pat 55 rfl rfl) q1459 q1460 q1461 rfl (by decide) lX28_init) (fun b hb => by exact Or.inl (by have e : some _ = some b := hb; cases e; simp)) rfl ?_
        refine C.mono hf (fun _ _ => KV.g (fun h87 hf le88 => ?_))
        replace s7 := s7.leX sc7 le88 k86 (by decide)
        have k37 := leK le88 k37 (by decide)
        have k86 := leK le88 k86 (by decide)
        exact x_aret (dX12_pat 56 rfl rfl) rfl (Or.inl ⟨_, rfl⟩) (Or.inr ⟨_, rfl⟩) hf
      · replace hf := hf.2 c73
        refine x_aload_n (pc' := 63) 0 (dX12_pat 30 rfl rfl) rfl rfl rfl ?_
        exact x_aret (dX12_pat 31 rfl rfl) rfl (Or.inl ⟨_, rfl⟩) (Or.inr ⟨_, rfl⟩) hf
theorem bX12_takePat (G : Gh) (d : Nat) (h : AH) (Q : Outcome → AH → Prop)  (s7 : So 7 (gW G) h) (hf : ((fI h (gW G 7) 118) = 24 → (C G mX12_wrong d [.ref (gW G 7)] h (KR Q (fun b9 h7 => Q (.threw b9) h7)))) ∧ (¬ ((fI h (gW G 7) 118) = 24) → (∀ h2, h2 = pI h (gW G 7) 118 ((fI h (gW G 7) 118) + 1) → (C G mX12_take d [.ref (gW G 7)] h2 (KI Q (fun x5 h3 => Q (.returned (some (.int x5))) h3)))))) : C G mX12_takePat (d + 1) [.ref (gW G 7)] h Q := by
  refine C.of_X (by decide +kernel) (Nat.le_of_ble_eq_true rfl) wX12_takePat ?_
  show X G mX12_takePat (d + 1) none [] 0 [(0, .ref (gW G 7))] [] h Q
  refine x_aload_n (pc' := 1) 0 (dX12_takePat 0 rfl rfl) rfl rfl rfl ?_
  refine x_getI (pc' := 4) (dX12_takePat 1 rfl rfl) g118 q862 (Or.inl rfl) rfl (hf_of 10 s7.1 rfl (by decide) m10_118) ?_
  refine x_bipush (pc' := 6) (v := 24) (dX12_takePat 2 rfl rfl) (by decide) rfl ?_
  refine x_icmp_ne (pc' := 9) (tgt := 14) (dX12_takePat 3 rfl rfl) (by decide) rfl (fun c1 => ?_) (fun c1 => ?_)
  · replace hf := hf.2 c1
    refine x_aload_n (pc' := 15) 0 (dX12_takePat 7 rfl rfl) rfl rfl rfl ?_
    refine x_dup (pc' := 16) (dX12_takePat 8 rfl rfl) rfl rfl ?_
    refine x_getI (pc' := 19) (dX12_takePat 9 rfl rfl) g118 q862 (Or.inl rfl) rfl (hf_of 10 s7.1 rfl (by decide) m10_118) ?_
    refine x_iconst (pc' := 20) (v := 1) (dX12_takePat 10 rfl rfl) (by decide) rfl ?_
    refine x_iadd (pc' := 21) (dX12_takePat 11 rfl rfl) rfl ?_
    refine x_putI (pc' := 24) (dX12_takePat 12 rfl rfl) g118 q862 (Or.inl rfl) (Or.inl rfl) (Or.inl (by decide)) rfl (hf_of 10 s7.1 rfl (by decide) m10_118) (fun h2 e6 => ?_)
    replace hf := hf h2 e6
    replace s7 : So 7 (gW G) h2 := by rw [e6]; exact s7.le sc7 (pI_le (Or.inl rfl))
    refine x_aload_n (pc' := 25) 0 (dX12_takePat 13 rfl rfl) rfl rfl rfl ?_
    refine x_inv (pc' := 28) (ν := mX12_take) (av := [_]) (st := []) rfl rfl (dX12_takePat 14 rfl rfl) (Nat.le_of_ble_eq_true rfl) wX12_take q226 (inv_V (k := 10) (dX12_takePat 14 rfl rfl) q1316 q1318 qs15 wX12_take (by decide) lX12_take (by decide) s7.1) (exN (by decide)) rfl ?_
    refine C.mono hf (fun _ _ => KI.g (fun x5 h3 hf le4 => ?_))
    replace s7 := s7.le sc7 (le4)
    exact x_iret (dX12_takePat 15 rfl rfl) rfl hf
  · replace hf := hf.1 (Classical.not_not.mp c1)
    replace c1 := Classical.not_not.mp c1
    refine x_aload_n (pc' := 10) 0 (dX12_takePat 4 rfl rfl) rfl rfl rfl ?_
    refine x_inv (pc' := 13) (ν := mX12_wrong) (av := [_]) (st := []) rfl rfl (dX12_takePat 5 rfl rfl) (Nat.le_of_ble_eq_true rfl) wX12_wrong q226 (inv_V (k := 10) (dX12_takePat 5 rfl rfl) q1289 q1291 qs14 wX12_wrong (by decide) lX12_wrong (by decide) s7.1) (exN (by decide)) rfl ?_
    refine C.mono hf (fun _ _ => KR.g (fun b9 h7 hf le8 => ?_))
    replace s7 := s7.le sc7 (le8)
    exact x_athrow (dX12_takePat 6 rfl rfl) rfl hf
theorem bX12_beginsPat (G : Gh) (d : Nat) (h : AH) (Q : Outcome → AH → Prop)  (s7 : So 7 (gW G) h) (hf : C G mX12_kind d [.ref (gW G 7)] h (KI Q (fun x3 h1 => (x3 = 95 → (Q (.returned (some (.int 1))) h1)) ∧ (¬ x3 = 95 → ((x3 = 280 → (Q (.returned (some (.int 1))) h1)) ∧ (¬ x3 = 280 → ((x3 = 281 → (Q (.returned (some (.int 1))) h1)) ∧ (¬ x3 = 281 → ((x3 = 283 → (Q (.returned (some (.int 1))) h1)) ∧ (¬ x3 = 283 → ((x3 = 126 → (Q (.returned (some (.int 1))) h1)) ∧ (¬ x3 = 126 → ((x3 = 272 → (Q (.returned (some (.int 1))) h1)) ∧ (¬ x3 = 272 → ((x3 = 273 → (Q (.returned (some (.int 1))) h1)) ∧ (¬ x3 = 273 → ((x3 = 40 → (Q (.returned (some (.int 1))) h1)) ∧ (¬ x3 = 40 → ((x3 = 91 → (Q (.returned (some (.int 1))) h1)) ∧ (¬ x3 = 91 → (Q (.returned (some (.int 0))) h1))))))))))))))))))))) : C G mX12_beginsPat (d + 1) [.ref (gW G 7)] h Q := by
  refine C.of_X (by decide +kernel) (Nat.le_of_ble_eq_true rfl) wX12_beginsPat ?_
  show X G mX12_beginsPat (d + 1) none [] 0 [(0, .ref (gW G 7))] [] h Q
  refine x_aload_n (pc' := 1) 0 (dX12_beginsPat 0 rfl rfl) rfl rfl rfl ?_
  refine x_inv (pc' := 4) (ν := mX12_kind) (av := [_]) (st := []) rfl rfl (dX12_beginsPat 1 rfl rfl) (Nat.le_of_ble_eq_true rfl) wX12_kind q226 (inv_V (k := 10) (dX12_beginsPat 1 rfl rfl) q1281 q1283 qs12 wX12_kind (by decide) lX12_kind (by decide) s7.1) (exN (by decide)) rfl ?_
  refine C.mono hf (fun _ _ => KI.g (fun x3 h1 hf le2 => ?_))
  replace s7 := s7.le sc7 (le2)
  refine x_istore_n (pc' := 5) (dX12_beginsPat 2 rfl rfl) rfl (by decide) rfl rfl ?_
  refine x_iload_n (pc' := 6) 0 (dX12_beginsPat 3 rfl rfl) rfl rfl rfl ?_
  refine x_bipush (pc' := 8) (v := 95) (dX12_beginsPat 4 rfl rfl) (by decide) rfl ?_
  refine x_icmp_eq (pc' := 11) (tgt := 64) (dX12_beginsPat 5 rfl rfl) (by decide) rfl (fun c4 => ?_) (fun c4 => ?_)
  · replace hf := hf.1 c4
    refine x_iconst (pc' := 65) (v := 1) (dX12_beginsPat 30 rfl rfl) (by decide) rfl ?_
    refine x_goto (tgt := 69) (dX12_beginsPat 31 rfl rfl) (by decide) ?_
    exact x_zret (ty := .boolean) (dX12_beginsPat 33 rfl rfl) rfl (by decide) hf
  · replace hf := hf.2 c4
    refine x_iload_n (pc' := 12) 0 (dX12_beginsPat 6 rfl rfl) rfl rfl rfl ?_
    refine x_sipush (pc' := 15) (v := 280) (dX12_beginsPat 7 rfl rfl) (by decide) rfl ?_
    refine x_icmp_eq (pc' := 18) (tgt := 64) (dX12_beginsPat 8 rfl rfl) (by decide) rfl (fun c5 => ?_) (fun c5 => ?_)
    · replace hf := hf.1 c5
      refine x_iconst (pc' := 65) (v := 1) (dX12_beginsPat 30 rfl rfl) (by decide) rfl ?_
      refine x_goto (tgt := 69) (dX12_beginsPat 31 rfl rfl) (by decide) ?_
      exact x_zret (ty := .boolean) (dX12_beginsPat 33 rfl rfl) rfl (by decide) hf
    · replace hf := hf.2 c5
      refine x_iload_n (pc' := 19) 0 (dX12_beginsPat 9 rfl rfl) rfl rfl rfl ?_
      refine x_sipush (pc' := 22) (v := 281) (dX12_beginsPat 10 rfl rfl) (by decide) rfl ?_
      refine x_icmp_eq (pc' := 25) (tgt := 64) (dX12_beginsPat 11 rfl rfl) (by decide) rfl (fun c6 => ?_) (fun c6 => ?_)
      · replace hf := hf.1 c6
        refine x_iconst (pc' := 65) (v := 1) (dX12_beginsPat 30 rfl rfl) (by decide) rfl ?_
        refine x_goto (tgt := 69) (dX12_beginsPat 31 rfl rfl) (by decide) ?_
        exact x_zret (ty := .boolean) (dX12_beginsPat 33 rfl rfl) rfl (by decide) hf
      · replace hf := hf.2 c6
        refine x_iload_n (pc' := 26) 0 (dX12_beginsPat 12 rfl rfl) rfl rfl rfl ?_
        refine x_sipush (pc' := 29) (v := 283) (dX12_beginsPat 13 rfl rfl) (by decide) rfl ?_
        refine x_icmp_eq (pc' := 32) (tgt := 64) (dX12_beginsPat 14 rfl rfl) (by decide) rfl (fun c7 => ?_) (fun c7 => ?_)
        · replace hf := hf.1 c7
          refine x_iconst (pc' := 65) (v := 1) (dX12_beginsPat 30 rfl rfl) (by decide) rfl ?_
          refine x_goto (tgt := 69) (dX12_beginsPat 31 rfl rfl) (by decide) ?_
          exact x_zret (ty := .boolean) (dX12_beginsPat 33 rfl rfl) rfl (by decide) hf
        · replace hf := hf.2 c7
          refine x_iload_n (pc' := 33) 0 (dX12_beginsPat 15 rfl rfl) rfl rfl rfl ?_
          refine x_bipush (pc' := 35) (v := 126) (dX12_beginsPat 16 rfl rfl) (by decide) rfl ?_
          refine x_icmp_eq (pc' := 38) (tgt := 64) (dX12_beginsPat 17 rfl rfl) (by decide) rfl (fun c8 => ?_) (fun c8 => ?_)
          · replace hf := hf.1 c8
            refine x_iconst (pc' := 65) (v := 1) (dX12_beginsPat 30 rfl rfl) (by decide) rfl ?_
            refine x_goto (tgt := 69) (dX12_beginsPat 31 rfl rfl) (by decide) ?_
            exact x_zret (ty := .boolean) (dX12_beginsPat 33 rfl rfl) rfl (by decide) hf
          · replace hf := hf.2 c8
            refine x_iload_n (pc' := 39) 0 (dX12_beginsPat 18 rfl rfl) rfl rfl rfl ?_
            refine x_sipush (pc' := 42) (v := 272) (dX12_beginsPat 19 rfl rfl) (by decide) rfl ?_
            refine x_icmp_eq (pc' := 45) (tgt := 64) (dX12_beginsPat 20 rfl rfl) (by decide) rfl (fun c9 => ?_) (fun c9 => ?_)
            · replace hf := hf.1 c9
              refine x_iconst (pc' := 65) (v := 1) (dX12_beginsPat 30 rfl rfl) (by decide) rfl ?_
              refine x_goto (tgt := 69) (dX12_beginsPat 31 rfl rfl) (by decide) ?_
              exact x_zret (ty := .boolean) (dX12_beginsPat 33 rfl rfl) rfl (by decide) hf
            · replace hf := hf.2 c9
              refine x_iload_n (pc' := 46) 0 (dX12_beginsPat 21 rfl rfl) rfl rfl rfl ?_
              refine x_sipush (pc' := 49) (v := 273) (dX12_beginsPat 22 rfl rfl) (by decide) rfl ?_
              refine x_icmp_eq (pc' := 52) (tgt := 64) (dX12_beginsPat 23 rfl rfl) (by decide) rfl (fun c10 => ?_) (fun c10 => ?_)
              · replace hf := hf.1 c10
                refine x_iconst (pc' := 65) (v := 1) (dX12_beginsPat 30 rfl rfl) (by decide) rfl ?_
                refine x_goto (tgt := 69) (dX12_beginsPat 31 rfl rfl) (by decide) ?_
                exact x_zret (ty := .boolean) (dX12_beginsPat 33 rfl rfl) rfl (by decide) hf
              · replace hf := hf.2 c10
                refine x_iload_n (pc' := 53) 0 (dX12_beginsPat 24 rfl rfl) rfl rfl rfl ?_
                refine x_bipush (pc' := 55) (v := 40) (dX12_beginsPat 25 rfl rfl) (by decide) rfl ?_
                refine x_icmp_eq (pc' := 58) (tgt := 64) (dX12_beginsPat 26 rfl rfl) (by decide) rfl (fun c11 => ?_) (fun c11 => ?_)
                · replace hf := hf.1 c11
                  refine x_iconst (pc' := 65) (v := 1) (dX12_beginsPat 30 rfl rfl) (by decide) rfl ?_
                  refine x_goto (tgt := 69) (dX12_beginsPat 31 rfl rfl) (by decide) ?_
                  exact x_zret (ty := .boolean) (dX12_beginsPat 33 rfl rfl) rfl (by decide) hf
                · replace hf := hf.2 c11
                  refine x_iload_n (pc' := 59) 0 (dX12_beginsPat 27 rfl rfl) rfl rfl rfl ?_
                  refine x_bipush (pc' := 61) (v := 91) (dX12_beginsPat 28 rfl rfl) (by decide) rfl ?_
                  refine x_icmp_ne (pc' := 64) (tgt := 68) (dX12_beginsPat 29 rfl rfl) (by decide) rfl (fun c12 => ?_) (fun c12 => ?_)
                  · replace hf := hf.2 c12
                    refine x_iconst (pc' := 69) (v := 0) (dX12_beginsPat 32 rfl rfl) (by decide) rfl ?_
                    exact x_zret (ty := .boolean) (dX12_beginsPat 33 rfl rfl) rfl (by decide) hf
                  · replace hf := hf.1 (Classical.not_not.mp c12)
                    replace c12 := Classical.not_not.mp c12
                    refine x_iconst (pc' := 65) (v := 1) (dX12_beginsPat 30 rfl rfl) (by decide) rfl ?_
                    refine x_goto (tgt := 69) (dX12_beginsPat 31 rfl rfl) (by decide) ?_
                    exact x_zret (ty := .boolean) (dX12_beginsPat 33 rfl rfl) rfl (by decide) hf
theorem bX12_atPat (G : Gh) (d : Nat) (h : AH) (Q : Outcome → AH → Prop)  (s1 : So 1 (gW G) h) (s7 : So 7 (gW G) h) (hf : ∀ x1 : Int32, x1 = fI h (gW G 7) 115 → (C G mX12_kind d [.ref (gW G 7)] h (KI Q (fun x4 h2 => (x4 = 40 → (C G mX12_bracketed d [.ref (gW G 7), .int (x1)] h2 (KR Q (fun b8 h6 => Q (.returned (some (.ref (b8)))) h6)))) ∧ (x4 = 91 → (C G mX12_bracketed d [.ref (gW G 7), .int (x1)] h2 (KR Q (fun b11 h9 => Q (.returned (some (.ref (b11)))) h9)))) ∧ (x4 = 95 → ((hc h2 + 1 ≤ MC) ∧ (hs h2 + 1 ≤ MS) ∧ ∀ q12, hK h2 q12 = 0 → ∀ h14, h14 = nO h2 q12 19 → (C G mX12_takePat d [.ref (gW G 7)] h14 (KI Q (fun x19 h17 => C G mX21_init d [.ref (q12), .int (x19)] h17 (KV Q (fun h20 => Q (.returned (some (.ref (q12)))) h20))))))) ∧ (x4 = 126 → (C G mX12_takePat d [.ref (gW G 7)] h2 (KI Q (fun x24 h22 => C G mX12_kind d [.ref (gW G 7)] h22 (KI Q (fun x27 h25 => (x27 = 283 → ((hc h25 + 1 ≤ MC) ∧ (hs h25 + 3 ≤ MS) ∧ ∀ q29, hK h25 q29 = 0 → ∀ h31, h31 = nO h25 q29 21 → (C G mX12_takePat d [.ref (gW G 7)] h31 (KI Q (fun x36 h34 => vp_in x36 4098 ∧ (C G mX23_init d [.ref (q29), .int (x1), .long (-(aJ h34 (gW G 1026) x36.toNatClampNeg)), .int (0)] h34 (KV Q (fun h38 => Q (.returned (some (.ref (q29)))) h38)))))))) ∧ (¬ x27 = 283 → (C G mX12_wrong d [.ref (gW G 7)] h25 (KR Q (fun b42 h40 => Q (.threw b42) h40)))))))))) ∧ (x4 = 272 → ((hc h2 + 1 ≤ MC) ∧ (hs h2 + 3 ≤ MS) ∧ ∀ q43, hK h2 q43 = 0 → ∀ h45, h45 = nO h2 q43 21 → (C G mX12_takePat d [.ref (gW G 7)] h45 (KI Q (fun x50 h48 => vp_in x50 4098 ∧ (((aI h48 (gW G 1024) x50.toNatClampNeg) = 272 → (C G mX23_init d [.ref (q43), .int (x1), .long (1), .int (1)] h48 (KV Q (fun h55 => Q (.returned (some (.ref (q43)))) h55)))) ∧ (¬ ((aI h48 (gW G 1024) x50.toNatClampNeg) = 272) → (C G mX23_init d [.ref (q43), .int (x1), .long (0), .int (1)] h48 (KV Q (fun h53 => Q (.returned (some (.ref (q43)))) h53)))))))))) ∧ (x4 = 273 → ((hc h2 + 1 ≤ MC) ∧ (hs h2 + 3 ≤ MS) ∧ ∀ q57, hK h2 q57 = 0 → ∀ h59, h59 = nO h2 q57 21 → (C G mX12_takePat d [.ref (gW G 7)] h59 (KI Q (fun x64 h62 => vp_in x64 4098 ∧ (((aI h62 (gW G 1024) x64.toNatClampNeg) = 272 → (C G mX23_init d [.ref (q57), .int (x1), .long (1), .int (1)] h62 (KV Q (fun h69 => Q (.returned (some (.ref (q57)))) h69)))) ∧ (¬ ((aI h62 (gW G 1024) x64.toNatClampNeg) = 272) → (C G mX23_init d [.ref (q57), .int (x1), .long (0), .int (1)] h62 (KV Q (fun h67 => Q (.returned (some (.ref (q57)))) h67)))))))))) ∧ (x4 = 280 → ((hc h2 + 1 ≤ MC) ∧ (hs h2 + 2 ≤ MS) ∧ ∀ q71, hK h2 q71 = 0 → ∀ h73, h73 = nO h2 q71 20 → (C G mX12_takePat d [.ref (gW G 7)] h73 (KI Q (fun x78 h76 => C G mX22_init d [.ref (q71), .int (x78)] h76 (KV Q (fun h79 => Q (.returned (some (.ref (q71)))) h79))))))) ∧ (x4 = 281 → ((hc h2 + 1 ≤ MC) ∧ (hs h2 + 3 ≤ MS) ∧ ∀ q81, hK h2 q81 = 0 → ∀ h83, h83 = nO h2 q81 18 → (C G mX12_takePat d [.ref (gW G 7)] h83 (KI Q (fun x88 h86 => C G mX20_init d [.ref (q81), .int (x88), .null] h86 (KV Q (fun h89 => Q (.returned (some (.ref (q81)))) h89))))))) ∧ (x4 = 283 → ((hc h2 + 1 ≤ MC) ∧ (hs h2 + 3 ≤ MS) ∧ ∀ q91, hK h2 q91 = 0 → ∀ h93, h93 = nO h2 q91 21 → (C G mX12_takePat d [.ref (gW G 7)] h93 (KI Q (fun x98 h96 => vp_in x98 4098 ∧ (C G mX23_init d [.ref (q91), .int (x1), .long (aJ h96 (gW G 1026) x98.toNatClampNeg), .int (0)] h96 (KV Q (fun h100 => Q (.returned (some (.ref (q91)))) h100)))))))) ∧ (¬ x4 = 40 ∧ ¬ x4 = 91 ∧ ¬ x4 = 95 ∧ ¬ x4 = 126 ∧ ¬ x4 = 272 ∧ ¬ x4 = 273 ∧ ¬ x4 = 280 ∧ ¬ x4 = 281 ∧ ¬ x4 = 283 → (C G mX12_wrong d [.ref (gW G 7)] h2 (KR Q (fun b104 h102 => Q (.threw b104) h102)))))))) : C G mX12_atPat (d + 1) [.ref (gW G 7)] h Q := by
  refine C.of_X (by decide +kernel) (Nat.le_of_ble_eq_true rfl) wX12_atPat ?_
  show X G mX12_atPat (d + 1) none [] 0 [(0, .ref (gW G 7))] [] h Q
  refine x_aload_n (pc' := 1) 0 (dX12_atPat 0 rfl rfl) rfl rfl rfl ?_
  refine x_getI (pc' := 4) (dX12_atPat 1 rfl rfl) g115 q859 (Or.inl rfl) rfl (hf_of 10 s7.1 rfl (by decide) m10_115) ?_
  replace hf := hf _ rfl
  refine x_istore_n (pc' := 5) (dX12_atPat 2 rfl rfl) rfl (by decide) rfl rfl ?_
  refine x_aload_n (pc' := 6) 1 (dX12_atPat 3 rfl rfl) rfl rfl rfl ?_
  refine x_inv (pc' := 9) (ν := mX12_kind) (av := [_]) (st := []) rfl rfl (dX12_atPat 4 rfl rfl) (Nat.le_of_ble_eq_true rfl) wX12_kind q226 (inv_V (k := 10) (dX12_atPat 4 rfl rfl) q1281 q1283 qs12 wX12_kind (by decide) lX12_kind (by decide) s7.1) (exN (by decide)) rfl ?_
  refine C.mono hf (fun _ _ => KI.g (fun x4 h2 hf le3 => ?_))
  replace s1 := s1.le sc1 (le3)
  replace s7 := s7.le sc7 (le3)
  by_cases c50 : x4 = 40
  · replace hf := hf.1 c50
    refine x_ls (v := 40) (tgt := 227) (swX12_atPat_9) (by decide) (by rw [c50]; decide) (by decide) ?_
    refine x_aload_n (pc' := 228) 1 (dX12_atPat 77 rfl rfl) rfl rfl rfl ?_
    refine x_iload_n (pc' := 229) 0 (dX12_atPat 78 rfl rfl) rfl rfl rfl ?_
    refine x_inv (pc' := 232) (ν := mX12_bracketed) (av := [_, _]) (st := []) rfl rfl (dX12_atPat 79 rfl rfl) (Nat.le_of_ble_eq_true rfl) wX12_bracketed q226 (inv_V (k := 10) (dX12_atPat 79 rfl rfl) q1397 q1399 qs20 wX12_bracketed (by decide) lX12_bracketed (by decide) s7.1) (exN (by decide)) rfl ?_
    refine C.mono hf (fun _ _ => KR.g (fun b8 h6 hf le7 => ?_))
    replace s1 := s1.le sc1 (le7)
    replace s7 := s7.le sc7 (le7)
    exact x_aret (dX12_atPat 80 rfl rfl) rfl (Or.inl ⟨_, rfl⟩) (Or.inr ⟨_, rfl⟩) hf
  by_cases c51 : x4 = 91
  · replace hf := hf.2.1 c51
    refine x_ls (v := 91) (tgt := 227) (swX12_atPat_9) (by decide) (by rw [c51]; decide) (by decide) ?_
    refine x_aload_n (pc' := 228) 1 (dX12_atPat 77 rfl rfl) rfl rfl rfl ?_
    refine x_iload_n (pc' := 229) 0 (dX12_atPat 78 rfl rfl) rfl rfl rfl ?_
    refine x_inv (pc' := 232) (ν := mX12_bracketed) (av := [_, _]) (st := []) rfl rfl (dX12_atPat 79 rfl rfl) (Nat.le_of_ble_eq_true rfl) wX12_bracketed q226 (inv_V (k := 10) (dX12_atPat 79 rfl rfl) q1397 q1399 qs20 wX12_bracketed (by decide) lX12_bracketed (by decide) s7.1) (exN (by decide)) rfl ?_
    refine C.mono hf (fun _ _ => KR.g (fun b11 h9 hf le10 => ?_))
    replace s1 := s1.le sc1 (le10)
    replace s7 := s7.le sc7 (le10)
    exact x_aret (dX12_atPat 80 rfl rfl) rfl (Or.inl ⟨_, rfl⟩) (Or.inr ⟨_, rfl⟩) hf
  by_cases c52 : x4 = 95
  · replace hf := hf.2.2.1 c52
    refine x_ls (v := 95) (tgt := 92) (swX12_atPat_9) (by decide) (by rw [c52]; decide) (by decide) ?_
    obtain ⟨n1, n2, hf⟩ := hf
    refine x_new (pc' := 95) (k := 19) (dX12_atPat 6 rfl rfl) q1338 (by decide) rfl (by decide) n1 n2 (fun q12 h14 k13 e15 => ?_)
    replace hf := hf q12 k13 h14 e15
    replace s1 : So 1 (gW G) h14 := by rw [e15]; exact s1.le sc1 (nO_le k13)
    replace s7 : So 7 (gW G) h14 := by rw [e15]; exact s7.le sc7 (nO_le k13)
    have k16 : hK h14 q12 = 20 := by rw [e15]; exact kNOs
    refine x_dup (pc' := 96) (dX12_atPat 7 rfl rfl) rfl rfl ?_
    refine x_aload_n (pc' := 97) 1 (dX12_atPat 8 rfl rfl) rfl rfl rfl ?_
    refine x_inv (pc' := 100) (ν := mX12_takePat) (av := [_]) (st := [_, _]) rfl rfl (dX12_atPat 9 rfl rfl) (Nat.le_of_ble_eq_true rfl) wX12_takePat q226 (inv_V (k := 10) (dX12_atPat 9 rfl rfl) q1324 q1326 qs17 wX12_takePat (by decide) lX12_takePat (by decide) s7.1) (exN (by decide)) rfl ?_
    refine C.mono hf (fun _ _ => KI.g (fun x19 h17 hf le18 => ?_))
    have k16 := leK le18 k16 (by decide)
    replace s1 := s1.le sc1 (le18)
    replace s7 := s7.le sc7 (le18)
    refine x_inv (pc' := 103) (ν := mX21_init) (av := [_, _]) (st := [_]) rfl rfl (dX12_atPat 10 rfl rfl) (Nat.le_of_ble_eq_true rfl) wX21_init q242 (inv_I (dX12_atPat 10 rfl rfl) q1340 q1341 q1342 rfl (by decide) lX21_init) (fun b hb => by exact Or.inl (by have e : some _ = some b := hb; cases e; simp)) rfl ?_
    refine C.mono hf (fun _ _ => KV.g (fun h20 hf le21 => ?_))
    replace s1 := s1.leX sc1 le21 k16 (by decide)
    replace s7 := s7.leX sc7 le21 k16 (by decide)
    have k16 := leK le21 k16 (by decide)
    exact x_aret (dX12_atPat 11 rfl rfl) rfl (Or.inl ⟨_, rfl⟩) (Or.inr ⟨_, rfl⟩) hf
  by_cases c53 : x4 = 126
  · replace hf := hf.2.2.2.1 c53
    refine x_ls (v := 126) (tgt := 151) (swX12_atPat_9) (by decide) (by rw [c53]; decide) (by decide) ?_
    refine x_aload_n (pc' := 152) 1 (dX12_atPat 37 rfl rfl) rfl rfl rfl ?_
    refine x_inv (pc' := 155) (ν := mX12_takePat) (av := [_]) (st := []) rfl rfl (dX12_atPat 38 rfl rfl) (Nat.le_of_ble_eq_true rfl) wX12_takePat q226 (inv_V (k := 10) (dX12_atPat 38 rfl rfl) q1324 q1326 qs17 wX12_takePat (by decide) lX12_takePat (by decide) s7.1) (exN (by decide)) rfl ?_
    refine C.mono hf (fun _ _ => KI.g (fun x24 h22 hf le23 => ?_))
    replace s1 := s1.le sc1 (le23)
    replace s7 := s7.le sc7 (le23)
    refine x_istore_n (pc' := 156) (dX12_atPat 39 rfl rfl) rfl (by decide) rfl rfl ?_
    refine x_aload_n (pc' := 157) 2 (dX12_atPat 40 rfl rfl) rfl rfl rfl ?_
    refine x_inv (pc' := 160) (ν := mX12_kind) (av := [_]) (st := []) rfl rfl (dX12_atPat 41 rfl rfl) (Nat.le_of_ble_eq_true rfl) wX12_kind q226 (inv_V (k := 10) (dX12_atPat 41 rfl rfl) q1281 q1283 qs12 wX12_kind (by decide) lX12_kind (by decide) s7.1) (exN (by decide)) rfl ?_
    refine C.mono hf (fun _ _ => KI.g (fun x27 h25 hf le26 => ?_))
    replace s1 := s1.le sc1 (le26)
    replace s7 := s7.le sc7 (le26)
    refine x_sipush (pc' := 163) (v := 283) (dX12_atPat 42 rfl rfl) (by decide) rfl ?_
    refine x_icmp_eq (pc' := 166) (tgt := 171) (dX12_atPat 43 rfl rfl) (by decide) rfl (fun c28 => ?_) (fun c28 => ?_)
    · replace hf := hf.1 c28
      obtain ⟨n1, n2, hf⟩ := hf
      refine x_new (pc' := 174) (k := 21) (dX12_atPat 47 rfl rfl) q1383 (by decide) rfl (by decide) n1 n2 (fun q29 h31 k30 e32 => ?_)
      replace hf := hf q29 k30 h31 e32
      replace s1 : So 1 (gW G) h31 := by rw [e32]; exact s1.le sc1 (nO_le k30)
      replace s7 : So 7 (gW G) h31 := by rw [e32]; exact s7.le sc7 (nO_le k30)
      have k33 : hK h31 q29 = 22 := by rw [e32]; exact kNOs
      refine x_dup (pc' := 175) (dX12_atPat 48 rfl rfl) rfl rfl ?_
      refine x_iload_n (pc' := 176) 1 (dX12_atPat 49 rfl rfl) rfl rfl rfl ?_
      refine x_aload_n (pc' := 177) 2 (dX12_atPat 50 rfl rfl) rfl rfl rfl ?_
      refine x_getR (pc' := 180) (dX12_atPat 51 rfl rfl) g114 q858 (Or.inl rfl) rfl (hf_of 10 s7.1 rfl (by decide) m10_114) (s7.2 0 _ rfl rfl).1 ?_
      refine x_getR (pc' := 183) (dX12_atPat 52 rfl rfl) g26 q334 (Or.inl rfl) rfl (hf_of 1 s1.1 rfl (by decide) m1_26) (s1.2 4 _ rfl rfl).1 ?_
      refine x_aload_n (pc' := 184) 2 (dX12_atPat 53 rfl rfl) rfl rfl rfl ?_
      refine x_inv (pc' := 187) (ν := mX12_takePat) (av := [_]) (st := [_, _, _, _]) rfl rfl (dX12_atPat 54 rfl rfl) (Nat.le_of_ble_eq_true rfl) wX12_takePat q226 (inv_V (k := 10) (dX12_atPat 54 rfl rfl) q1324 q1326 qs17 wX12_takePat (by decide) lX12_takePat (by decide) s7.1) (exN (by decide)) rfl ?_
      refine C.mono hf (fun _ _ => KI.g (fun x36 h34 hf le35 => ?_))
      have k33 := leK le35 k33 (by decide)
      replace s1 := s1.le sc1 (le35)
      replace s7 := s7.le sc7 (le35)
      obtain ⟨i37, hf⟩ := hf
      refine x_lald (pc' := 188) (dX12_atPat 55 rfl rfl) rfl (s1.2 4 _ rfl rfl).2.1 (by rw [(s1.2 4 _ rfl rfl).2.2.2 (by decide)]; exact i37) ?_
      refine x_lneg (pc' := 189) (dX12_atPat 56 rfl rfl) rfl ?_
      refine x_iconst (pc' := 190) (v := 0) (dX12_atPat 57 rfl rfl) (by decide) rfl ?_
      refine x_inv (pc' := 193) (ν := mX23_init) (av := [_, _, _, _]) (st := [_]) rfl rfl (dX12_atPat 58 rfl rfl) (Nat.le_of_ble_eq_true rfl) wX23_init q244 (inv_I (dX12_atPat 58 rfl rfl) q1385 q1386 q1387 rfl (by decide) lX23_init) (fun b hb => by exact Or.inl (by have e : some _ = some b := hb; cases e; simp)) rfl ?_
      refine C.mono hf (fun _ _ => KV.g (fun h38 hf le39 => ?_))
      replace s1 := s1.leX sc1 le39 k33 (by decide)
      replace s7 := s7.leX sc7 le39 k33 (by decide)
      have k33 := leK le39 k33 (by decide)
      exact x_aret (dX12_atPat 59 rfl rfl) rfl (Or.inl ⟨_, rfl⟩) (Or.inr ⟨_, rfl⟩) hf
    · replace hf := hf.2 c28
      refine x_aload_n (pc' := 167) 2 (dX12_atPat 44 rfl rfl) rfl rfl rfl ?_
      refine x_inv (pc' := 170) (ν := mX12_wrong) (av := [_]) (st := []) rfl rfl (dX12_atPat 45 rfl rfl) (Nat.le_of_ble_eq_true rfl) wX12_wrong q226 (inv_V (k := 10) (dX12_atPat 45 rfl rfl) q1289 q1291 qs14 wX12_wrong (by decide) lX12_wrong (by decide) s7.1) (exN (by decide)) rfl ?_
      refine C.mono hf (fun _ _ => KR.g (fun b42 h40 hf le41 => ?_))
      replace s1 := s1.le sc1 (le41)
      replace s7 := s7.le sc7 (le41)
      exact x_athrow (dX12_atPat 46 rfl rfl) rfl hf
  by_cases c54 : x4 = 272
  · replace hf := hf.2.2.2.2.1 c54
    refine x_ls (v := 272) (tgt := 194) (swX12_atPat_9) (by decide) (by rw [c54]; decide) (by decide) ?_
    obtain ⟨n1, n2, hf⟩ := hf
    refine x_new (pc' := 197) (k := 21) (dX12_atPat 60 rfl rfl) q1383 (by decide) rfl (by decide) n1 n2 (fun q43 h45 k44 e46 => ?_)
    replace hf := hf q43 k44 h45 e46
    replace s1 : So 1 (gW G) h45 := by rw [e46]; exact s1.le sc1 (nO_le k44)
    replace s7 : So 7 (gW G) h45 := by rw [e46]; exact s7.le sc7 (nO_le k44)
    have k47 : hK h45 q43 = 22 := by rw [e46]; exact kNOs
    refine x_dup (pc' := 198) (dX12_atPat 61 rfl rfl) rfl rfl ?_
    refine x_iload_n (pc' := 199) 0 (dX12_atPat 62 rfl rfl) rfl rfl rfl ?_
    refine x_aload_n (pc' := 200) 1 (dX12_atPat 63 rfl rfl) rfl rfl rfl ?_
    refine x_getR (pc' := 203) (dX12_atPat 64 rfl rfl) g114 q858 (Or.inl rfl) rfl (hf_of 10 s7.1 rfl (by decide) m10_114) (s7.2 0 _ rfl rfl).1 ?_
    refine x_getR (pc' := 206) (dX12_atPat 65 rfl rfl) g24 q323 (Or.inl rfl) rfl (hf_of 1 s1.1 rfl (by decide) m1_24) (s1.2 2 _ rfl rfl).1 ?_
    refine x_aload_n (pc' := 207) 1 (dX12_atPat 66 rfl rfl) rfl rfl rfl ?_
    refine x_inv (pc' := 210) (ν := mX12_takePat) (av := [_]) (st := [_, _, _, _]) rfl rfl (dX12_atPat 67 rfl rfl) (Nat.le_of_ble_eq_true rfl) wX12_takePat q226 (inv_V (k := 10) (dX12_atPat 67 rfl rfl) q1324 q1326 qs17 wX12_takePat (by decide) lX12_takePat (by decide) s7.1) (exN (by decide)) rfl ?_
    refine C.mono hf (fun _ _ => KI.g (fun x50 h48 hf le49 => ?_))
    have k47 := leK le49 k47 (by decide)
    replace s1 := s1.le sc1 (le49)
    replace s7 := s7.le sc7 (le49)
    obtain ⟨i51, hf⟩ := hf
    refine x_iald (pc' := 211) (dX12_atPat 68 rfl rfl) rfl (s1.2 2 _ rfl rfl).2.1 (by rw [(s1.2 2 _ rfl rfl).2.2.2 (by decide)]; exact i51) ?_
    refine x_sipush (pc' := 214) (v := 272) (dX12_atPat 69 rfl rfl) (by decide) rfl ?_
    refine x_icmp_ne (pc' := 217) (tgt := 221) (dX12_atPat 70 rfl rfl) (by decide) rfl (fun c52 => ?_) (fun c52 => ?_)
    · replace hf := hf.2 c52
      refine x_lconst (pc' := 222) (v := 0) (dX12_atPat 73 rfl rfl) (by decide) rfl ?_
      refine x_iconst (pc' := 223) (v := 1) (dX12_atPat 74 rfl rfl) (by decide) rfl ?_
      refine x_inv (pc' := 226) (ν := mX23_init) (av := [_, _, _, _]) (st := [_]) rfl rfl (dX12_atPat 75 rfl rfl) (Nat.le_of_ble_eq_true rfl) wX23_init q244 (inv_I (dX12_atPat 75 rfl rfl) q1385 q1386 q1387 rfl (by decide) lX23_init) (fun b hb => by exact Or.inl (by have e : some _ = some b := hb; cases e; simp)) rfl ?_
      refine C.mono hf (fun _ _ => KV.g (fun h53 hf le54 => ?_))
      replace s1 := s1.leX sc1 le54 k47 (by decide)
      replace s7 := s7.leX sc7 le54 k47 (by decide)
      have k47 := leK le54 k47 (by decide)
      exact x_aret (dX12_atPat 76 rfl rfl) rfl (Or.inl ⟨_, rfl⟩) (Or.inr ⟨_, rfl⟩) hf
    · replace hf := hf.1 (Classical.not_not.mp c52)
      replace c52 := Classical.not_not.mp c52
      refine x_lconst (pc' := 218) (v := 1) (dX12_atPat 71 rfl rfl) (by decide) rfl ?_
      refine x_goto (tgt := 222) (dX12_atPat 72 rfl rfl) (by decide) ?_
      refine x_iconst (pc' := 223) (v := 1) (dX12_atPat 74 rfl rfl) (by decide) rfl ?_
      refine x_inv (pc' := 226) (ν := mX23_init) (av := [_, _, _, _]) (st := [_]) rfl rfl (dX12_atPat 75 rfl rfl) (Nat.le_of_ble_eq_true rfl) wX23_init q244 (inv_I (dX12_atPat 75 rfl rfl) q1385 q1386 q1387 rfl (by decide) lX23_init) (fun b hb => by exact Or.inl (by have e : some _ = some b := hb; cases e; simp)) rfl ?_
      refine C.mono hf (fun _ _ => KV.g (fun h55 hf le56 => ?_))
      replace s1 := s1.leX sc1 le56 k47 (by decide)
      replace s7 := s7.leX sc7 le56 k47 (by decide)
      have k47 := leK le56 k47 (by decide)
      exact x_aret (dX12_atPat 76 rfl rfl) rfl (Or.inl ⟨_, rfl⟩) (Or.inr ⟨_, rfl⟩) hf
  by_cases c55 : x4 = 273
  · replace hf := hf.2.2.2.2.2.1 c55
    refine x_ls (v := 273) (tgt := 194) (swX12_atPat_9) (by decide) (by rw [c55]; decide) (by decide) ?_
    obtain ⟨n1, n2, hf⟩ := hf
    refine x_new (pc' := 197) (k := 21) (dX12_atPat 60 rfl rfl) q1383 (by decide) rfl (by decide) n1 n2 (fun q57 h59 k58 e60 => ?_)
    replace hf := hf q57 k58 h59 e60
    replace s1 : So 1 (gW G) h59 := by rw [e60]; exact s1.le sc1 (nO_le k58)
    replace s7 : So 7 (gW G) h59 := by rw [e60]; exact s7.le sc7 (nO_le k58)
    have k61 : hK h59 q57 = 22 := by rw [e60]; exact kNOs
    refine x_dup (pc' := 198) (dX12_atPat 61 rfl rfl) rfl rfl ?_
    refine x_iload_n (pc' := 199) 0 (dX12_atPat 62 rfl rfl) rfl rfl rfl ?_
    refine x_aload_n (pc' := 200) 1 (dX12_atPat 63 rfl rfl) rfl rfl rfl ?_
    refine x_getR (pc' := 203) (dX12_atPat 64 rfl rfl) g114 q858 (Or.inl rfl) rfl (hf_of 10 s7.1 rfl (by decide) m10_114) (s7.2 0 _ rfl rfl).1 ?_
    refine x_getR (pc' := 206) (dX12_atPat 65 rfl rfl) g24 q323 (Or.inl rfl) rfl (hf_of 1 s1.1 rfl (by decide) m1_24) (s1.2 2 _ rfl rfl).1 ?_
    refine x_aload_n (pc' := 207) 1 (dX12_atPat 66 rfl rfl) rfl rfl rfl ?_
    refine x_inv (pc' := 210) (ν := mX12_takePat) (av := [_]) (st := [_, _, _, _]) rfl rfl (dX12_atPat 67 rfl rfl) (Nat.le_of_ble_eq_true rfl) wX12_takePat q226 (inv_V (k := 10) (dX12_atPat 67 rfl rfl) q1324 q1326 qs17 wX12_takePat (by decide) lX12_takePat (by decide) s7.1) (exN (by decide)) rfl ?_
    refine C.mono hf (fun _ _ => KI.g (fun x64 h62 hf le63 => ?_))
    have k61 := leK le63 k61 (by decide)
    replace s1 := s1.le sc1 (le63)
    replace s7 := s7.le sc7 (le63)
    obtain ⟨i65, hf⟩ := hf
    refine x_iald (pc' := 211) (dX12_atPat 68 rfl rfl) rfl (s1.2 2 _ rfl rfl).2.1 (by rw [(s1.2 2 _ rfl rfl).2.2.2 (by decide)]; exact i65) ?_
    refine x_sipush (pc' := 214) (v := 272) (dX12_atPat 69 rfl rfl) (by decide) rfl ?_
    refine x_icmp_ne (pc' := 217) (tgt := 221) (dX12_atPat 70 rfl rfl) (by decide) rfl (fun c66 => ?_) (fun c66 => ?_)
    · replace hf := hf.2 c66
      refine x_lconst (pc' := 222) (v := 0) (dX12_atPat 73 rfl rfl) (by decide) rfl ?_
      refine x_iconst (pc' := 223) (v := 1) (dX12_atPat 74 rfl rfl) (by decide) rfl ?_
      refine x_inv (pc' := 226) (ν := mX23_init) (av := [_, _, _, _]) (st := [_]) rfl rfl (dX12_atPat 75 rfl rfl) (Nat.le_of_ble_eq_true rfl) wX23_init q244 (inv_I (dX12_atPat 75 rfl rfl) q1385 q1386 q1387 rfl (by decide) lX23_init) (fun b hb => by exact Or.inl (by have e : some _ = some b := hb; cases e; simp)) rfl ?_
      refine C.mono hf (fun _ _ => KV.g (fun h67 hf le68 => ?_))
      replace s1 := s1.leX sc1 le68 k61 (by decide)
      replace s7 := s7.leX sc7 le68 k61 (by decide)
      have k61 := leK le68 k61 (by decide)
      exact x_aret (dX12_atPat 76 rfl rfl) rfl (Or.inl ⟨_, rfl⟩) (Or.inr ⟨_, rfl⟩) hf
    · replace hf := hf.1 (Classical.not_not.mp c66)
      replace c66 := Classical.not_not.mp c66
      refine x_lconst (pc' := 218) (v := 1) (dX12_atPat 71 rfl rfl) (by decide) rfl ?_
      refine x_goto (tgt := 222) (dX12_atPat 72 rfl rfl) (by decide) ?_
      refine x_iconst (pc' := 223) (v := 1) (dX12_atPat 74 rfl rfl) (by decide) rfl ?_
      refine x_inv (pc' := 226) (ν := mX23_init) (av := [_, _, _, _]) (st := [_]) rfl rfl (dX12_atPat 75 rfl rfl) (Nat.le_of_ble_eq_true rfl) wX23_init q244 (inv_I (dX12_atPat 75 rfl rfl) q1385 q1386 q1387 rfl (by decide) lX23_init) (fun b hb => by exact Or.inl (by have e : some _ = some b := hb; cases e; simp)) rfl ?_
      refine C.mono hf (fun _ _ => KV.g (fun h69 hf le70 => ?_))
      replace s1 := s1.leX sc1 le70 k61 (by decide)
      replace s7 := s7.leX sc7 le70 k61 (by decide)
      have k61 := leK le70 k61 (by decide)
      exact x_aret (dX12_atPat 76 rfl rfl) rfl (Or.inl ⟨_, rfl⟩) (Or.inr ⟨_, rfl⟩) hf
  by_cases c56 : x4 = 280
  · replace hf := hf.2.2.2.2.2.2.1 c56
    refine x_ls (v := 280) (tgt := 104) (swX12_atPat_9) (by decide) (by rw [c56]; decide) (by decide) ?_
    obtain ⟨n1, n2, hf⟩ := hf
    refine x_new (pc' := 107) (k := 20) (dX12_atPat 12 rfl rfl) q1360 (by decide) rfl (by decide) n1 n2 (fun q71 h73 k72 e74 => ?_)
    replace hf := hf q71 k72 h73 e74
    replace s1 : So 1 (gW G) h73 := by rw [e74]; exact s1.le sc1 (nO_le k72)
    replace s7 : So 7 (gW G) h73 := by rw [e74]; exact s7.le sc7 (nO_le k72)
    have k75 : hK h73 q71 = 21 := by rw [e74]; exact kNOs
    refine x_dup (pc' := 108) (dX12_atPat 13 rfl rfl) rfl rfl ?_
    refine x_aload_n (pc' := 109) 1 (dX12_atPat 14 rfl rfl) rfl rfl rfl ?_
    refine x_inv (pc' := 112) (ν := mX12_takePat) (av := [_]) (st := [_, _]) rfl rfl (dX12_atPat 15 rfl rfl) (Nat.le_of_ble_eq_true rfl) wX12_takePat q226 (inv_V (k := 10) (dX12_atPat 15 rfl rfl) q1324 q1326 qs17 wX12_takePat (by decide) lX12_takePat (by decide) s7.1) (exN (by decide)) rfl ?_
    refine C.mono hf (fun _ _ => KI.g (fun x78 h76 hf le77 => ?_))
    have k75 := leK le77 k75 (by decide)
    replace s1 := s1.le sc1 (le77)
    replace s7 := s7.le sc7 (le77)
    refine x_inv (pc' := 115) (ν := mX22_init) (av := [_, _]) (st := [_]) rfl rfl (dX12_atPat 16 rfl rfl) (Nat.le_of_ble_eq_true rfl) wX22_init q243 (inv_I (dX12_atPat 16 rfl rfl) q1362 q1363 q1364 rfl (by decide) lX22_init) (fun b hb => by exact Or.inl (by have e : some _ = some b := hb; cases e; simp)) rfl ?_
    refine C.mono hf (fun _ _ => KV.g (fun h79 hf le80 => ?_))
    replace s1 := s1.leX sc1 le80 k75 (by decide)
    replace s7 := s7.leX sc7 le80 k75 (by decide)
    have k75 := leK le80 k75 (by decide)
    exact x_aret (dX12_atPat 17 rfl rfl) rfl (Or.inl ⟨_, rfl⟩) (Or.inr ⟨_, rfl⟩) hf
  by_cases c57 : x4 = 281
  · replace hf := hf.2.2.2.2.2.2.2.1 c57
    refine x_ls (v := 281) (tgt := 116) (swX12_atPat_9) (by decide) (by rw [c57]; decide) (by decide) ?_
    obtain ⟨n1, n2, hf⟩ := hf
    refine x_new (pc' := 119) (k := 18) (dX12_atPat 18 rfl rfl) q1328 (by decide) rfl (by decide) n1 n2 (fun q81 h83 k82 e84 => ?_)
    replace hf := hf q81 k82 h83 e84
    replace s1 : So 1 (gW G) h83 := by rw [e84]; exact s1.le sc1 (nO_le k82)
    replace s7 : So 7 (gW G) h83 := by rw [e84]; exact s7.le sc7 (nO_le k82)
    have k85 : hK h83 q81 = 19 := by rw [e84]; exact kNOs
    refine x_dup (pc' := 120) (dX12_atPat 19 rfl rfl) rfl rfl ?_
    refine x_aload_n (pc' := 121) 1 (dX12_atPat 20 rfl rfl) rfl rfl rfl ?_
    refine x_inv (pc' := 124) (ν := mX12_takePat) (av := [_]) (st := [_, _]) rfl rfl (dX12_atPat 21 rfl rfl) (Nat.le_of_ble_eq_true rfl) wX12_takePat q226 (inv_V (k := 10) (dX12_atPat 21 rfl rfl) q1324 q1326 qs17 wX12_takePat (by decide) lX12_takePat (by decide) s7.1) (exN (by decide)) rfl ?_
    refine C.mono hf (fun _ _ => KI.g (fun x88 h86 hf le87 => ?_))
    have k85 := leK le87 k85 (by decide)
    replace s1 := s1.le sc1 (le87)
    replace s7 := s7.le sc7 (le87)
    refine x_null (pc' := 125) (dX12_atPat 22 rfl rfl) rfl ?_
    refine x_inv (pc' := 128) (ν := mX20_init) (av := [_, _, _]) (st := [_]) rfl rfl (dX12_atPat 23 rfl rfl) (Nat.le_of_ble_eq_true rfl) wX20_init q241 (inv_I (dX12_atPat 23 rfl rfl) q1371 q1372 q1373 rfl (by decide) lX20_init) (fun b hb => by exact Or.inl (by have e : some _ = some b := hb; cases e; simp)) rfl ?_
    refine C.mono hf (fun _ _ => KV.g (fun h89 hf le90 => ?_))
    replace s1 := s1.leX sc1 le90 k85 (by decide)
    replace s7 := s7.leX sc7 le90 k85 (by decide)
    have k85 := leK le90 k85 (by decide)
    exact x_aret (dX12_atPat 24 rfl rfl) rfl (Or.inl ⟨_, rfl⟩) (Or.inr ⟨_, rfl⟩) hf
  by_cases c58 : x4 = 283
  · replace hf := hf.2.2.2.2.2.2.2.2.1 c58
    refine x_ls (v := 283) (tgt := 129) (swX12_atPat_9) (by decide) (by rw [c58]; decide) (by decide) ?_
    obtain ⟨n1, n2, hf⟩ := hf
    refine x_new (pc' := 132) (k := 21) (dX12_atPat 25 rfl rfl) q1383 (by decide) rfl (by decide) n1 n2 (fun q91 h93 k92 e94 => ?_)
    replace hf := hf q91 k92 h93 e94
    replace s1 : So 1 (gW G) h93 := by rw [e94]; exact s1.le sc1 (nO_le k92)
    replace s7 : So 7 (gW G) h93 := by rw [e94]; exact s7.le sc7 (nO_le k92)
    have k95 : hK h93 q91 = 22 := by rw [e94]; exact kNOs
    refine x_dup (pc' := 133) (dX12_atPat 26 rfl rfl) rfl rfl ?_
    refine x_iload_n (pc' := 134) 0 (dX12_atPat 27 rfl rfl) rfl rfl rfl ?_
    refine x_aload_n (pc' := 135) 1 (dX12_atPat 28 rfl rfl) rfl rfl rfl ?_
    refine x_getR (pc' := 138) (dX12_atPat 29 rfl rfl) g114 q858 (Or.inl rfl) rfl (hf_of 10 s7.1 rfl (by decide) m10_114) (s7.2 0 _ rfl rfl).1 ?_
    refine x_getR (pc' := 141) (dX12_atPat 30 rfl rfl) g26 q334 (Or.inl rfl) rfl (hf_of 1 s1.1 rfl (by decide) m1_26) (s1.2 4 _ rfl rfl).1 ?_
    refine x_aload_n (pc' := 142) 1 (dX12_atPat 31 rfl rfl) rfl rfl rfl ?_
    refine x_inv (pc' := 145) (ν := mX12_takePat) (av := [_]) (st := [_, _, _, _]) rfl rfl (dX12_atPat 32 rfl rfl) (Nat.le_of_ble_eq_true rfl) wX12_takePat q226 (inv_V (k := 10) (dX12_atPat 32 rfl rfl) q1324 q1326 qs17 wX12_takePat (by decide) lX12_takePat (by decide) s7.1) (exN (by decide)) rfl ?_
    refine C.mono hf (fun _ _ => KI.g (fun x98 h96 hf le97 => ?_))
    have k95 := leK le97 k95 (by decide)
    replace s1 := s1.le sc1 (le97)
    replace s7 := s7.le sc7 (le97)
    obtain ⟨i99, hf⟩ := hf
    refine x_lald (pc' := 146) (dX12_atPat 33 rfl rfl) rfl (s1.2 4 _ rfl rfl).2.1 (by rw [(s1.2 4 _ rfl rfl).2.2.2 (by decide)]; exact i99) ?_
    refine x_iconst (pc' := 147) (v := 0) (dX12_atPat 34 rfl rfl) (by decide) rfl ?_
    refine x_inv (pc' := 150) (ν := mX23_init) (av := [_, _, _, _]) (st := [_]) rfl rfl (dX12_atPat 35 rfl rfl) (Nat.le_of_ble_eq_true rfl) wX23_init q244 (inv_I (dX12_atPat 35 rfl rfl) q1385 q1386 q1387 rfl (by decide) lX23_init) (fun b hb => by exact Or.inl (by have e : some _ = some b := hb; cases e; simp)) rfl ?_
    refine C.mono hf (fun _ _ => KV.g (fun h100 hf le101 => ?_))
    replace s1 := s1.leX sc1 le101 k95 (by decide)
    replace s7 := s7.leX sc7 le101 k95 (by decide)
    have k95 := leK le101 k95 (by decide)
    exact x_aret (dX12_atPat 36 rfl rfl) rfl (Or.inl ⟨_, rfl⟩) (Or.inr ⟨_, rfl⟩) hf
  replace hf := hf.2.2.2.2.2.2.2.2.2 ⟨c50, c51, c52, c53, c54, c55, c56, c57, c58⟩
  refine x_ld (vs := [40, 91, 95, 126, 272, 273, 280, 281, 283]) (tgt := 233) (swX12_atPat_9) (by decide) ?_ (by decide) (by decide) ?_
  · intro v hv
    simp only [List.mem_cons, List.not_mem_nil, or_false] at hv
    rcases hv with rfl | rfl | rfl | rfl | rfl | rfl | rfl | rfl | rfl
    · exact i32_ne (by decide) c50
    · exact i32_ne (by decide) c51
    · exact i32_ne (by decide) c52
    · exact i32_ne (by decide) c53
    · exact i32_ne (by decide) c54
    · exact i32_ne (by decide) c55
    · exact i32_ne (by decide) c56
    · exact i32_ne (by decide) c57
    · exact i32_ne (by decide) c58
  · refine x_aload_n (pc' := 234) 1 (dX12_atPat 81 rfl rfl) rfl rfl rfl ?_
    refine x_inv (pc' := 237) (ν := mX12_wrong) (av := [_]) (st := []) rfl rfl (dX12_atPat 82 rfl rfl) (Nat.le_of_ble_eq_true rfl) wX12_wrong q226 (inv_V (k := 10) (dX12_atPat 82 rfl rfl) q1289 q1291 qs14 wX12_wrong (by decide) lX12_wrong (by decide) s7.1) (exN (by decide)) rfl ?_
    refine C.mono hf (fun _ _ => KR.g (fun b104 h102 hf le103 => ?_))
    replace s1 := s1.le sc1 (le103)
    replace s7 := s7.le sc7 (le103)
    exact x_athrow (dX12_atPat 83 rfl rfl) rfl hf
theorem bX12_bracketed (G : Gh) (d : Nat) (h : AH) (Q : Outcome → AH → Prop) (p1 : Int32) (s1 : So 1 (gW G) h) (s7 : So 7 (gW G) h) (hf : C G mX12_takePat d [.ref (gW G 7)] h (KI Q (fun x3 h1 => vp_in x3 4098 ∧ (((aI h1 (gW G 1024) x3.toNatClampNeg) = 40 → (X G mX12_bracketed (d + 1) none [] 22 [(0, .ref (gW G 7)), (1, .int (p1))] [.int (1)] h1 Q)) ∧ (¬ ((aI h1 (gW G 1024) x3.toNatClampNeg) = 40) → (X G mX12_bracketed (d + 1) none [] 22 [(0, .ref (gW G 7)), (1, .int (p1))] [.int (0)] h1 Q)))))) : C G mX12_bracketed (d + 1) [.ref (gW G 7), .int (p1)] h Q := by
  refine C.of_X (by decide +kernel) (Nat.le_of_ble_eq_true rfl) wX12_bracketed ?_
  show X G mX12_bracketed (d + 1) none [] 0 [(0, .ref (gW G 7)), (1, .int (p1))] [] h Q
  refine x_aload_n (pc' := 1) 0 (dX12_bracketed 0 rfl rfl) rfl rfl rfl ?_
  refine x_getR (pc' := 4) (dX12_bracketed 1 rfl rfl) g114 q858 (Or.inl rfl) rfl (hf_of 10 s7.1 rfl (by decide) m10_114) (s7.2 0 _ rfl rfl).1 ?_
  refine x_getR (pc' := 7) (dX12_bracketed 2 rfl rfl) g24 q323 (Or.inl rfl) rfl (hf_of 1 s1.1 rfl (by decide) m1_24) (s1.2 2 _ rfl rfl).1 ?_
  refine x_aload_n (pc' := 8) 0 (dX12_bracketed 3 rfl rfl) rfl rfl rfl ?_
  refine x_inv (pc' := 11) (ν := mX12_takePat) (av := [_]) (st := [_]) rfl rfl (dX12_bracketed 4 rfl rfl) (Nat.le_of_ble_eq_true rfl) wX12_takePat q226 (inv_V (k := 10) (dX12_bracketed 4 rfl rfl) q1324 q1326 qs17 wX12_takePat (by decide) lX12_takePat (by decide) s7.1) (exN (by decide)) rfl ?_
  refine C.mono hf (fun _ _ => KI.g (fun x3 h1 hf le2 => ?_))
  replace s1 := s1.le sc1 (le2)
  replace s7 := s7.le sc7 (le2)
  obtain ⟨i4, hf⟩ := hf
  refine x_iald (pc' := 12) (dX12_bracketed 5 rfl rfl) rfl (s1.2 2 _ rfl rfl).2.1 (by rw [(s1.2 2 _ rfl rfl).2.2.2 (by decide)]; exact i4) ?_
  refine x_bipush (pc' := 14) (v := 40) (dX12_bracketed 6 rfl rfl) (by decide) rfl ?_
  refine x_icmp_ne (pc' := 17) (tgt := 21) (dX12_bracketed 7 rfl rfl) (by decide) rfl (fun c5 => ?_) (fun c5 => ?_)
  · replace hf := hf.2 c5
    refine x_iconst (pc' := 22) (v := 0) (dX12_bracketed 10 rfl rfl) (by decide) rfl ?_
    exact X.sub [0, 1] rfl (by simp) hf
  · replace hf := hf.1 (Classical.not_not.mp c5)
    replace c5 := Classical.not_not.mp c5
    refine x_iconst (pc' := 18) (v := 1) (dX12_bracketed 8 rfl rfl) (by decide) rfl ?_
    refine x_goto (tgt := 22) (dX12_bracketed 9 rfl rfl) (by decide) ?_
    exact X.sub [0, 1] rfl (by simp) hf
theorem bX12_bracketed_22 (G : Gh) (d : Nat) (h : AH) (Q : Outcome → AH → Prop) (l1 : Int32) (t0 : Int32) (s7 : So 7 (gW G) h) (hf : (t0 = 0 → ((hc h + 1 ≤ MC) ∧ (hs h + 2 ≤ MS) ∧ ∀ q2, hK h q2 = 0 → ∀ h4, h4 = nO h q2 5 → (C G mX7_init d [.ref (q2)] h4 (KV Q (fun h7 => C G mX12_kind d [.ref (gW G 7)] h7 (KI Q (fun x11 h9 => (x11 = 93 → (X G mX12_bracketed (d + 1) none [] 127 [(0, .ref (gW G 7)), (1, .int (l1)), (2, .int (t0)), (3, .int (93)), (4, .ref (q2))] [] h9 Q)) ∧ (¬ x11 = 93 → (∀ h13, h13 = pI h9 (gW G 7) 116 ((fI h9 (gW G 7) 116) + 1) → (C G mX12_pat d [.ref (gW G 7)] h13 (KR Q (fun b16 h14 => C G mX7_add d [.ref (q2), .ref (b16)] h14 (KV Q (fun h17 => X G mX12_bracketed (d + 1) none [] 71 [(0, .ref (gW G 7)), (1, .int (l1)), (2, .int (t0)), (3, .int (93)), (4, .ref (q2))] [] h17 Q)))))))))))))) ∧ (¬ t0 = 0 → ((hc h + 1 ≤ MC) ∧ (hs h + 2 ≤ MS) ∧ ∀ q20, hK h q20 = 0 → ∀ h22, h22 = nO h q20 5 → (C G mX7_init d [.ref (q20)] h22 (KV Q (fun h25 => C G mX12_kind d [.ref (gW G 7)] h25 (KI Q (fun x29 h27 => (x29 = 41 → (X G mX12_bracketed (d + 1) none [] 127 [(0, .ref (gW G 7)), (1, .int (l1)), (2, .int (t0)), (3, .int (41)), (4, .ref (q20))] [] h27 Q)) ∧ (¬ x29 = 41 → (∀ h31, h31 = pI h27 (gW G 7) 116 ((fI h27 (gW G 7) 116) + 1) → (C G mX12_pat d [.ref (gW G 7)] h31 (KR Q (fun b34 h32 => C G mX7_add d [.ref (q20), .ref (b34)] h32 (KV Q (fun h35 => X G mX12_bracketed (d + 1) none [] 71 [(0, .ref (gW G 7)), (1, .int (l1)), (2, .int (t0)), (3, .int (41)), (4, .ref (q20))] [] h35 Q))))))))))))))) : X G mX12_bracketed (d + 1) none [] 22 [(0, .ref (gW G 7)), (1, .int (l1))] [.int (t0)] h Q := by
  refine x_istore_n (pc' := 23) (dX12_bracketed 11 rfl rfl) rfl (by decide) rfl rfl ?_
  refine x_iload_n (pc' := 24) 0 (dX12_bracketed 12 rfl rfl) rfl rfl rfl ?_
  refine x_if_eq (pc' := 27) (tgt := 32) (dX12_bracketed 13 rfl rfl) (by decide) rfl (fun c1 => ?_) (fun c1 => ?_)
  · replace hf := hf.1 c1
    refine x_bipush (pc' := 34) (v := 93) (dX12_bracketed 16 rfl rfl) (by decide) rfl ?_
    refine x_istore_n (pc' := 35) (dX12_bracketed 17 rfl rfl) rfl (by decide) rfl rfl ?_
    obtain ⟨n1, n2, hf⟩ := hf
    refine x_new (pc' := 38) (k := 5) (dX12_bracketed 18 rfl rfl) q1275 (by decide) rfl (by decide) n1 n2 (fun q2 h4 k3 e5 => ?_)
    replace hf := hf q2 k3 h4 e5
    replace s7 : So 7 (gW G) h4 := by rw [e5]; exact s7.le sc7 (nO_le k3)
    have k6 : hK h4 q2 = 6 := by rw [e5]; exact kNOs
    refine x_dup (pc' := 39) (dX12_bracketed 19 rfl rfl) rfl rfl ?_
    refine x_inv (pc' := 42) (ν := mX7_init) (av := [_]) (st := [_]) rfl rfl (dX12_bracketed 20 rfl rfl) (Nat.le_of_ble_eq_true rfl) wX7_init q221 (inv_N (host := "LetMill") (dX12_bracketed 20 rfl rfl) (by decide) q560 q561 rfl (by decide) lX7_init) (fun b hb => by exact Or.inl (by have e : some _ = some b := hb; cases e; simp)) rfl ?_
    refine C.mono hf (fun _ _ => KV.g (fun h7 hf le8 => ?_))
    replace s7 := s7.leX sc7 le8 k6 (by decide)
    have k6 := leK le8 k6 (by decide)
    refine x_astore (pc' := 44) (dX12_bracketed 21 rfl rfl) (by decide) rfl rfl ?_
    refine x_aload_n (pc' := 45) 3 (dX12_bracketed 22 rfl rfl) rfl rfl rfl ?_
    refine x_inv (pc' := 48) (ν := mX12_kind) (av := [_]) (st := []) rfl rfl (dX12_bracketed 23 rfl rfl) (Nat.le_of_ble_eq_true rfl) wX12_kind q226 (inv_V (k := 10) (dX12_bracketed 23 rfl rfl) q1281 q1283 qs12 wX12_kind (by decide) lX12_kind (by decide) s7.1) (exN (by decide)) rfl ?_
    refine C.mono hf (fun _ _ => KI.g (fun x11 h9 hf le10 => ?_))
    have k6 := leK le10 k6 (by decide)
    replace s7 := s7.le sc7 (le10)
    refine x_iload_n (pc' := 49) 1 (dX12_bracketed 24 rfl rfl) rfl rfl rfl ?_
    refine x_icmp_eq (pc' := 52) (tgt := 127) (dX12_bracketed 25 rfl rfl) (by decide) rfl (fun c12 => ?_) (fun c12 => ?_)
    · replace hf := hf.1 c12
      exact X.sub [3, 4, 2, 1, 0] rfl (by simp) hf
    · replace hf := hf.2 c12
      refine x_aload_n (pc' := 53) 3 (dX12_bracketed 26 rfl rfl) rfl rfl rfl ?_
      refine x_dup (pc' := 54) (dX12_bracketed 27 rfl rfl) rfl rfl ?_
      refine x_getI (pc' := 57) (dX12_bracketed 28 rfl rfl) g116 q860 (Or.inl rfl) rfl (hf_of 10 s7.1 rfl (by decide) m10_116) ?_
      refine x_iconst (pc' := 58) (v := 1) (dX12_bracketed 29 rfl rfl) (by decide) rfl ?_
      refine x_iadd (pc' := 59) (dX12_bracketed 30 rfl rfl) rfl ?_
      refine x_putI (pc' := 62) (dX12_bracketed 31 rfl rfl) g116 q860 (Or.inl rfl) (Or.inl rfl) (Or.inl (by decide)) rfl (hf_of 10 s7.1 rfl (by decide) m10_116) (fun h13 e19 => ?_)
      replace hf := hf h13 e19
      replace k6 : hK h13 q2 = 6 := by rw [e19]; exact k6
      replace s7 : So 7 (gW G) h13 := by rw [e19]; exact s7.le sc7 (pI_le (Or.inl rfl))
      refine x_aload (pc' := 64) 0 (dX12_bracketed 32 rfl rfl) rfl rfl ?_
      refine x_aload_n (pc' := 65) 3 (dX12_bracketed 33 rfl rfl) rfl rfl rfl ?_
      refine x_inv (pc' := 68) (ν := mX12_pat) (av := [_]) (st := [_]) rfl rfl (dX12_bracketed 34 rfl rfl) (Nat.le_of_ble_eq_true rfl) wX12_pat q226 (inv_V (k := 10) (dX12_bracketed 34 rfl rfl) q1320 q1322 qs16 wX12_pat (by decide) lX12_pat (by decide) s7.1) (exN (by decide)) rfl ?_
      refine C.mono hf (fun _ _ => KR.g (fun b16 h14 hf le15 => ?_))
      have k6 := leK le15 k6 (by decide)
      replace s7 := s7.le sc7 (le15)
      refine x_inv (pc' := 71) (ν := mX7_add) (av := [_, _]) (st := []) rfl rfl (dX12_bracketed 35 rfl rfl) (Nat.le_of_ble_eq_true rfl) wX7_add q221 (inv_V (k := 5) (dX12_bracketed 35 rfl rfl) q1401 q590 q591 wX7_add (by decide) lX7_add (by decide) k6) (exN (by decide)) rfl ?_
      refine C.mono hf (fun _ _ => KV.g (fun h17 hf le18 => ?_))
      have k6 := leK le18 k6 (by decide)
      replace s7 := s7.le sc7 (le18)
      exact X.sub [3, 4, 2, 1, 0] rfl (by simp) hf
  · replace hf := hf.2 c1
    refine x_bipush (pc' := 29) (v := 41) (dX12_bracketed 14 rfl rfl) (by decide) rfl ?_
    refine x_goto (tgt := 34) (dX12_bracketed 15 rfl rfl) (by decide) ?_
    refine x_istore_n (pc' := 35) (dX12_bracketed 17 rfl rfl) rfl (by decide) rfl rfl ?_
    obtain ⟨n1, n2, hf⟩ := hf
    refine x_new (pc' := 38) (k := 5) (dX12_bracketed 18 rfl rfl) q1275 (by decide) rfl (by decide) n1 n2 (fun q20 h22 k21 e23 => ?_)
    replace hf := hf q20 k21 h22 e23
    replace s7 : So 7 (gW G) h22 := by rw [e23]; exact s7.le sc7 (nO_le k21)
    have k24 : hK h22 q20 = 6 := by rw [e23]; exact kNOs
    refine x_dup (pc' := 39) (dX12_bracketed 19 rfl rfl) rfl rfl ?_
    refine x_inv (pc' := 42) (ν := mX7_init) (av := [_]) (st := [_]) rfl rfl (dX12_bracketed 20 rfl rfl) (Nat.le_of_ble_eq_true rfl) wX7_init q221 (inv_N (host := "LetMill") (dX12_bracketed 20 rfl rfl) (by decide) q560 q561 rfl (by decide) lX7_init) (fun b hb => by exact Or.inl (by have e : some _ = some b := hb; cases e; simp)) rfl ?_
    refine C.mono hf (fun _ _ => KV.g (fun h25 hf le26 => ?_))
    replace s7 := s7.leX sc7 le26 k24 (by decide)
    have k24 := leK le26 k24 (by decide)
    refine x_astore (pc' := 44) (dX12_bracketed 21 rfl rfl) (by decide) rfl rfl ?_
    refine x_aload_n (pc' := 45) 3 (dX12_bracketed 22 rfl rfl) rfl rfl rfl ?_
    refine x_inv (pc' := 48) (ν := mX12_kind) (av := [_]) (st := []) rfl rfl (dX12_bracketed 23 rfl rfl) (Nat.le_of_ble_eq_true rfl) wX12_kind q226 (inv_V (k := 10) (dX12_bracketed 23 rfl rfl) q1281 q1283 qs12 wX12_kind (by decide) lX12_kind (by decide) s7.1) (exN (by decide)) rfl ?_
    refine C.mono hf (fun _ _ => KI.g (fun x29 h27 hf le28 => ?_))
    have k24 := leK le28 k24 (by decide)
    replace s7 := s7.le sc7 (le28)
    refine x_iload_n (pc' := 49) 1 (dX12_bracketed 24 rfl rfl) rfl rfl rfl ?_
    refine x_icmp_eq (pc' := 52) (tgt := 127) (dX12_bracketed 25 rfl rfl) (by decide) rfl (fun c30 => ?_) (fun c30 => ?_)
    · replace hf := hf.1 c30
      exact X.sub [3, 4, 2, 1, 0] rfl (by simp) hf
    · replace hf := hf.2 c30
      refine x_aload_n (pc' := 53) 3 (dX12_bracketed 26 rfl rfl) rfl rfl rfl ?_
      refine x_dup (pc' := 54) (dX12_bracketed 27 rfl rfl) rfl rfl ?_
      refine x_getI (pc' := 57) (dX12_bracketed 28 rfl rfl) g116 q860 (Or.inl rfl) rfl (hf_of 10 s7.1 rfl (by decide) m10_116) ?_
      refine x_iconst (pc' := 58) (v := 1) (dX12_bracketed 29 rfl rfl) (by decide) rfl ?_
      refine x_iadd (pc' := 59) (dX12_bracketed 30 rfl rfl) rfl ?_
      refine x_putI (pc' := 62) (dX12_bracketed 31 rfl rfl) g116 q860 (Or.inl rfl) (Or.inl rfl) (Or.inl (by decide)) rfl (hf_of 10 s7.1 rfl (by decide) m10_116) (fun h31 e37 => ?_)
      replace hf := hf h31 e37
      replace k24 : hK h31 q20 = 6 := by rw [e37]; exact k24
      replace s7 : So 7 (gW G) h31 := by rw [e37]; exact s7.le sc7 (pI_le (Or.inl rfl))
      refine x_aload (pc' := 64) 0 (dX12_bracketed 32 rfl rfl) rfl rfl ?_
      refine x_aload_n (pc' := 65) 3 (dX12_bracketed 33 rfl rfl) rfl rfl rfl ?_
      refine x_inv (pc' := 68) (ν := mX12_pat) (av := [_]) (st := [_]) rfl rfl (dX12_bracketed 34 rfl rfl) (Nat.le_of_ble_eq_true rfl) wX12_pat q226 (inv_V (k := 10) (dX12_bracketed 34 rfl rfl) q1320 q1322 qs16 wX12_pat (by decide) lX12_pat (by decide) s7.1) (exN (by decide)) rfl ?_
      refine C.mono hf (fun _ _ => KR.g (fun b34 h32 hf le33 => ?_))
      have k24 := leK le33 k24 (by decide)
      replace s7 := s7.le sc7 (le33)
      refine x_inv (pc' := 71) (ν := mX7_add) (av := [_, _]) (st := []) rfl rfl (dX12_bracketed 35 rfl rfl) (Nat.le_of_ble_eq_true rfl) wX7_add q221 (inv_V (k := 5) (dX12_bracketed 35 rfl rfl) q1401 q590 q591 wX7_add (by decide) lX7_add (by decide) k24) (exN (by decide)) rfl ?_
      refine C.mono hf (fun _ _ => KV.g (fun h35 hf le36 => ?_))
      have k24 := leK le36 k24 (by decide)
      replace s7 := s7.le sc7 (le36)
      exact X.sub [3, 4, 2, 1, 0] rfl (by simp) hf
theorem bX12_bracketed_71 (G : Gh) (d : Nat) (h : AH) (Q : Outcome → AH → Prop) (l1 : Int32) (l2 : Int32) (l3 : Int32) (l4 : Nat) (s7 : So 7 (gW G) h) (hf : C G mX12_kind d [.ref (gW G 7)] h (KI Q (fun x3 h1 => (x3 = 44 → ((l2 = 0 → (C G mX12_takePat d [.ref (gW G 7)] h1 (KI Q (fun x10 h8 => C G mX12_pat d [.ref (gW G 7)] h8 (KR Q (fun b13 h11 => hK h11 l4 = 6 ∧ (C G mX7_add d [.ref (l4), .ref (b13)] h11 (KV Q (fun h14 => X G mX12_bracketed (d + 1) none [] 71 [(0, .ref (gW G 7)), (1, .int (l1)), (2, .int (l2)), (3, .int (l3)), (4, .ref (l4))] [] h14 Q))))))))) ∧ (¬ l2 = 0 → (hK h1 l4 = 6 ∧ (((fI h1 l4 78) = 6 → (C G mX12_wrong d [.ref (gW G 7)] h1 (KR Q (fun b29 h27 => Q (.threw b29) h27)))) ∧ (¬ ((fI h1 l4 78) = 6) → (C G mX12_takePat d [.ref (gW G 7)] h1 (KI Q (fun x21 h19 => C G mX12_pat d [.ref (gW G 7)] h19 (KR Q (fun b24 h22 => C G mX7_add d [.ref (l4), .ref (b24)] h22 (KV Q (fun h25 => X G mX12_bracketed (d + 1) none [] 71 [(0, .ref (gW G 7)), (1, .int (l1)), (2, .int (l2)), (3, .int (l3)), (4, .ref (l4))] [] h25 Q))))))))))))) ∧ (¬ x3 = 44 → (∀ h5, h5 = pI h1 (gW G 7) 116 ((fI h1 (gW G 7) 116) - 1) → (X G mX12_bracketed (d + 1) none [] 127 [(0, .ref (gW G 7)), (1, .int (l1)), (2, .int (l2)), (3, .int (l3)), (4, .ref (l4))] [] h5 Q)))))) : X G mX12_bracketed (d + 1) none [] 71 [(0, .ref (gW G 7)), (1, .int (l1)), (2, .int (l2)), (3, .int (l3)), (4, .ref (l4))] [] h Q := by
  refine x_aload_n (pc' := 72) 0 (dX12_bracketed 36 rfl rfl) rfl rfl rfl ?_
  refine x_inv (pc' := 75) (ν := mX12_kind) (av := [_]) (st := []) rfl rfl (dX12_bracketed 37 rfl rfl) (Nat.le_of_ble_eq_true rfl) wX12_kind q226 (inv_V (k := 10) (dX12_bracketed 37 rfl rfl) q1281 q1283 qs12 wX12_kind (by decide) lX12_kind (by decide) s7.1) (exN (by decide)) rfl ?_
  refine C.mono hf (fun _ _ => KI.g (fun x3 h1 hf le2 => ?_))
  replace s7 := s7.le sc7 (le2)
  refine x_bipush (pc' := 77) (v := 44) (dX12_bracketed 38 rfl rfl) (by decide) rfl ?_
  refine x_icmp_ne (pc' := 80) (tgt := 117) (dX12_bracketed 39 rfl rfl) (by decide) rfl (fun c4 => ?_) (fun c4 => ?_)
  · replace hf := hf.2 c4
    refine x_aload_n (pc' := 118) 0 (dX12_bracketed 57 rfl rfl) rfl rfl rfl ?_
    refine x_dup (pc' := 119) (dX12_bracketed 58 rfl rfl) rfl rfl ?_
    refine x_getI (pc' := 122) (dX12_bracketed 59 rfl rfl) g116 q860 (Or.inl rfl) rfl (hf_of 10 s7.1 rfl (by decide) m10_116) ?_
    refine x_iconst (pc' := 123) (v := 1) (dX12_bracketed 60 rfl rfl) (by decide) rfl ?_
    refine x_isub (pc' := 124) (dX12_bracketed 61 rfl rfl) rfl ?_
    refine x_putI (pc' := 127) (dX12_bracketed 62 rfl rfl) g116 q860 (Or.inl rfl) (Or.inl rfl) (Or.inl (by decide)) rfl (hf_of 10 s7.1 rfl (by decide) m10_116) (fun h5 e6 => ?_)
    replace hf := hf h5 e6
    replace s7 : So 7 (gW G) h5 := by rw [e6]; exact s7.le sc7 (pI_le (Or.inl rfl))
    exact X.sub [0, 1, 2, 3, 4] rfl (by simp) hf
  · replace hf := hf.1 (Classical.not_not.mp c4)
    replace c4 := Classical.not_not.mp c4
    refine x_iload_n (pc' := 81) 2 (dX12_bracketed 40 rfl rfl) rfl rfl rfl ?_
    refine x_if_eq (pc' := 84) (tgt := 99) (dX12_bracketed 41 rfl rfl) (by decide) rfl (fun c7 => ?_) (fun c7 => ?_)
    · replace hf := hf.1 c7
      refine x_aload_n (pc' := 100) 0 (dX12_bracketed 49 rfl rfl) rfl rfl rfl ?_
      refine x_inv (pc' := 103) (ν := mX12_takePat) (av := [_]) (st := []) rfl rfl (dX12_bracketed 50 rfl rfl) (Nat.le_of_ble_eq_true rfl) wX12_takePat q226 (inv_V (k := 10) (dX12_bracketed 50 rfl rfl) q1324 q1326 qs17 wX12_takePat (by decide) lX12_takePat (by decide) s7.1) (exN (by decide)) rfl ?_
      refine C.mono hf (fun _ _ => KI.g (fun x10 h8 hf le9 => ?_))
      replace s7 := s7.le sc7 (le9)
      refine x_istore (pc' := 105) (dX12_bracketed 51 rfl rfl) (by decide) rfl rfl ?_
      refine x_aload (pc' := 107) 5 (dX12_bracketed 52 rfl rfl) rfl rfl ?_
      refine x_aload_n (pc' := 108) 1 (dX12_bracketed 53 rfl rfl) rfl rfl rfl ?_
      refine x_inv (pc' := 111) (ν := mX12_pat) (av := [_]) (st := [_]) rfl rfl (dX12_bracketed 54 rfl rfl) (Nat.le_of_ble_eq_true rfl) wX12_pat q226 (inv_V (k := 10) (dX12_bracketed 54 rfl rfl) q1320 q1322 qs16 wX12_pat (by decide) lX12_pat (by decide) s7.1) (exN (by decide)) rfl ?_
      refine C.mono hf (fun _ _ => KR.g (fun b13 h11 hf le12 => ?_))
      replace s7 := s7.le sc7 (le12)
      obtain ⟨k16, hf⟩ := hf
      refine x_inv (pc' := 114) (ν := mX7_add) (av := [_, _]) (st := []) rfl rfl (dX12_bracketed 55 rfl rfl) (Nat.le_of_ble_eq_true rfl) wX7_add q221 (inv_V (k := 5) (dX12_bracketed 55 rfl rfl) q1401 q590 q591 wX7_add (by decide) lX7_add (by decide) k16) (exN (by decide)) rfl ?_
      refine C.mono hf (fun _ _ => KV.g (fun h14 hf le15 => ?_))
      have k16 := leK le15 k16 (by decide)
      replace s7 := s7.le sc7 (le15)
      refine x_goto (tgt := 71) (dX12_bracketed 56 rfl rfl) (by decide) ?_
      exact X.sub [1, 2, 3, 4, 5] rfl (by simp) hf
    · replace hf := hf.2 c7
      refine x_aload (pc' := 86) 4 (dX12_bracketed 42 rfl rfl) rfl rfl ?_
      obtain ⟨k17, hf⟩ := hf
      refine x_getI (pc' := 89) (dX12_bracketed 43 rfl rfl) g78 q578 (Or.inl rfl) rfl (hf_of 5 k17 rfl (by decide) m5_78) ?_
      refine x_bipush (pc' := 91) (v := 6) (dX12_bracketed 44 rfl rfl) (by decide) rfl ?_
      refine x_icmp_ne (pc' := 94) (tgt := 99) (dX12_bracketed 45 rfl rfl) (by decide) rfl (fun c18 => ?_) (fun c18 => ?_)
      · replace hf := hf.2 c18
        refine x_aload_n (pc' := 100) 0 (dX12_bracketed 49 rfl rfl) rfl rfl rfl ?_
        refine x_inv (pc' := 103) (ν := mX12_takePat) (av := [_]) (st := []) rfl rfl (dX12_bracketed 50 rfl rfl) (Nat.le_of_ble_eq_true rfl) wX12_takePat q226 (inv_V (k := 10) (dX12_bracketed 50 rfl rfl) q1324 q1326 qs17 wX12_takePat (by decide) lX12_takePat (by decide) s7.1) (exN (by decide)) rfl ?_
        refine C.mono hf (fun _ _ => KI.g (fun x21 h19 hf le20 => ?_))
        have k17 := leK le20 k17 (by decide)
        replace s7 := s7.le sc7 (le20)
        refine x_istore (pc' := 105) (dX12_bracketed 51 rfl rfl) (by decide) rfl rfl ?_
        refine x_aload (pc' := 107) 5 (dX12_bracketed 52 rfl rfl) rfl rfl ?_
        refine x_aload_n (pc' := 108) 1 (dX12_bracketed 53 rfl rfl) rfl rfl rfl ?_
        refine x_inv (pc' := 111) (ν := mX12_pat) (av := [_]) (st := [_]) rfl rfl (dX12_bracketed 54 rfl rfl) (Nat.le_of_ble_eq_true rfl) wX12_pat q226 (inv_V (k := 10) (dX12_bracketed 54 rfl rfl) q1320 q1322 qs16 wX12_pat (by decide) lX12_pat (by decide) s7.1) (exN (by decide)) rfl ?_
        refine C.mono hf (fun _ _ => KR.g (fun b24 h22 hf le23 => ?_))
        have k17 := leK le23 k17 (by decide)
        replace s7 := s7.le sc7 (le23)
        refine x_inv (pc' := 114) (ν := mX7_add) (av := [_, _]) (st := []) rfl rfl (dX12_bracketed 55 rfl rfl) (Nat.le_of_ble_eq_true rfl) wX7_add q221 (inv_V (k := 5) (dX12_bracketed 55 rfl rfl) q1401 q590 q591 wX7_add (by decide) lX7_add (by decide) k17) (exN (by decide)) rfl ?_
        refine C.mono hf (fun _ _ => KV.g (fun h25 hf le26 => ?_))
        have k17 := leK le26 k17 (by decide)
        replace s7 := s7.le sc7 (le26)
        refine x_goto (tgt := 71) (dX12_bracketed 56 rfl rfl) (by decide) ?_
        exact X.sub [1, 2, 3, 4, 5] rfl (by simp) hf
      · replace hf := hf.1 (Classical.not_not.mp c18)
        replace c18 := Classical.not_not.mp c18
        refine x_aload_n (pc' := 95) 0 (dX12_bracketed 46 rfl rfl) rfl rfl rfl ?_
        refine x_inv (pc' := 98) (ν := mX12_wrong) (av := [_]) (st := []) rfl rfl (dX12_bracketed 47 rfl rfl) (Nat.le_of_ble_eq_true rfl) wX12_wrong q226 (inv_V (k := 10) (dX12_bracketed 47 rfl rfl) q1289 q1291 qs14 wX12_wrong (by decide) lX12_wrong (by decide) s7.1) (exN (by decide)) rfl ?_
        refine C.mono hf (fun _ _ => KR.g (fun b29 h27 hf le28 => ?_))
        have k17 := leK le28 k17 (by decide)
        replace s7 := s7.le sc7 (le28)
        exact x_athrow (dX12_bracketed 48 rfl rfl) rfl hf
theorem bX12_bracketed_127 (G : Gh) (d : Nat) (h : AH) (Q : Outcome → AH → Prop) (l1 : Int32) (l2 : Int32) (l3 : Int32) (l4 : Nat) (s7 : So 7 (gW G) h) (hf : C G mX12_kind d [.ref (gW G 7)] h (KI Q (fun x3 h1 => (x3 = l3 → (C G mX12_takePat d [.ref (gW G 7)] h1 (KI Q (fun x7 h5 => (l2 = 0 → ((hc h5 + 1 ≤ MC) ∧ (hs h5 + 2 ≤ MS) ∧ ∀ q39, hK h5 q39 = 0 → ∀ h41, h41 = nO h5 q39 22 → (C G mX12_patsOf d [.ref (l4)] h41 (KR Q (fun b46 h44 => C G mX24_init d [.ref (q39), .int (l1), .ref (b46)] h44 (KV Q (fun h47 => Q (.returned (some (.ref (q39)))) h47))))))) ∧ (¬ l2 = 0 → (hK h5 l4 = 6 ∧ (((fI h5 l4 78) = 0 → ((hc h5 + 1 ≤ MC) ∧ (hs h5 + 1 ≤ MS) ∧ ∀ q32, hK h5 q32 = 0 → ∀ h34, h34 = nO h5 q32 23 → (C G mX25_init d [.ref (q32), .int (l1)] h34 (KV Q (fun h37 => Q (.returned (some (.ref (q32)))) h37))))) ∧ (¬ ((fI h5 l4 78) = 0) → (((fI h5 l4 78) = 1 → ((hc h5 + 1 ≤ MC) ∧ (hs h5 + 2 ≤ MS) ∧ ∀ q22, hK h5 q22 = 0 → ∀ h24, h24 = nO h5 q22 24 → (C G mX7_pat d [.ref (l4), .int (0)] h24 (KR Q (fun b29 h27 => C G mX26_init d [.ref (q22), .int (l1), .ref (b29)] h27 (KV Q (fun h30 => Q (.returned (some (.ref (q22)))) h30))))))) ∧ (¬ ((fI h5 l4 78) = 1) → ((hc h5 + 1 ≤ MC) ∧ (hs h5 + 2 ≤ MS) ∧ ∀ q12, hK h5 q12 = 0 → ∀ h14, h14 = nO h5 q12 25 → (C G mX12_patsOf d [.ref (l4)] h14 (KR Q (fun b19 h17 => C G mX27_init d [.ref (q12), .int (l1), .ref (b19)] h17 (KV Q (fun h20 => Q (.returned (some (.ref (q12)))) h20)))))))))))))))) ∧ (¬ x3 = l3 → (C G mX12_wrong d [.ref (gW G 7)] h1 (KR Q (fun b51 h49 => Q (.threw b51) h49))))))) : X G mX12_bracketed (d + 1) none [] 127 [(0, .ref (gW G 7)), (1, .int (l1)), (2, .int (l2)), (3, .int (l3)), (4, .ref (l4))] [] h Q := by
  refine x_aload_n (pc' := 128) 0 (dX12_bracketed 63 rfl rfl) rfl rfl rfl ?_
  refine x_inv (pc' := 131) (ν := mX12_kind) (av := [_]) (st := []) rfl rfl (dX12_bracketed 64 rfl rfl) (Nat.le_of_ble_eq_true rfl) wX12_kind q226 (inv_V (k := 10) (dX12_bracketed 64 rfl rfl) q1281 q1283 qs12 wX12_kind (by decide) lX12_kind (by decide) s7.1) (exN (by decide)) rfl ?_
  refine C.mono hf (fun _ _ => KI.g (fun x3 h1 hf le2 => ?_))
  replace s7 := s7.le sc7 (le2)
  refine x_iload_n (pc' := 132) 3 (dX12_bracketed 65 rfl rfl) rfl rfl rfl ?_
  refine x_icmp_eq (pc' := 135) (tgt := 140) (dX12_bracketed 66 rfl rfl) (by decide) rfl (fun c4 => ?_) (fun c4 => ?_)
  · replace hf := hf.1 c4
    refine x_aload_n (pc' := 141) 0 (dX12_bracketed 70 rfl rfl) rfl rfl rfl ?_
    refine x_inv (pc' := 144) (ν := mX12_takePat) (av := [_]) (st := []) rfl rfl (dX12_bracketed 71 rfl rfl) (Nat.le_of_ble_eq_true rfl) wX12_takePat q226 (inv_V (k := 10) (dX12_bracketed 71 rfl rfl) q1324 q1326 qs17 wX12_takePat (by decide) lX12_takePat (by decide) s7.1) (exN (by decide)) rfl ?_
    refine C.mono hf (fun _ _ => KI.g (fun x7 h5 hf le6 => ?_))
    replace s7 := s7.le sc7 (le6)
    refine x_istore (pc' := 146) (dX12_bracketed 72 rfl rfl) (by decide) rfl rfl ?_
    refine x_iload_n (pc' := 147) 3 (dX12_bracketed 73 rfl rfl) rfl rfl rfl ?_
    refine x_if_ne (pc' := 150) (tgt := 164) (dX12_bracketed 74 rfl rfl) (by decide) rfl (fun c8 => ?_) (fun c8 => ?_)
    · replace hf := hf.2 c8
      refine x_aload (pc' := 166) 5 (dX12_bracketed 82 rfl rfl) rfl rfl ?_
      obtain ⟨k9, hf⟩ := hf
      refine x_getI (pc' := 169) (dX12_bracketed 83 rfl rfl) g78 q578 (Or.inl rfl) rfl (hf_of 5 k9 rfl (by decide) m5_78) ?_
      refine x_if_ne (pc' := 172) (tgt := 181) (dX12_bracketed 84 rfl rfl) (by decide) rfl (fun c10 => ?_) (fun c10 => ?_)
      · replace hf := hf.2 c10
        refine x_aload (pc' := 183) 5 (dX12_bracketed 90 rfl rfl) rfl rfl ?_
        refine x_getI (pc' := 186) (dX12_bracketed 91 rfl rfl) g78 q578 (Or.inl rfl) rfl (hf_of 5 k9 rfl (by decide) m5_78) ?_
        refine x_iconst (pc' := 187) (v := 1) (dX12_bracketed 92 rfl rfl) (by decide) rfl ?_
        refine x_icmp_ne (pc' := 190) (tgt := 207) (dX12_bracketed 93 rfl rfl) (by decide) rfl (fun c11 => ?_) (fun c11 => ?_)
        · replace hf := hf.2 c11
          obtain ⟨n1, n2, hf⟩ := hf
          refine x_new (pc' := 210) (k := 25) (dX12_bracketed 102 rfl rfl) q1446 (by decide) rfl (by decide) n1 n2 (fun q12 h14 k13 e15 => ?_)
          replace hf := hf q12 k13 h14 e15
          replace k9 : hK h14 l4 = 6 := by rw [e15]; exact kNO k9 (by decide) k13
          replace s7 : So 7 (gW G) h14 := by rw [e15]; exact s7.le sc7 (nO_le k13)
          have k16 : hK h14 q12 = 26 := by rw [e15]; exact kNOs
          refine x_dup (pc' := 211) (dX12_bracketed 103 rfl rfl) rfl rfl ?_
          refine x_iload_n (pc' := 212) 2 (dX12_bracketed 104 rfl rfl) rfl rfl rfl ?_
          refine x_aload (pc' := 214) 5 (dX12_bracketed 105 rfl rfl) rfl rfl ?_
          refine x_inv (pc' := 217) (ν := mX12_patsOf) (av := [_]) (st := [_, _, _]) rfl rfl (dX12_bracketed 106 rfl rfl) (Nat.le_of_ble_eq_true rfl) wX12_patsOf q226 (inv_S (dX12_bracketed 106 rfl rfl) q1404 q1405 q226 wX12_patsOf (by decide) lX12_patsOf) (exN (by decide)) rfl ?_
          refine C.mono hf (fun _ _ => KR.g (fun b19 h17 hf le18 => ?_))
          have k9 := leK le18 k9 (by decide)
          have k16 := leK le18 k16 (by decide)
          replace s7 := s7.le sc7 (le18)
          refine x_inv (pc' := 220) (ν := mX27_init) (av := [_, _, _]) (st := [_]) rfl rfl (dX12_bracketed 107 rfl rfl) (Nat.le_of_ble_eq_true rfl) wX27_init q248 (inv_I (dX12_bracketed 107 rfl rfl) q1448 q1449 q1450 rfl (by decide) lX27_init) (fun b hb => by exact Or.inl (by have e : some _ = some b := hb; cases e; simp)) rfl ?_
          refine C.mono hf (fun _ _ => KV.g (fun h20 hf le21 => ?_))
          replace s7 := s7.leX sc7 le21 k16 (by decide)
          have k9 := leK le21 k9 (by decide)
          have k16 := leK le21 k16 (by decide)
          exact x_aret (dX12_bracketed 108 rfl rfl) rfl (Or.inl ⟨_, rfl⟩) (Or.inr ⟨_, rfl⟩) hf
        · replace hf := hf.1 (Classical.not_not.mp c11)
          replace c11 := Classical.not_not.mp c11
          obtain ⟨n1, n2, hf⟩ := hf
          refine x_new (pc' := 193) (k := 24) (dX12_bracketed 94 rfl rfl) q1435 (by decide) rfl (by decide) n1 n2 (fun q22 h24 k23 e25 => ?_)
          replace hf := hf q22 k23 h24 e25
          replace k9 : hK h24 l4 = 6 := by rw [e25]; exact kNO k9 (by decide) k23
          replace s7 : So 7 (gW G) h24 := by rw [e25]; exact s7.le sc7 (nO_le k23)
          have k26 : hK h24 q22 = 25 := by rw [e25]; exact kNOs
          refine x_dup (pc' := 194) (dX12_bracketed 95 rfl rfl) rfl rfl ?_
          refine x_iload_n (pc' := 195) 2 (dX12_bracketed 96 rfl rfl) rfl rfl rfl ?_
          refine x_aload (pc' := 197) 5 (dX12_bracketed 97 rfl rfl) rfl rfl ?_
          refine x_iconst (pc' := 198) (v := 0) (dX12_bracketed 98 rfl rfl) (by decide) rfl ?_
          refine x_inv (pc' := 201) (ν := mX7_pat) (av := [_, _]) (st := [_, _, _]) rfl rfl (dX12_bracketed 99 rfl rfl) (Nat.le_of_ble_eq_true rfl) wX7_pat q221 (inv_V (k := 5) (dX12_bracketed 99 rfl rfl) q1409 q1410 q1411 wX7_pat (by decide) lX7_pat (by decide) k9) (exN (by decide)) rfl ?_
          refine C.mono hf (fun _ _ => KR.g (fun b29 h27 hf le28 => ?_))
          have k9 := leK le28 k9 (by decide)
          have k26 := leK le28 k26 (by decide)
          replace s7 := s7.le sc7 (le28)
          refine x_inv (pc' := 204) (ν := mX26_init) (av := [_, _, _]) (st := [_]) rfl rfl (dX12_bracketed 100 rfl rfl) (Nat.le_of_ble_eq_true rfl) wX26_init q247 (inv_I (dX12_bracketed 100 rfl rfl) q1437 q1438 q1439 rfl (by decide) lX26_init) (fun b hb => by exact Or.inl (by have e : some _ = some b := hb; cases e; simp)) rfl ?_
          refine C.mono hf (fun _ _ => KV.g (fun h30 hf le31 => ?_))
          replace s7 := s7.leX sc7 le31 k26 (by decide)
          have k9 := leK le31 k9 (by decide)
          have k26 := leK le31 k26 (by decide)
          refine x_goto (tgt := 220) (dX12_bracketed 101 rfl rfl) (by decide) ?_
          exact x_aret (dX12_bracketed 108 rfl rfl) rfl (Or.inl ⟨_, rfl⟩) (Or.inr ⟨_, rfl⟩) hf
      · replace hf := hf.1 (Classical.not_not.mp c10)
        replace c10 := Classical.not_not.mp c10
        obtain ⟨n1, n2, hf⟩ := hf
        refine x_new (pc' := 175) (k := 23) (dX12_bracketed 85 rfl rfl) q1427 (by decide) rfl (by decide) n1 n2 (fun q32 h34 k33 e35 => ?_)
        replace hf := hf q32 k33 h34 e35
        replace k9 : hK h34 l4 = 6 := by rw [e35]; exact kNO k9 (by decide) k33
        replace s7 : So 7 (gW G) h34 := by rw [e35]; exact s7.le sc7 (nO_le k33)
        have k36 : hK h34 q32 = 24 := by rw [e35]; exact kNOs
        refine x_dup (pc' := 176) (dX12_bracketed 86 rfl rfl) rfl rfl ?_
        refine x_iload_n (pc' := 177) 2 (dX12_bracketed 87 rfl rfl) rfl rfl rfl ?_
        refine x_inv (pc' := 180) (ν := mX25_init) (av := [_, _]) (st := [_]) rfl rfl (dX12_bracketed 88 rfl rfl) (Nat.le_of_ble_eq_true rfl) wX25_init q246 (inv_I (dX12_bracketed 88 rfl rfl) q1429 q1430 q1431 rfl (by decide) lX25_init) (fun b hb => by exact Or.inl (by have e : some _ = some b := hb; cases e; simp)) rfl ?_
        refine C.mono hf (fun _ _ => KV.g (fun h37 hf le38 => ?_))
        replace s7 := s7.leX sc7 le38 k36 (by decide)
        have k9 := leK le38 k9 (by decide)
        have k36 := leK le38 k36 (by decide)
        exact x_aret (dX12_bracketed 89 rfl rfl) rfl (Or.inl ⟨_, rfl⟩) (Or.inr ⟨_, rfl⟩) hf
    · replace hf := hf.1 (Classical.not_not.mp c8)
      replace c8 := Classical.not_not.mp c8
      obtain ⟨n1, n2, hf⟩ := hf
      refine x_new (pc' := 153) (k := 22) (dX12_bracketed 75 rfl rfl) q1402 (by decide) rfl (by decide) n1 n2 (fun q39 h41 k40 e42 => ?_)
      replace hf := hf q39 k40 h41 e42
      replace s7 : So 7 (gW G) h41 := by rw [e42]; exact s7.le sc7 (nO_le k40)
      have k43 : hK h41 q39 = 23 := by rw [e42]; exact kNOs
      refine x_dup (pc' := 154) (dX12_bracketed 76 rfl rfl) rfl rfl ?_
      refine x_iload_n (pc' := 155) 2 (dX12_bracketed 77 rfl rfl) rfl rfl rfl ?_
      refine x_aload (pc' := 157) 5 (dX12_bracketed 78 rfl rfl) rfl rfl ?_
      refine x_inv (pc' := 160) (ν := mX12_patsOf) (av := [_]) (st := [_, _, _]) rfl rfl (dX12_bracketed 79 rfl rfl) (Nat.le_of_ble_eq_true rfl) wX12_patsOf q226 (inv_S (dX12_bracketed 79 rfl rfl) q1404 q1405 q226 wX12_patsOf (by decide) lX12_patsOf) (exN (by decide)) rfl ?_
      refine C.mono hf (fun _ _ => KR.g (fun b46 h44 hf le45 => ?_))
      have k43 := leK le45 k43 (by decide)
      replace s7 := s7.le sc7 (le45)
      refine x_inv (pc' := 163) (ν := mX24_init) (av := [_, _, _]) (st := [_]) rfl rfl (dX12_bracketed 80 rfl rfl) (Nat.le_of_ble_eq_true rfl) wX24_init q245 (inv_I (dX12_bracketed 80 rfl rfl) q1418 q1419 q1420 rfl (by decide) lX24_init) (fun b hb => by exact Or.inl (by have e : some _ = some b := hb; cases e; simp)) rfl ?_
      refine C.mono hf (fun _ _ => KV.g (fun h47 hf le48 => ?_))
      replace s7 := s7.leX sc7 le48 k43 (by decide)
      have k43 := leK le48 k43 (by decide)
      exact x_aret (dX12_bracketed 81 rfl rfl) rfl (Or.inl ⟨_, rfl⟩) (Or.inr ⟨_, rfl⟩) hf
  · replace hf := hf.2 c4
    refine x_aload_n (pc' := 136) 0 (dX12_bracketed 67 rfl rfl) rfl rfl rfl ?_
    refine x_inv (pc' := 139) (ν := mX12_wrong) (av := [_]) (st := []) rfl rfl (dX12_bracketed 68 rfl rfl) (Nat.le_of_ble_eq_true rfl) wX12_wrong q226 (inv_V (k := 10) (dX12_bracketed 68 rfl rfl) q1289 q1291 qs14 wX12_wrong (by decide) lX12_wrong (by decide) s7.1) (exN (by decide)) rfl ?_
    refine C.mono hf (fun _ _ => KR.g (fun b51 h49 hf le50 => ?_))
    replace s7 := s7.le sc7 (le50)
    exact x_athrow (dX12_bracketed 69 rfl rfl) rfl hf
theorem bX12_patsOf (G : Gh) (d : Nat) (h : AH) (Q : Outcome → AH → Prop) (p0 : Nat) (hf : hK h p0 = 6 ∧ ((¬ (fI h p0 78 : Int32) < 0) ∧ (hc h + 1 ≤ MC) ∧ (hs h + (fI h p0 78 : Int32).toNatClampNeg ≤ MS) ∧ ∀ q2, hK h q2 = 0 → ∀ h4, h4 = nA h q2 8 (fI h p0 78 : Int32).toNatClampNeg → (X G mX12_patsOf (d + 1) none [] 10 [(0, .ref (p0)), (1, .ref (q2)), (2, .int (0))] [] h4 Q))) : C G mX12_patsOf (d + 1) [.ref (p0)] h Q := by
  refine C.of_X (by decide +kernel) (Nat.le_of_ble_eq_true rfl) wX12_patsOf ?_
  show X G mX12_patsOf (d + 1) none [] 0 [(0, .ref (p0))] [] h Q
  refine x_aload_n (pc' := 1) 0 (dX12_patsOf 0 rfl rfl) rfl rfl rfl ?_
  obtain ⟨k1, hf⟩ := hf
  refine x_getI (pc' := 4) (dX12_patsOf 1 rfl rfl) g78 q578 (Or.inl rfl) rfl (hf_of 5 k1 rfl (by decide) m5_78) ?_
  obtain ⟨z6, n1, n2, hf⟩ := hf
  refine x_newq (pc' := 7) (t := 8) (E := "LetMill$Pat") (dX12_patsOf 2 rfl rfl) q1407 (by decide) (by decide) rfl rfl z6 (by decide) n1 n2 (fun q2 h4 k3 e5 => ?_)
  replace hf := hf q2 k3 h4 e5
  replace k1 : hK h4 p0 = 6 := by rw [e5]; exact kNA k1 (by decide) k3
  have k7 : hK h4 q2 = 1008 := by rw [e5]; exact kNAs
  refine x_astore_n (pc' := 8) (dX12_patsOf 3 rfl rfl) rfl (by decide) rfl rfl ?_
  refine x_iconst (pc' := 9) (v := 0) (dX12_patsOf 4 rfl rfl) (by decide) rfl ?_
  refine x_istore_n (pc' := 10) (dX12_patsOf 5 rfl rfl) rfl (by decide) rfl rfl ?_
  exact X.sub [2, 1, 0] rfl (by simp) hf
theorem bX12_patsOf_10 (G : Gh) (d : Nat) (h : AH) (Q : Outcome → AH → Prop) (l0 : Nat) (l1 : Nat) (l2 : Int32) (hf : hK h l0 = 6 ∧ (((fI h l0 78) ≤ l2 → (Q (.returned (some (.ref (l1)))) h)) ∧ (¬ ((fI h l0 78) ≤ l2) → (C G mX7_pat d [.ref (l0), .int (l2)] h (KR Q (fun b5 h3 => hK h3 l1 = 1008 ∧ Ns (gW G) l1 ∧ vp_in l2 (hL h3 l1) ∧ AOK G h3 b5 8 "LetMill$Pat" ∧ ∀ h8, h8 = sR h3 l1 l2.toNatClampNeg (some b5) → (∀ x11 : Int32, x11 = l2 + 1 → (X G mX12_patsOf (d + 1) none [] 10 [(0, .ref (l0)), (1, .ref (l1)), (2, .int (x11))] [] h8 Q)))))))) : X G mX12_patsOf (d + 1) none [] 10 [(0, .ref (l0)), (1, .ref (l1)), (2, .int (l2))] [] h Q := by
  refine x_iload_n (pc' := 11) 2 (dX12_patsOf 6 rfl rfl) rfl rfl rfl ?_
  refine x_aload_n (pc' := 12) 0 (dX12_patsOf 7 rfl rfl) rfl rfl rfl ?_
  obtain ⟨k1, hf⟩ := hf
  refine x_getI (pc' := 15) (dX12_patsOf 8 rfl rfl) g78 q578 (Or.inl rfl) rfl (hf_of 5 k1 rfl (by decide) m5_78) ?_
  refine x_icmp_ge (pc' := 18) (tgt := 32) (dX12_patsOf 9 rfl rfl) (by decide) rfl (fun c2 => ?_) (fun c2 => ?_)
  · replace hf := hf.1 c2
    refine x_aload_n (pc' := 33) 1 (dX12_patsOf 18 rfl rfl) rfl rfl rfl ?_
    exact x_aret (dX12_patsOf 19 rfl rfl) rfl (Or.inr ⟨_, rfl⟩) (Or.inr ⟨_, rfl⟩) hf
  · replace hf := hf.2 c2
    refine x_aload_n (pc' := 19) 1 (dX12_patsOf 10 rfl rfl) rfl rfl rfl ?_
    refine x_iload_n (pc' := 20) 2 (dX12_patsOf 11 rfl rfl) rfl rfl rfl ?_
    refine x_aload_n (pc' := 21) 0 (dX12_patsOf 12 rfl rfl) rfl rfl rfl ?_
    refine x_iload_n (pc' := 22) 2 (dX12_patsOf 13 rfl rfl) rfl rfl rfl ?_
    refine x_inv (pc' := 25) (ν := mX7_pat) (av := [_, _]) (st := [_, _]) rfl rfl (dX12_patsOf 14 rfl rfl) (Nat.le_of_ble_eq_true rfl) wX7_pat q221 (inv_V (k := 5) (dX12_patsOf 14 rfl rfl) q1409 q1410 q1411 wX7_pat (by decide) lX7_pat (by decide) k1) (exN (by decide)) rfl ?_
    refine C.mono hf (fun _ _ => KR.g (fun b5 h3 hf le4 => ?_))
    have k1 := leK le4 k1 (by decide)
    obtain ⟨k6, hf⟩ := hf
    obtain ⟨n10, hf⟩ := hf
    obtain ⟨i7, hf⟩ := hf
    obtain ⟨o12, hf⟩ := hf
    refine x_aast (pc' := 26) (t := 8) (E := "LetMill$Pat") (dX12_patsOf 15 rfl rfl) rfl (by decide) rfl (by decide) k6 (Or.inr ⟨n10, by decide⟩) i7 o12 (fun h8 e9 => ?_)
    replace hf := hf h8 e9
    replace k1 : hK h8 l0 = 6 := by rw [e9]; exact k1
    replace k6 : hK h8 l1 = 1008 := by rw [e9]; exact k6
    replace hf := hf _ rfl
    refine x_iinc (pc' := 29) 2 (dX12_patsOf 16 rfl rfl) rfl (by rfl) (by decide) rfl rfl ?_
    refine x_goto (tgt := 10) (dX12_patsOf 17 rfl rfl) (by decide) ?_
    exact X.sub [1, 2, 0] rfl (by simp) hf
theorem bX12_expect (G : Gh) (d : Nat) (h : AH) (Q : Outcome → AH → Prop) (p1 : Int32) (s7 : So 7 (gW G) h) (hf : C G mX12_kind d [.ref (gW G 7)] h (KI Q (fun x3 h1 => (x3 = p1 → (C G mX12_take d [.ref (gW G 7)] h1 (KI Q (fun x7 h5 => Q (.returned (some (.int x7))) h5)))) ∧ (¬ x3 = p1 → (C G mX12_wrong d [.ref (gW G 7)] h1 (KR Q (fun b10 h8 => Q (.threw b10) h8))))))) : C G mX12_expect (d + 1) [.ref (gW G 7), .int (p1)] h Q := by
  refine C.of_X (by decide +kernel) (Nat.le_of_ble_eq_true rfl) wX12_expect ?_
  show X G mX12_expect (d + 1) none [] 0 [(0, .ref (gW G 7)), (1, .int (p1))] [] h Q
  refine x_aload_n (pc' := 1) 0 (dX12_expect 0 rfl rfl) rfl rfl rfl ?_
  refine x_inv (pc' := 4) (ν := mX12_kind) (av := [_]) (st := []) rfl rfl (dX12_expect 1 rfl rfl) (Nat.le_of_ble_eq_true rfl) wX12_kind q226 (inv_V (k := 10) (dX12_expect 1 rfl rfl) q1281 q1283 qs12 wX12_kind (by decide) lX12_kind (by decide) s7.1) (exN (by decide)) rfl ?_
  refine C.mono hf (fun _ _ => KI.g (fun x3 h1 hf le2 => ?_))
  replace s7 := s7.le sc7 (le2)
  refine x_iload_n (pc' := 5) 1 (dX12_expect 2 rfl rfl) rfl rfl rfl ?_
  refine x_icmp_eq (pc' := 8) (tgt := 13) (dX12_expect 3 rfl rfl) (by decide) rfl (fun c4 => ?_) (fun c4 => ?_)
  · replace hf := hf.1 c4
    refine x_aload_n (pc' := 14) 0 (dX12_expect 7 rfl rfl) rfl rfl rfl ?_
    refine x_inv (pc' := 17) (ν := mX12_take) (av := [_]) (st := []) rfl rfl (dX12_expect 8 rfl rfl) (Nat.le_of_ble_eq_true rfl) wX12_take q226 (inv_V (k := 10) (dX12_expect 8 rfl rfl) q1316 q1318 qs15 wX12_take (by decide) lX12_take (by decide) s7.1) (exN (by decide)) rfl ?_
    refine C.mono hf (fun _ _ => KI.g (fun x7 h5 hf le6 => ?_))
    replace s7 := s7.le sc7 (le6)
    exact x_iret (dX12_expect 9 rfl rfl) rfl hf
  · replace hf := hf.2 c4
    refine x_aload_n (pc' := 9) 0 (dX12_expect 4 rfl rfl) rfl rfl rfl ?_
    refine x_inv (pc' := 12) (ν := mX12_wrong) (av := [_]) (st := []) rfl rfl (dX12_expect 5 rfl rfl) (Nat.le_of_ble_eq_true rfl) wX12_wrong q226 (inv_V (k := 10) (dX12_expect 5 rfl rfl) q1289 q1291 qs14 wX12_wrong (by decide) lX12_wrong (by decide) s7.1) (exN (by decide)) rfl ?_
    refine C.mono hf (fun _ _ => KR.g (fun b10 h8 hf le9 => ?_))
    replace s7 := s7.le sc7 (le9)
    exact x_athrow (dX12_expect 6 rfl rfl) rfl hf
theorem bX12_exp (G : Gh) (d : Nat) (h : AH) (Q : Outcome → AH → Prop)  (s7 : So 7 (gW G) h) (hf : ∀ x1 : Int32, x1 = fI h (gW G 7) 115 → (C G mX12_kind d [.ref (gW G 7)] h (KI Q (fun x4 h2 => (x4 = 257 → (C G mX12_take d [.ref (gW G 7)] h2 (KI Q (fun x8 h6 => ∀ h9, h9 = pI h6 (gW G 7) 116 ((fI h6 (gW G 7) 116) + 1) → (C G mX12_exp d [.ref (gW G 7)] h9 (KR Q (fun b12 h10 => C G mX12_expect d [.ref (gW G 7), .int (268)] h10 (KI Q (fun x15 h13 => C G mX12_match d [.ref (gW G 7)] h13 (KR Q (fun b18 h16 => ∀ h19, h19 = pI h16 (gW G 7) 116 ((fI h16 (gW G 7) 116) - 1) → ((hc h19 + 1 ≤ MC) ∧ (hs h19 + 4 ≤ MS) ∧ ∀ q20, hK h19 q20 = 0 → ∀ h22, h22 = nO h19 q20 30 → (C G mX33_init d [.ref (q20), .int (x1), .ref (b12), .ref (b18)] h22 (KV Q (fun h25 => Q (.returned (some (.ref (q20)))) h25))))))))))))))) ∧ (x4 = 262 → (C G mX12_take d [.ref (gW G 7)] h2 (KI Q (fun x31 h29 => ∀ h32, h32 = pI h29 (gW G 7) 116 ((fI h29 (gW G 7) 116) + 1) → (C G mX12_match d [.ref (gW G 7)] h32 (KR Q (fun b35 h33 => ∀ h36, h36 = pI h33 (gW G 7) 116 ((fI h33 (gW G 7) 116) - 1) → ((hc h36 + 1 ≤ MC) ∧ (hs h36 + 4 ≤ MS) ∧ ∀ q37, hK h36 q37 = 0 → ∀ h39, h39 = nO h36 q37 29 → (C G mX32_init d [.ref (q37), .int (x1), .ref (b35)] h39 (KV Q (fun h42 => Q (.returned (some (.ref (q37)))) h42))))))))))) ∧ (x4 = 264 → (C G mX12_take d [.ref (gW G 7)] h2 (KI Q (fun x48 h46 => ∀ h49, h49 = pI h46 (gW G 7) 116 ((fI h46 (gW G 7) 116) + 1) → (C G mX12_exp d [.ref (gW G 7)] h49 (KR Q (fun b52 h50 => C G mX12_expect d [.ref (gW G 7), .int (271)] h50 (KI Q (fun x55 h53 => C G mX12_exp d [.ref (gW G 7)] h53 (KR Q (fun b58 h56 => C G mX12_expect d [.ref (gW G 7), .int (260)] h56 (KI Q (fun x61 h59 => C G mX12_exp d [.ref (gW G 7)] h59 (KR Q (fun b64 h62 => ∀ h65, h65 = pI h62 (gW G 7) 116 ((fI h62 (gW G 7) 116) - 1) → ((hc h65 + 1 ≤ MC) ∧ (hs h65 + 5 ≤ MS) ∧ ∀ q66, hK h65 q66 = 0 → ∀ h68, h68 = nO h65 q66 31 → (C G mX34_init d [.ref (q66), .int (x1), .ref (b52), .ref (b58), .ref (b64)] h68 (KV Q (fun h71 => Q (.returned (some (.ref (q66)))) h71))))))))))))))))))) ∧ (¬ x4 = 257 ∧ ¬ x4 = 262 ∧ ¬ x4 = 264 → (C G mX12_level d [.ref (gW G 7), .int (1)] h2 (KR Q (fun b77 h75 => Q (.returned (some (.ref (b77)))) h75)))))))) : C G mX12_exp (d + 1) [.ref (gW G 7)] h Q := by
  refine C.of_X (by decide +kernel) (Nat.le_of_ble_eq_true rfl) wX12_exp ?_
  show X G mX12_exp (d + 1) none [] 0 [(0, .ref (gW G 7))] [] h Q
  refine x_aload_n (pc' := 1) 0 (dX12_exp 0 rfl rfl) rfl rfl rfl ?_
  refine x_getI (pc' := 4) (dX12_exp 1 rfl rfl) g115 q859 (Or.inl rfl) rfl (hf_of 10 s7.1 rfl (by decide) m10_115) ?_
  replace hf := hf _ rfl
  refine x_istore_n (pc' := 5) (dX12_exp 2 rfl rfl) rfl (by decide) rfl rfl ?_
  refine x_aload_n (pc' := 6) 1 (dX12_exp 3 rfl rfl) rfl rfl rfl ?_
  refine x_inv (pc' := 9) (ν := mX12_kind) (av := [_]) (st := []) rfl rfl (dX12_exp 4 rfl rfl) (Nat.le_of_ble_eq_true rfl) wX12_kind q226 (inv_V (k := 10) (dX12_exp 4 rfl rfl) q1281 q1283 qs12 wX12_kind (by decide) lX12_kind (by decide) s7.1) (exN (by decide)) rfl ?_
  refine C.mono hf (fun _ _ => KI.g (fun x4 h2 hf le3 => ?_))
  replace s7 := s7.le sc7 (le3)
  by_cases c50 : x4 = 257
  · replace hf := hf.1 c50
    refine x_ls (v := 257) (tgt := 84) (swX12_exp_9) (by decide) (by rw [c50]; decide) (by decide) ?_
    refine x_aload_n (pc' := 85) 1 (dX12_exp 30 rfl rfl) rfl rfl rfl ?_
    refine x_inv (pc' := 88) (ν := mX12_take) (av := [_]) (st := []) rfl rfl (dX12_exp 31 rfl rfl) (Nat.le_of_ble_eq_true rfl) wX12_take q226 (inv_V (k := 10) (dX12_exp 31 rfl rfl) q1316 q1318 qs15 wX12_take (by decide) lX12_take (by decide) s7.1) (exN (by decide)) rfl ?_
    refine C.mono hf (fun _ _ => KI.g (fun x8 h6 hf le7 => ?_))
    replace s7 := s7.le sc7 (le7)
    refine x_istore_n (pc' := 89) (dX12_exp 32 rfl rfl) rfl (by decide) rfl rfl ?_
    refine x_aload_n (pc' := 90) 2 (dX12_exp 33 rfl rfl) rfl rfl rfl ?_
    refine x_dup (pc' := 91) (dX12_exp 34 rfl rfl) rfl rfl ?_
    refine x_getI (pc' := 94) (dX12_exp 35 rfl rfl) g116 q860 (Or.inl rfl) rfl (hf_of 10 s7.1 rfl (by decide) m10_116) ?_
    refine x_iconst (pc' := 95) (v := 1) (dX12_exp 36 rfl rfl) (by decide) rfl ?_
    refine x_iadd (pc' := 96) (dX12_exp 37 rfl rfl) rfl ?_
    refine x_putI (pc' := 99) (dX12_exp 38 rfl rfl) g116 q860 (Or.inl rfl) (Or.inl rfl) (Or.inl (by decide)) rfl (hf_of 10 s7.1 rfl (by decide) m10_116) (fun h9 e28 => ?_)
    replace hf := hf h9 e28
    replace s7 : So 7 (gW G) h9 := by rw [e28]; exact s7.le sc7 (pI_le (Or.inl rfl))
    refine x_aload_n (pc' := 100) 2 (dX12_exp 39 rfl rfl) rfl rfl rfl ?_
    refine x_inv (pc' := 103) (ν := mX12_exp) (av := [_]) (st := []) rfl rfl (dX12_exp 40 rfl rfl) (Nat.le_of_ble_eq_true rfl) wX12_exp q226 (inv_V (k := 10) (dX12_exp 40 rfl rfl) q1477 q1479 qs22 wX12_exp (by decide) lX12_exp (by decide) s7.1) (exN (by decide)) rfl ?_
    refine C.mono hf (fun _ _ => KR.g (fun b12 h10 hf le11 => ?_))
    replace s7 := s7.le sc7 (le11)
    refine x_astore_n (pc' := 104) (dX12_exp 41 rfl rfl) rfl (by decide) rfl rfl ?_
    refine x_aload_n (pc' := 105) 3 (dX12_exp 42 rfl rfl) rfl rfl rfl ?_
    refine x_sipush (pc' := 108) (v := 268) (dX12_exp 43 rfl rfl) (by decide) rfl ?_
    refine x_inv (pc' := 111) (ν := mX12_expect) (av := [_, _]) (st := []) rfl rfl (dX12_exp 44 rfl rfl) (Nat.le_of_ble_eq_true rfl) wX12_expect q226 (inv_V (k := 10) (dX12_exp 44 rfl rfl) q1471 q1473 qs21 wX12_expect (by decide) lX12_expect (by decide) s7.1) (exN (by decide)) rfl ?_
    refine C.mono hf (fun _ _ => KI.g (fun x15 h13 hf le14 => ?_))
    replace s7 := s7.le sc7 (le14)
    refine x_istore_n (pc' := 112) (dX12_exp 45 rfl rfl) rfl (by decide) rfl rfl ?_
    refine x_aload_n (pc' := 113) 3 (dX12_exp 46 rfl rfl) rfl rfl rfl ?_
    refine x_inv (pc' := 116) (ν := mX12_match) (av := [_]) (st := []) rfl rfl (dX12_exp 47 rfl rfl) (Nat.le_of_ble_eq_true rfl) wX12_match q226 (inv_V (k := 10) (dX12_exp 47 rfl rfl) q1481 q1483 qs23 wX12_match (by decide) lX12_match (by decide) s7.1) (exN (by decide)) rfl ?_
    refine C.mono hf (fun _ _ => KR.g (fun b18 h16 hf le17 => ?_))
    replace s7 := s7.le sc7 (le17)
    refine x_astore (pc' := 118) (dX12_exp 48 rfl rfl) (by decide) rfl rfl ?_
    refine x_aload_n (pc' := 119) 4 (dX12_exp 49 rfl rfl) rfl rfl rfl ?_
    refine x_dup (pc' := 120) (dX12_exp 50 rfl rfl) rfl rfl ?_
    refine x_getI (pc' := 123) (dX12_exp 51 rfl rfl) g116 q860 (Or.inl rfl) rfl (hf_of 10 s7.1 rfl (by decide) m10_116) ?_
    refine x_iconst (pc' := 124) (v := 1) (dX12_exp 52 rfl rfl) (by decide) rfl ?_
    refine x_isub (pc' := 125) (dX12_exp 53 rfl rfl) rfl ?_
    refine x_putI (pc' := 128) (dX12_exp 54 rfl rfl) g116 q860 (Or.inl rfl) (Or.inl rfl) (Or.inl (by decide)) rfl (hf_of 10 s7.1 rfl (by decide) m10_116) (fun h19 e27 => ?_)
    replace hf := hf h19 e27
    replace s7 : So 7 (gW G) h19 := by rw [e27]; exact s7.le sc7 (pI_le (Or.inl rfl))
    obtain ⟨n1, n2, hf⟩ := hf
    refine x_new (pc' := 131) (k := 30) (dX12_exp 55 rfl rfl) q1556 (by decide) rfl (by decide) n1 n2 (fun q20 h22 k21 e23 => ?_)
    replace hf := hf q20 k21 h22 e23
    replace s7 : So 7 (gW G) h22 := by rw [e23]; exact s7.le sc7 (nO_le k21)
    have k24 : hK h22 q20 = 31 := by rw [e23]; exact kNOs
    refine x_dup (pc' := 132) (dX12_exp 56 rfl rfl) rfl rfl ?_
    refine x_iload_n (pc' := 133) 3 (dX12_exp 57 rfl rfl) rfl rfl rfl ?_
    refine x_aload_n (pc' := 134) 2 (dX12_exp 58 rfl rfl) rfl rfl rfl ?_
    refine x_aload (pc' := 136) 0 (dX12_exp 59 rfl rfl) rfl rfl ?_
    refine x_inv (pc' := 139) (ν := mX33_init) (av := [_, _, _, _]) (st := [_]) rfl rfl (dX12_exp 60 rfl rfl) (Nat.le_of_ble_eq_true rfl) wX33_init q254 (inv_I (dX12_exp 60 rfl rfl) q1558 q1559 q1560 rfl (by decide) lX33_init) (fun b hb => by exact Or.inl (by have e : some _ = some b := hb; cases e; simp)) rfl ?_
    refine C.mono hf (fun _ _ => KV.g (fun h25 hf le26 => ?_))
    replace s7 := s7.leX sc7 le26 k24 (by decide)
    have k24 := leK le26 k24 (by decide)
    exact x_aret (dX12_exp 61 rfl rfl) rfl (Or.inl ⟨_, rfl⟩) (Or.inr ⟨_, rfl⟩) hf
  by_cases c51 : x4 = 262
  · replace hf := hf.2.1 c51
    refine x_ls (v := 262) (tgt := 44) (swX12_exp_9) (by decide) (by rw [c51]; decide) (by decide) ?_
    refine x_aload_n (pc' := 45) 1 (dX12_exp 6 rfl rfl) rfl rfl rfl ?_
    refine x_inv (pc' := 48) (ν := mX12_take) (av := [_]) (st := []) rfl rfl (dX12_exp 7 rfl rfl) (Nat.le_of_ble_eq_true rfl) wX12_take q226 (inv_V (k := 10) (dX12_exp 7 rfl rfl) q1316 q1318 qs15 wX12_take (by decide) lX12_take (by decide) s7.1) (exN (by decide)) rfl ?_
    refine C.mono hf (fun _ _ => KI.g (fun x31 h29 hf le30 => ?_))
    replace s7 := s7.le sc7 (le30)
    refine x_istore_n (pc' := 49) (dX12_exp 8 rfl rfl) rfl (by decide) rfl rfl ?_
    refine x_aload_n (pc' := 50) 2 (dX12_exp 9 rfl rfl) rfl rfl rfl ?_
    refine x_dup (pc' := 51) (dX12_exp 10 rfl rfl) rfl rfl ?_
    refine x_getI (pc' := 54) (dX12_exp 11 rfl rfl) g116 q860 (Or.inl rfl) rfl (hf_of 10 s7.1 rfl (by decide) m10_116) ?_
    refine x_iconst (pc' := 55) (v := 1) (dX12_exp 12 rfl rfl) (by decide) rfl ?_
    refine x_iadd (pc' := 56) (dX12_exp 13 rfl rfl) rfl ?_
    refine x_putI (pc' := 59) (dX12_exp 14 rfl rfl) g116 q860 (Or.inl rfl) (Or.inl rfl) (Or.inl (by decide)) rfl (hf_of 10 s7.1 rfl (by decide) m10_116) (fun h32 e45 => ?_)
    replace hf := hf h32 e45
    replace s7 : So 7 (gW G) h32 := by rw [e45]; exact s7.le sc7 (pI_le (Or.inl rfl))
    refine x_aload_n (pc' := 60) 2 (dX12_exp 15 rfl rfl) rfl rfl rfl ?_
    refine x_inv (pc' := 63) (ν := mX12_match) (av := [_]) (st := []) rfl rfl (dX12_exp 16 rfl rfl) (Nat.le_of_ble_eq_true rfl) wX12_match q226 (inv_V (k := 10) (dX12_exp 16 rfl rfl) q1481 q1483 qs23 wX12_match (by decide) lX12_match (by decide) s7.1) (exN (by decide)) rfl ?_
    refine C.mono hf (fun _ _ => KR.g (fun b35 h33 hf le34 => ?_))
    replace s7 := s7.le sc7 (le34)
    refine x_astore_n (pc' := 64) (dX12_exp 17 rfl rfl) rfl (by decide) rfl rfl ?_
    refine x_aload_n (pc' := 65) 3 (dX12_exp 18 rfl rfl) rfl rfl rfl ?_
    refine x_dup (pc' := 66) (dX12_exp 19 rfl rfl) rfl rfl ?_
    refine x_getI (pc' := 69) (dX12_exp 20 rfl rfl) g116 q860 (Or.inl rfl) rfl (hf_of 10 s7.1 rfl (by decide) m10_116) ?_
    refine x_iconst (pc' := 70) (v := 1) (dX12_exp 21 rfl rfl) (by decide) rfl ?_
    refine x_isub (pc' := 71) (dX12_exp 22 rfl rfl) rfl ?_
    refine x_putI (pc' := 74) (dX12_exp 23 rfl rfl) g116 q860 (Or.inl rfl) (Or.inl rfl) (Or.inl (by decide)) rfl (hf_of 10 s7.1 rfl (by decide) m10_116) (fun h36 e44 => ?_)
    replace hf := hf h36 e44
    replace s7 : So 7 (gW G) h36 := by rw [e44]; exact s7.le sc7 (pI_le (Or.inl rfl))
    obtain ⟨n1, n2, hf⟩ := hf
    refine x_new (pc' := 77) (k := 29) (dX12_exp 24 rfl rfl) q1515 (by decide) rfl (by decide) n1 n2 (fun q37 h39 k38 e40 => ?_)
    replace hf := hf q37 k38 h39 e40
    replace s7 : So 7 (gW G) h39 := by rw [e40]; exact s7.le sc7 (nO_le k38)
    have k41 : hK h39 q37 = 30 := by rw [e40]; exact kNOs
    refine x_dup (pc' := 78) (dX12_exp 25 rfl rfl) rfl rfl ?_
    refine x_iload_n (pc' := 79) 2 (dX12_exp 26 rfl rfl) rfl rfl rfl ?_
    refine x_aload_n (pc' := 80) 0 (dX12_exp 27 rfl rfl) rfl rfl rfl ?_
    refine x_inv (pc' := 83) (ν := mX32_init) (av := [_, _, _]) (st := [_]) rfl rfl (dX12_exp 28 rfl rfl) (Nat.le_of_ble_eq_true rfl) wX32_init q253 (inv_I (dX12_exp 28 rfl rfl) q1517 q1518 q1519 rfl (by decide) lX32_init) (fun b hb => by exact Or.inl (by have e : some _ = some b := hb; cases e; simp)) rfl ?_
    refine C.mono hf (fun _ _ => KV.g (fun h42 hf le43 => ?_))
    replace s7 := s7.leX sc7 le43 k41 (by decide)
    have k41 := leK le43 k41 (by decide)
    exact x_aret (dX12_exp 29 rfl rfl) rfl (Or.inl ⟨_, rfl⟩) (Or.inr ⟨_, rfl⟩) hf
  by_cases c52 : x4 = 264
  · replace hf := hf.2.2.1 c52
    refine x_ls (v := 264) (tgt := 140) (swX12_exp_9) (by decide) (by rw [c52]; decide) (by decide) ?_
    refine x_aload_n (pc' := 141) 1 (dX12_exp 62 rfl rfl) rfl rfl rfl ?_
    refine x_inv (pc' := 144) (ν := mX12_take) (av := [_]) (st := []) rfl rfl (dX12_exp 63 rfl rfl) (Nat.le_of_ble_eq_true rfl) wX12_take q226 (inv_V (k := 10) (dX12_exp 63 rfl rfl) q1316 q1318 qs15 wX12_take (by decide) lX12_take (by decide) s7.1) (exN (by decide)) rfl ?_
    refine C.mono hf (fun _ _ => KI.g (fun x48 h46 hf le47 => ?_))
    replace s7 := s7.le sc7 (le47)
    refine x_istore_n (pc' := 145) (dX12_exp 64 rfl rfl) rfl (by decide) rfl rfl ?_
    refine x_aload_n (pc' := 146) 2 (dX12_exp 65 rfl rfl) rfl rfl rfl ?_
    refine x_dup (pc' := 147) (dX12_exp 66 rfl rfl) rfl rfl ?_
    refine x_getI (pc' := 150) (dX12_exp 67 rfl rfl) g116 q860 (Or.inl rfl) rfl (hf_of 10 s7.1 rfl (by decide) m10_116) ?_
    refine x_iconst (pc' := 151) (v := 1) (dX12_exp 68 rfl rfl) (by decide) rfl ?_
    refine x_iadd (pc' := 152) (dX12_exp 69 rfl rfl) rfl ?_
    refine x_putI (pc' := 155) (dX12_exp 70 rfl rfl) g116 q860 (Or.inl rfl) (Or.inl rfl) (Or.inl (by decide)) rfl (hf_of 10 s7.1 rfl (by decide) m10_116) (fun h49 e74 => ?_)
    replace hf := hf h49 e74
    replace s7 : So 7 (gW G) h49 := by rw [e74]; exact s7.le sc7 (pI_le (Or.inl rfl))
    refine x_aload_n (pc' := 156) 2 (dX12_exp 71 rfl rfl) rfl rfl rfl ?_
    refine x_inv (pc' := 159) (ν := mX12_exp) (av := [_]) (st := []) rfl rfl (dX12_exp 72 rfl rfl) (Nat.le_of_ble_eq_true rfl) wX12_exp q226 (inv_V (k := 10) (dX12_exp 72 rfl rfl) q1477 q1479 qs22 wX12_exp (by decide) lX12_exp (by decide) s7.1) (exN (by decide)) rfl ?_
    refine C.mono hf (fun _ _ => KR.g (fun b52 h50 hf le51 => ?_))
    replace s7 := s7.le sc7 (le51)
    refine x_astore_n (pc' := 160) (dX12_exp 73 rfl rfl) rfl (by decide) rfl rfl ?_
    refine x_aload_n (pc' := 161) 3 (dX12_exp 74 rfl rfl) rfl rfl rfl ?_
    refine x_sipush (pc' := 164) (v := 271) (dX12_exp 75 rfl rfl) (by decide) rfl ?_
    refine x_inv (pc' := 167) (ν := mX12_expect) (av := [_, _]) (st := []) rfl rfl (dX12_exp 76 rfl rfl) (Nat.le_of_ble_eq_true rfl) wX12_expect q226 (inv_V (k := 10) (dX12_exp 76 rfl rfl) q1471 q1473 qs21 wX12_expect (by decide) lX12_expect (by decide) s7.1) (exN (by decide)) rfl ?_
    refine C.mono hf (fun _ _ => KI.g (fun x55 h53 hf le54 => ?_))
    replace s7 := s7.le sc7 (le54)
    refine x_istore_n (pc' := 168) (dX12_exp 77 rfl rfl) rfl (by decide) rfl rfl ?_
    refine x_aload_n (pc' := 169) 3 (dX12_exp 78 rfl rfl) rfl rfl rfl ?_
    refine x_inv (pc' := 172) (ν := mX12_exp) (av := [_]) (st := []) rfl rfl (dX12_exp 79 rfl rfl) (Nat.le_of_ble_eq_true rfl) wX12_exp q226 (inv_V (k := 10) (dX12_exp 79 rfl rfl) q1477 q1479 qs22 wX12_exp (by decide) lX12_exp (by decide) s7.1) (exN (by decide)) rfl ?_
    refine C.mono hf (fun _ _ => KR.g (fun b58 h56 hf le57 => ?_))
    replace s7 := s7.le sc7 (le57)
    refine x_astore (pc' := 174) (dX12_exp 80 rfl rfl) (by decide) rfl rfl ?_
    refine x_aload_n (pc' := 175) 4 (dX12_exp 81 rfl rfl) rfl rfl rfl ?_
    refine x_sipush (pc' := 178) (v := 260) (dX12_exp 82 rfl rfl) (by decide) rfl ?_
    refine x_inv (pc' := 181) (ν := mX12_expect) (av := [_, _]) (st := []) rfl rfl (dX12_exp 83 rfl rfl) (Nat.le_of_ble_eq_true rfl) wX12_expect q226 (inv_V (k := 10) (dX12_exp 83 rfl rfl) q1471 q1473 qs21 wX12_expect (by decide) lX12_expect (by decide) s7.1) (exN (by decide)) rfl ?_
    refine C.mono hf (fun _ _ => KI.g (fun x61 h59 hf le60 => ?_))
    replace s7 := s7.le sc7 (le60)
    refine x_istore_n (pc' := 182) (dX12_exp 84 rfl rfl) rfl (by decide) rfl rfl ?_
    refine x_aload_n (pc' := 183) 4 (dX12_exp 85 rfl rfl) rfl rfl rfl ?_
    refine x_inv (pc' := 186) (ν := mX12_exp) (av := [_]) (st := []) rfl rfl (dX12_exp 86 rfl rfl) (Nat.le_of_ble_eq_true rfl) wX12_exp q226 (inv_V (k := 10) (dX12_exp 86 rfl rfl) q1477 q1479 qs22 wX12_exp (by decide) lX12_exp (by decide) s7.1) (exN (by decide)) rfl ?_
    refine C.mono hf (fun _ _ => KR.g (fun b64 h62 hf le63 => ?_))
    replace s7 := s7.le sc7 (le63)
    refine x_astore (pc' := 188) (dX12_exp 87 rfl rfl) (by decide) rfl rfl ?_
    refine x_aload_n (pc' := 189) 5 (dX12_exp 88 rfl rfl) rfl rfl rfl ?_
    refine x_dup (pc' := 190) (dX12_exp 89 rfl rfl) rfl rfl ?_
    refine x_getI (pc' := 193) (dX12_exp 90 rfl rfl) g116 q860 (Or.inl rfl) rfl (hf_of 10 s7.1 rfl (by decide) m10_116) ?_
    refine x_iconst (pc' := 194) (v := 1) (dX12_exp 91 rfl rfl) (by decide) rfl ?_
    refine x_isub (pc' := 195) (dX12_exp 92 rfl rfl) rfl ?_
    refine x_putI (pc' := 198) (dX12_exp 93 rfl rfl) g116 q860 (Or.inl rfl) (Or.inl rfl) (Or.inl (by decide)) rfl (hf_of 10 s7.1 rfl (by decide) m10_116) (fun h65 e73 => ?_)
    replace hf := hf h65 e73
    replace s7 : So 7 (gW G) h65 := by rw [e73]; exact s7.le sc7 (pI_le (Or.inl rfl))
    obtain ⟨n1, n2, hf⟩ := hf
    refine x_new (pc' := 201) (k := 31) (dX12_exp 94 rfl rfl) q1571 (by decide) rfl (by decide) n1 n2 (fun q66 h68 k67 e69 => ?_)
    replace hf := hf q66 k67 h68 e69
    replace s7 : So 7 (gW G) h68 := by rw [e69]; exact s7.le sc7 (nO_le k67)
    have k70 : hK h68 q66 = 32 := by rw [e69]; exact kNOs
    refine x_dup (pc' := 202) (dX12_exp 95 rfl rfl) rfl rfl ?_
    refine x_iload_n (pc' := 203) 4 (dX12_exp 96 rfl rfl) rfl rfl rfl ?_
    refine x_aload_n (pc' := 204) 3 (dX12_exp 97 rfl rfl) rfl rfl rfl ?_
    refine x_aload (pc' := 206) 2 (dX12_exp 98 rfl rfl) rfl rfl ?_
    refine x_aload (pc' := 208) 0 (dX12_exp 99 rfl rfl) rfl rfl ?_
    refine x_inv (pc' := 211) (ν := mX34_init) (av := [_, _, _, _, _]) (st := [_]) rfl rfl (dX12_exp 100 rfl rfl) (Nat.le_of_ble_eq_true rfl) wX34_init q255 (inv_I (dX12_exp 100 rfl rfl) q1573 q1574 q1575 rfl (by decide) lX34_init) (fun b hb => by exact Or.inl (by have e : some _ = some b := hb; cases e; simp)) rfl ?_
    refine C.mono hf (fun _ _ => KV.g (fun h71 hf le72 => ?_))
    replace s7 := s7.leX sc7 le72 k70 (by decide)
    have k70 := leK le72 k70 (by decide)
    exact x_aret (dX12_exp 101 rfl rfl) rfl (Or.inl ⟨_, rfl⟩) (Or.inr ⟨_, rfl⟩) hf
  replace hf := hf.2.2.2 ⟨c50, c51, c52⟩
  refine x_ld (vs := [257, 262, 264]) (tgt := 212) (swX12_exp_9) (by decide) ?_ (by decide) (by decide) ?_
  · intro v hv
    simp only [List.mem_cons, List.not_mem_nil, or_false] at hv
    rcases hv with rfl | rfl | rfl
    · exact i32_ne (by decide) c50
    · exact i32_ne (by decide) c51
    · exact i32_ne (by decide) c52
  · refine x_aload_n (pc' := 213) 1 (dX12_exp 102 rfl rfl) rfl rfl rfl ?_
    refine x_iconst (pc' := 214) (v := 1) (dX12_exp 103 rfl rfl) (by decide) rfl ?_
    refine x_inv (pc' := 217) (ν := mX12_level) (av := [_, _]) (st := []) rfl rfl (dX12_exp 104 rfl rfl) (Nat.le_of_ble_eq_true rfl) wX12_level q226 (inv_V (k := 10) (dX12_exp 104 rfl rfl) q1589 q1591 qs25 wX12_level (by decide) lX12_level (by decide) s7.1) (exN (by decide)) rfl ?_
    refine C.mono hf (fun _ _ => KR.g (fun b77 h75 hf le76 => ?_))
    replace s7 := s7.le sc7 (le76)
    exact x_aret (dX12_exp 105 rfl rfl) rfl (Or.inl ⟨_, rfl⟩) (Or.inr ⟨_, rfl⟩) hf
theorem bX12_match (G : Gh) (d : Nat) (h : AH) (Q : Outcome → AH → Prop)  (hf : (hc h + 1 ≤ MC) ∧ (hs h + 2 ≤ MS) ∧ ∀ q1, hK h q1 = 0 → ∀ h3, h3 = nO h q1 5 → (C G mX7_init d [.ref (q1)] h3 (KV Q (fun h6 => X G mX12_match (d + 1) none [] 8 [(0, .ref (gW G 7)), (1, .ref (q1))] [] h6 Q)))) : C G mX12_match (d + 1) [.ref (gW G 7)] h Q := by
  refine C.of_X (by decide +kernel) (Nat.le_of_ble_eq_true rfl) wX12_match ?_
  show X G mX12_match (d + 1) none [] 0 [(0, .ref (gW G 7))] [] h Q
  obtain ⟨n1, n2, hf⟩ := hf
  refine x_new (pc' := 3) (k := 5) (dX12_match 0 rfl rfl) q1275 (by decide) rfl (by decide) n1 n2 (fun q1 h3 k2 e4 => ?_)
  replace hf := hf q1 k2 h3 e4
  have k5 : hK h3 q1 = 6 := by rw [e4]; exact kNOs
  refine x_dup (pc' := 4) (dX12_match 1 rfl rfl) rfl rfl ?_
  refine x_inv (pc' := 7) (ν := mX7_init) (av := [_]) (st := [_]) rfl rfl (dX12_match 2 rfl rfl) (Nat.le_of_ble_eq_true rfl) wX7_init q221 (inv_N (host := "LetMill") (dX12_match 2 rfl rfl) (by decide) q560 q561 rfl (by decide) lX7_init) (fun b hb => by exact Or.inl (by have e : some _ = some b := hb; cases e; simp)) rfl ?_
  refine C.mono hf (fun _ _ => KV.g (fun h6 hf le7 => ?_))
  have k5 := leK le7 k5 (by decide)
  refine x_astore_n (pc' := 8) (dX12_match 3 rfl rfl) rfl (by decide) rfl rfl ?_
  exact X.sub [1, 0] rfl (by simp) hf
theorem bX12_match_8 (G : Gh) (d : Nat) (h : AH) (Q : Outcome → AH → Prop) (l1 : Nat) (s7 : So 7 (gW G) h) (hf : hK h l1 = 6 ∧ (((fI h l1 78) = 8 → (∀ h39, h39 = pI h (gW G 7) 115 ((fI h (gW G 7) 115) - 1) → (C G mX12_wrong d [.ref (gW G 7)] h39 (KR Q (fun b42 h40 => Q (.threw b42) h40))))) ∧ (¬ ((fI h l1 78) = 8) → (∀ x3 : Int32, x3 = fI h (gW G 7) 115 → (∀ h4, h4 = pI h (gW G 7) 118 0 → (C G mX12_pat d [.ref (gW G 7)] h4 (KR Q (fun b7 h5 => C G mX12_expect d [.ref (gW G 7), .int (284)] h5 (KI Q (fun x10 h8 => (hc h8 + 1 ≤ MC) ∧ (hs h8 + 3 ≤ MS) ∧ ∀ q11, hK h8 q11 = 0 → ∀ h13, h13 = nO h8 q11 28 → ((¬ (1 : Int32) < 0) ∧ (hc h13 + 1 ≤ MC) ∧ (hs h13 + (1 : Int32).toNatClampNeg ≤ MS) ∧ ∀ q16, hK h13 q16 = 0 → ∀ h18, h18 = nA h13 q16 8 (1 : Int32).toNatClampNeg → (Ns (gW G) q16 ∧ vp_in 0 (hL h18 q16) ∧ AOK G h18 b7 8 "LetMill$Pat" ∧ ∀ h23, h23 = sR h18 q16 (0 : Int32).toNatClampNeg (some b7) → (C G mX12_exp d [.ref (gW G 7)] h23 (KR Q (fun b28 h26 => C G mX31_init d [.ref (q11), .int (x3), .ref (q16), .ref (b28)] h26 (KV Q (fun h29 => C G mX7_add d [.ref (l1), .ref (q11)] h29 (KV Q (fun h31 => C G mX12_skip d [.ref (gW G 7), .int (124)] h31 (KI Q (fun x35 h33 => (x35 = 0 → (Q (.returned (some (.ref (l1)))) h33)) ∧ (¬ x35 = 0 → (X G mX12_match (d + 1) none [] 8 [(0, .ref (gW G 7)), (1, .ref (l1))] [] h33 Q))))))))))))))))))))))) : X G mX12_match (d + 1) none [] 8 [(0, .ref (gW G 7)), (1, .ref (l1))] [] h Q := by
  refine x_aload_n (pc' := 9) 1 (dX12_match 4 rfl rfl) rfl rfl rfl ?_
  obtain ⟨k1, hf⟩ := hf
  refine x_getI (pc' := 12) (dX12_match 5 rfl rfl) g78 q578 (Or.inl rfl) rfl (hf_of 5 k1 rfl (by decide) m5_78) ?_
  refine x_bipush (pc' := 14) (v := 8) (dX12_match 6 rfl rfl) (by decide) rfl ?_
  refine x_icmp_ne (pc' := 17) (tgt := 32) (dX12_match 7 rfl rfl) (by decide) rfl (fun c2 => ?_) (fun c2 => ?_)
  · replace hf := hf.2 c2
    refine x_aload_n (pc' := 33) 0 (dX12_match 17 rfl rfl) rfl rfl rfl ?_
    refine x_getI (pc' := 36) (dX12_match 18 rfl rfl) g115 q859 (Or.inl rfl) rfl (hf_of 10 s7.1 rfl (by decide) m10_115) ?_
    replace hf := hf _ rfl
    refine x_istore_n (pc' := 37) (dX12_match 19 rfl rfl) rfl (by decide) rfl rfl ?_
    refine x_aload_n (pc' := 38) 1 (dX12_match 20 rfl rfl) rfl rfl rfl ?_
    refine x_iconst (pc' := 39) (v := 0) (dX12_match 21 rfl rfl) (by decide) rfl ?_
    refine x_putI (pc' := 42) (dX12_match 22 rfl rfl) g118 q862 (Or.inl rfl) (Or.inl rfl) (Or.inl (by decide)) rfl (hf_of 10 s7.1 rfl (by decide) m10_118) (fun h4 e38 => ?_)
    replace hf := hf h4 e38
    replace k1 : hK h4 l1 = 6 := by rw [e38]; exact k1
    replace s7 : So 7 (gW G) h4 := by rw [e38]; exact s7.le sc7 (pI_le (Or.inl rfl))
    refine x_aload_n (pc' := 43) 1 (dX12_match 23 rfl rfl) rfl rfl rfl ?_
    refine x_inv (pc' := 46) (ν := mX12_pat) (av := [_]) (st := []) rfl rfl (dX12_match 24 rfl rfl) (Nat.le_of_ble_eq_true rfl) wX12_pat q226 (inv_V (k := 10) (dX12_match 24 rfl rfl) q1320 q1322 qs16 wX12_pat (by decide) lX12_pat (by decide) s7.1) (exN (by decide)) rfl ?_
    refine C.mono hf (fun _ _ => KR.g (fun b7 h5 hf le6 => ?_))
    have k1 := leK le6 k1 (by decide)
    replace s7 := s7.le sc7 (le6)
    refine x_astore_n (pc' := 47) (dX12_match 25 rfl rfl) rfl (by decide) rfl rfl ?_
    refine x_aload_n (pc' := 48) 2 (dX12_match 26 rfl rfl) rfl rfl rfl ?_
    refine x_sipush (pc' := 51) (v := 284) (dX12_match 27 rfl rfl) (by decide) rfl ?_
    refine x_inv (pc' := 54) (ν := mX12_expect) (av := [_, _]) (st := []) rfl rfl (dX12_match 28 rfl rfl) (Nat.le_of_ble_eq_true rfl) wX12_expect q226 (inv_V (k := 10) (dX12_match 28 rfl rfl) q1471 q1473 qs21 wX12_expect (by decide) lX12_expect (by decide) s7.1) (exN (by decide)) rfl ?_
    refine C.mono hf (fun _ _ => KI.g (fun x10 h8 hf le9 => ?_))
    have k1 := leK le9 k1 (by decide)
    replace s7 := s7.le sc7 (le9)
    refine x_istore (pc' := 56) (dX12_match 29 rfl rfl) (by decide) rfl rfl ?_
    refine x_aload_n (pc' := 57) 4 (dX12_match 30 rfl rfl) rfl rfl rfl ?_
    obtain ⟨n1, n2, hf⟩ := hf
    refine x_new (pc' := 60) (k := 28) (dX12_match 31 rfl rfl) q1485 (by decide) rfl (by decide) n1 n2 (fun q11 h13 k12 e14 => ?_)
    replace hf := hf q11 k12 h13 e14
    replace k1 : hK h13 l1 = 6 := by rw [e14]; exact kNO k1 (by decide) k12
    replace s7 : So 7 (gW G) h13 := by rw [e14]; exact s7.le sc7 (nO_le k12)
    have k15 : hK h13 q11 = 29 := by rw [e14]; exact kNOs
    refine x_dup (pc' := 61) (dX12_match 32 rfl rfl) rfl rfl ?_
    refine x_iload_n (pc' := 62) 2 (dX12_match 33 rfl rfl) rfl rfl rfl ?_
    refine x_iconst (pc' := 63) (v := 1) (dX12_match 34 rfl rfl) (by decide) rfl ?_
    obtain ⟨z20, n1, n2, hf⟩ := hf
    refine x_newq (pc' := 66) (t := 8) (E := "LetMill$Pat") (dX12_match 35 rfl rfl) q1407 (by decide) (by decide) rfl rfl z20 (by decide) n1 n2 (fun q16 h18 k17 e19 => ?_)
    replace hf := hf q16 k17 h18 e19
    replace k1 : hK h18 l1 = 6 := by rw [e19]; exact kNA k1 (by decide) k17
    replace k15 : hK h18 q11 = 29 := by rw [e19]; exact kNA k15 (by decide) k17
    replace s7 : So 7 (gW G) h18 := by rw [e19]; exact s7.le sc7 (nA_le k17)
    have k21 : hK h18 q16 = 1008 := by rw [e19]; exact kNAs
    refine x_dup (pc' := 67) (dX12_match 36 rfl rfl) rfl rfl ?_
    refine x_iconst (pc' := 68) (v := 0) (dX12_match 37 rfl rfl) (by decide) rfl ?_
    refine x_aload_n (pc' := 69) 1 (dX12_match 38 rfl rfl) rfl rfl rfl ?_
    obtain ⟨n25, hf⟩ := hf
    obtain ⟨i22, hf⟩ := hf
    obtain ⟨o37, hf⟩ := hf
    refine x_aast (pc' := 70) (t := 8) (E := "LetMill$Pat") (dX12_match 39 rfl rfl) rfl (by decide) rfl (by decide) k21 (Or.inr ⟨n25, by decide⟩) i22 o37 (fun h23 e24 => ?_)
    replace hf := hf h23 e24
    replace k1 : hK h23 l1 = 6 := by rw [e24]; exact k1
    replace k15 : hK h23 q11 = 29 := by rw [e24]; exact k15
    replace k21 : hK h23 q16 = 1008 := by rw [e24]; exact k21
    replace s7 : So 7 (gW G) h23 := by rw [e24]; exact s7.le sc7 (sR_le )
    refine x_aload_n (pc' := 71) 3 (dX12_match 40 rfl rfl) rfl rfl rfl ?_
    refine x_inv (pc' := 74) (ν := mX12_exp) (av := [_]) (st := [_, _, _, _, _]) rfl rfl (dX12_match 41 rfl rfl) (Nat.le_of_ble_eq_true rfl) wX12_exp q226 (inv_V (k := 10) (dX12_match 41 rfl rfl) q1477 q1479 qs22 wX12_exp (by decide) lX12_exp (by decide) s7.1) (exN (by decide)) rfl ?_
    refine C.mono hf (fun _ _ => KR.g (fun b28 h26 hf le27 => ?_))
    have k1 := leK le27 k1 (by decide)
    have k15 := leK le27 k15 (by decide)
    have k21 := leK le27 k21 (by decide)
    replace s7 := s7.le sc7 (le27)
    refine x_inv (pc' := 77) (ν := mX31_init) (av := [_, _, _, _]) (st := [_, _]) rfl rfl (dX12_match 42 rfl rfl) (Nat.le_of_ble_eq_true rfl) wX31_init q252 (inv_I (dX12_match 42 rfl rfl) q1487 q1488 q1489 rfl (by decide) lX31_init) (fun b hb => by exact Or.inl (by have e : some _ = some b := hb; cases e; simp)) rfl ?_
    refine C.mono hf (fun _ _ => KV.g (fun h29 hf le30 => ?_))
    replace s7 := s7.leX sc7 le30 k15 (by decide)
    have k1 := leK le30 k1 (by decide)
    have k15 := leK le30 k15 (by decide)
    have k21 := leK le30 k21 (by decide)
    refine x_inv (pc' := 80) (ν := mX7_add) (av := [_, _]) (st := []) rfl rfl (dX12_match 43 rfl rfl) (Nat.le_of_ble_eq_true rfl) wX7_add q221 (inv_V (k := 5) (dX12_match 43 rfl rfl) q1401 q590 q591 wX7_add (by decide) lX7_add (by decide) k1) (exN (by decide)) rfl ?_
    refine C.mono hf (fun _ _ => KV.g (fun h31 hf le32 => ?_))
    have k1 := leK le32 k1 (by decide)
    have k15 := leK le32 k15 (by decide)
    have k21 := leK le32 k21 (by decide)
    replace s7 := s7.le sc7 (le32)
    refine x_aload_n (pc' := 81) 3 (dX12_match 44 rfl rfl) rfl rfl rfl ?_
    refine x_bipush (pc' := 83) (v := 124) (dX12_match 45 rfl rfl) (by decide) rfl ?_
    refine x_inv (pc' := 86) (ν := mX12_skip) (av := [_, _]) (st := []) rfl rfl (dX12_match 46 rfl rfl) (Nat.le_of_ble_eq_true rfl) wX12_skip q226 (inv_V (k := 10) (dX12_match 46 rfl rfl) q1511 q1513 qs24 wX12_skip (by decide) lX12_skip (by decide) s7.1) (exN (by decide)) rfl ?_
    refine C.mono hf (fun _ _ => KI.g (fun x35 h33 hf le34 => ?_))
    have k1 := leK le34 k1 (by decide)
    have k15 := leK le34 k15 (by decide)
    have k21 := leK le34 k21 (by decide)
    replace s7 := s7.le sc7 (le34)
    refine x_if_ne (pc' := 89) (tgt := 8) (dX12_match 47 rfl rfl) (by decide) rfl (fun c36 => ?_) (fun c36 => ?_)
    · replace hf := hf.2 c36
      exact X.sub [3, 4] rfl (by simp) hf
    · replace hf := hf.1 (Classical.not_not.mp c36)
      replace c36 := Classical.not_not.mp c36
      refine x_aload_n (pc' := 90) 4 (dX12_match 48 rfl rfl) rfl rfl rfl ?_
      exact x_aret (dX12_match 49 rfl rfl) rfl (Or.inl ⟨_, rfl⟩) (Or.inr ⟨_, rfl⟩) hf
  · replace hf := hf.1 (Classical.not_not.mp c2)
    replace c2 := Classical.not_not.mp c2
    refine x_aload_n (pc' := 18) 0 (dX12_match 8 rfl rfl) rfl rfl rfl ?_
    refine x_dup (pc' := 19) (dX12_match 9 rfl rfl) rfl rfl ?_
    refine x_getI (pc' := 22) (dX12_match 10 rfl rfl) g115 q859 (Or.inl rfl) rfl (hf_of 10 s7.1 rfl (by decide) m10_115) ?_
    refine x_iconst (pc' := 23) (v := 1) (dX12_match 11 rfl rfl) (by decide) rfl ?_
    refine x_isub (pc' := 24) (dX12_match 12 rfl rfl) rfl ?_
    refine x_putI (pc' := 27) (dX12_match 13 rfl rfl) g115 q859 (Or.inl rfl) (Or.inl rfl) (Or.inl (by decide)) rfl (hf_of 10 s7.1 rfl (by decide) m10_115) (fun h39 e43 => ?_)
    replace hf := hf h39 e43
    replace k1 : hK h39 l1 = 6 := by rw [e43]; exact k1
    replace s7 : So 7 (gW G) h39 := by rw [e43]; exact s7.le sc7 (pI_le (Or.inl rfl))
    refine x_aload_n (pc' := 28) 0 (dX12_match 14 rfl rfl) rfl rfl rfl ?_
    refine x_inv (pc' := 31) (ν := mX12_wrong) (av := [_]) (st := []) rfl rfl (dX12_match 15 rfl rfl) (Nat.le_of_ble_eq_true rfl) wX12_wrong q226 (inv_V (k := 10) (dX12_match 15 rfl rfl) q1289 q1291 qs14 wX12_wrong (by decide) lX12_wrong (by decide) s7.1) (exN (by decide)) rfl ?_
    refine C.mono hf (fun _ _ => KR.g (fun b42 h40 hf le41 => ?_))
    have k1 := leK le41 k1 (by decide)
    replace s7 := s7.le sc7 (le41)
    exact x_athrow (dX12_match 16 rfl rfl) rfl hf
theorem bX12_skip (G : Gh) (d : Nat) (h : AH) (Q : Outcome → AH → Prop) (p1 : Int32) (s7 : So 7 (gW G) h) (hf : C G mX12_kind d [.ref (gW G 7)] h (KI Q (fun x3 h1 => (x3 = p1 → (C G mX12_take d [.ref (gW G 7)] h1 (KI Q (fun x7 h5 => Q (.returned (some (.int 1))) h5)))) ∧ (¬ x3 = p1 → (Q (.returned (some (.int 0))) h1))))) : C G mX12_skip (d + 1) [.ref (gW G 7), .int (p1)] h Q := by
  refine C.of_X (by decide +kernel) (Nat.le_of_ble_eq_true rfl) wX12_skip ?_
  show X G mX12_skip (d + 1) none [] 0 [(0, .ref (gW G 7)), (1, .int (p1))] [] h Q
  refine x_aload_n (pc' := 1) 0 (dX12_skip 0 rfl rfl) rfl rfl rfl ?_
  refine x_inv (pc' := 4) (ν := mX12_kind) (av := [_]) (st := []) rfl rfl (dX12_skip 1 rfl rfl) (Nat.le_of_ble_eq_true rfl) wX12_kind q226 (inv_V (k := 10) (dX12_skip 1 rfl rfl) q1281 q1283 qs12 wX12_kind (by decide) lX12_kind (by decide) s7.1) (exN (by decide)) rfl ?_
  refine C.mono hf (fun _ _ => KI.g (fun x3 h1 hf le2 => ?_))
  replace s7 := s7.le sc7 (le2)
  refine x_iload_n (pc' := 5) 1 (dX12_skip 2 rfl rfl) rfl rfl rfl ?_
  refine x_icmp_eq (pc' := 8) (tgt := 10) (dX12_skip 3 rfl rfl) (by decide) rfl (fun c4 => ?_) (fun c4 => ?_)
  · replace hf := hf.1 c4
    refine x_aload_n (pc' := 11) 0 (dX12_skip 6 rfl rfl) rfl rfl rfl ?_
    refine x_inv (pc' := 14) (ν := mX12_take) (av := [_]) (st := []) rfl rfl (dX12_skip 7 rfl rfl) (Nat.le_of_ble_eq_true rfl) wX12_take q226 (inv_V (k := 10) (dX12_skip 7 rfl rfl) q1316 q1318 qs15 wX12_take (by decide) lX12_take (by decide) s7.1) (exN (by decide)) rfl ?_
    refine C.mono hf (fun _ _ => KI.g (fun x7 h5 hf le6 => ?_))
    replace s7 := s7.le sc7 (le6)
    refine x_istore_n (pc' := 15) (dX12_skip 8 rfl rfl) rfl (by decide) rfl rfl ?_
    refine x_iconst (pc' := 16) (v := 1) (dX12_skip 9 rfl rfl) (by decide) rfl ?_
    exact x_zret (ty := .boolean) (dX12_skip 10 rfl rfl) rfl (by decide) hf
  · replace hf := hf.2 c4
    refine x_iconst (pc' := 9) (v := 0) (dX12_skip 4 rfl rfl) (by decide) rfl ?_
    exact x_zret (ty := .boolean) (dX12_skip 5 rfl rfl) rfl (by decide) hf
theorem bX12_level (G : Gh) (d : Nat) (h : AH) (Q : Outcome → AH → Prop) (p1 : Int32) (s1 : So 1 (gW G) h) (s7 : So 7 (gW G) h) (hf : (p1 = 8 → (C G mX12_application d [.ref (gW G 7)] h (KR Q (fun b56 h54 => Q (.returned (some (.ref (b56)))) h54)))) ∧ (¬ p1 = 8 → (∀ x2 : Int32, x2 = fI h (gW G 7) 115 → (C G mX12_level d [.ref (gW G 7), .int (p1 + 1)] h (KR Q (fun b5 h3 => (p1 = 5 → (C G mX12_kind d [.ref (gW G 7)] h3 (KI Q (fun x30 h28 => C G mX12_levelOf d [.int (x30)] h28 (KI Q (fun x33 h31 => (x33 = 5 → (C G mX12_take d [.ref (gW G 7)] h31 (KI Q (fun x37 h35 => vp_in x37 4098 ∧ (∀ x39 : Int32, x39 = aI h35 (gW G 1024) x37.toNatClampNeg → (∀ h40, h40 = pI h35 (gW G 7) 116 ((fI h35 (gW G 7) 116) + 1) → (C G mX12_level d [.ref (gW G 7), .int (5)] h40 (KR Q (fun b43 h41 => ∀ h44, h44 = pI h41 (gW G 7) 116 ((fI h41 (gW G 7) 116) - 1) → ((hc h44 + 1 ≤ MC) ∧ (hs h44 + 5 ≤ MS) ∧ ∀ q45, hK h44 q45 = 0 → ∀ h47, h47 = nO h44 q45 41 → (C G mX45_init d [.ref (q45), .int (x2), .int (x39), .ref (b5), .ref (b43)] h47 (KV Q (fun h50 => Q (.returned (some (.ref (q45)))) h50))))))))))))) ∧ (¬ x33 = 5 → (Q (.returned (some (.ref (b5)))) h31)))))))) ∧ (¬ p1 = 5 → (C G mX12_kind d [.ref (gW G 7)] h3 (KI Q (fun x9 h7 => C G mX12_levelOf d [.int (x9)] h7 (KI Q (fun x12 h10 => (x12 = p1 → ((hc h10 + 1 ≤ MC) ∧ (hs h10 + 2 ≤ MS) ∧ ∀ q14, hK h10 q14 = 0 → ∀ h16, h16 = nO h10 q14 5 → (C G mX7_init d [.ref (q14)] h16 (KV Q (fun h19 => (hc h19 + 1 ≤ MC) ∧ (hs h19 + 2 ≤ MS) ∧ ∀ q21, hK h19 q21 = 0 → ∀ h23, h23 = nO h19 q21 42 → (C G mX46_init d [.ref (q21)] h23 (KV Q (fun h26 => X G mX12_level (d + 1) none [] 128 [(0, .ref (gW G 7)), (1, .int (p1)), (2, .int (x2)), (3, .ref (b5)), (4, .ref (q14)), (5, .ref (q21))] [] h26 Q)))))))) ∧ (¬ x12 = p1 → (Q (.returned (some (.ref (b5)))) h10)))))))))))))) : C G mX12_level (d + 1) [.ref (gW G 7), .int (p1)] h Q := by
  refine C.of_X (by decide +kernel) (Nat.le_of_ble_eq_true rfl) wX12_level ?_
  show X G mX12_level (d + 1) none [] 0 [(0, .ref (gW G 7)), (1, .int (p1))] [] h Q
  refine x_iload_n (pc' := 1) 1 (dX12_level 0 rfl rfl) rfl rfl rfl ?_
  refine x_bipush (pc' := 3) (v := 8) (dX12_level 1 rfl rfl) (by decide) rfl ?_
  refine x_icmp_ne (pc' := 6) (tgt := 11) (dX12_level 2 rfl rfl) (by decide) rfl (fun c1 => ?_) (fun c1 => ?_)
  · replace hf := hf.2 c1
    refine x_aload_n (pc' := 12) 0 (dX12_level 6 rfl rfl) rfl rfl rfl ?_
    refine x_getI (pc' := 15) (dX12_level 7 rfl rfl) g115 q859 (Or.inl rfl) rfl (hf_of 10 s7.1 rfl (by decide) m10_115) ?_
    replace hf := hf _ rfl
    refine x_istore_n (pc' := 16) (dX12_level 8 rfl rfl) rfl (by decide) rfl rfl ?_
    refine x_aload_n (pc' := 17) 1 (dX12_level 9 rfl rfl) rfl rfl rfl ?_
    refine x_iload_n (pc' := 18) 2 (dX12_level 10 rfl rfl) rfl rfl rfl ?_
    refine x_iconst (pc' := 19) (v := 1) (dX12_level 11 rfl rfl) (by decide) rfl ?_
    refine x_iadd (pc' := 20) (dX12_level 12 rfl rfl) rfl ?_
    refine x_inv (pc' := 23) (ν := mX12_level) (av := [_, _]) (st := []) rfl rfl (dX12_level 13 rfl rfl) (Nat.le_of_ble_eq_true rfl) wX12_level q226 (inv_V (k := 10) (dX12_level 13 rfl rfl) q1589 q1591 qs25 wX12_level (by decide) lX12_level (by decide) s7.1) (exN (by decide)) rfl ?_
    refine C.mono hf (fun _ _ => KR.g (fun b5 h3 hf le4 => ?_))
    replace s1 := s1.le sc1 (le4)
    replace s7 := s7.le sc7 (le4)
    refine x_astore_n (pc' := 24) (dX12_level 14 rfl rfl) rfl (by decide) rfl rfl ?_
    refine x_iload_n (pc' := 25) 3 (dX12_level 15 rfl rfl) rfl rfl rfl ?_
    refine x_iconst (pc' := 26) (v := 5) (dX12_level 16 rfl rfl) (by decide) rfl ?_
    refine x_icmp_ne (pc' := 29) (tgt := 97) (dX12_level 17 rfl rfl) (by decide) rfl (fun c6 => ?_) (fun c6 => ?_)
    · replace hf := hf.2 c6
      refine x_aload_n (pc' := 98) 2 (dX12_level 56 rfl rfl) rfl rfl rfl ?_
      refine x_inv (pc' := 101) (ν := mX12_kind) (av := [_]) (st := []) rfl rfl (dX12_level 57 rfl rfl) (Nat.le_of_ble_eq_true rfl) wX12_kind q226 (inv_V (k := 10) (dX12_level 57 rfl rfl) q1281 q1283 qs12 wX12_kind (by decide) lX12_kind (by decide) s7.1) (exN (by decide)) rfl ?_
      refine C.mono hf (fun _ _ => KI.g (fun x9 h7 hf le8 => ?_))
      replace s1 := s1.le sc1 (le8)
      replace s7 := s7.le sc7 (le8)
      refine x_inv (pc' := 104) (ν := mX12_levelOf) (av := [_]) (st := []) rfl rfl (dX12_level 58 rfl rfl) (Nat.le_of_ble_eq_true rfl) wX12_levelOf q226 (inv_S (dX12_level 58 rfl rfl) q1760 q1761 q226 wX12_levelOf (by decide) lX12_levelOf) (exN (by decide)) rfl ?_
      refine C.mono hf (fun _ _ => KI.g (fun x12 h10 hf le11 => ?_))
      replace s1 := s1.le sc1 (le11)
      replace s7 := s7.le sc7 (le11)
      refine x_iload_n (pc' := 105) 3 (dX12_level 59 rfl rfl) rfl rfl rfl ?_
      refine x_icmp_eq (pc' := 108) (tgt := 110) (dX12_level 60 rfl rfl) (by decide) rfl (fun c13 => ?_) (fun c13 => ?_)
      · replace hf := hf.1 c13
        obtain ⟨n1, n2, hf⟩ := hf
        refine x_new (pc' := 113) (k := 5) (dX12_level 63 rfl rfl) q1275 (by decide) rfl (by decide) n1 n2 (fun q14 h16 k15 e17 => ?_)
        replace hf := hf q14 k15 h16 e17
        replace s1 : So 1 (gW G) h16 := by rw [e17]; exact s1.le sc1 (nO_le k15)
        replace s7 : So 7 (gW G) h16 := by rw [e17]; exact s7.le sc7 (nO_le k15)
        have k18 : hK h16 q14 = 6 := by rw [e17]; exact kNOs
        refine x_dup (pc' := 114) (dX12_level 64 rfl rfl) rfl rfl ?_
        refine x_inv (pc' := 117) (ν := mX7_init) (av := [_]) (st := [_]) rfl rfl (dX12_level 65 rfl rfl) (Nat.le_of_ble_eq_true rfl) wX7_init q221 (inv_N (host := "LetMill") (dX12_level 65 rfl rfl) (by decide) q560 q561 rfl (by decide) lX7_init) (fun b hb => by exact Or.inl (by have e : some _ = some b := hb; cases e; simp)) rfl ?_
        refine C.mono hf (fun _ _ => KV.g (fun h19 hf le20 => ?_))
        replace s1 := s1.leX sc1 le20 k18 (by decide)
        replace s7 := s7.leX sc7 le20 k18 (by decide)
        have k18 := leK le20 k18 (by decide)
        refine x_astore (pc' := 119) (dX12_level 66 rfl rfl) (by decide) rfl rfl ?_
        obtain ⟨n1, n2, hf⟩ := hf
        refine x_new (pc' := 122) (k := 42) (dX12_level 67 rfl rfl) q1781 (by decide) rfl (by decide) n1 n2 (fun q21 h23 k22 e24 => ?_)
        replace hf := hf q21 k22 h23 e24
        replace k18 : hK h23 q14 = 6 := by rw [e24]; exact kNO k18 (by decide) k22
        replace s1 : So 1 (gW G) h23 := by rw [e24]; exact s1.le sc1 (nO_le k22)
        replace s7 : So 7 (gW G) h23 := by rw [e24]; exact s7.le sc7 (nO_le k22)
        have k25 : hK h23 q21 = 43 := by rw [e24]; exact kNOs
        refine x_dup (pc' := 123) (dX12_level 68 rfl rfl) rfl rfl ?_
        refine x_inv (pc' := 126) (ν := mX46_init) (av := [_]) (st := [_]) rfl rfl (dX12_level 69 rfl rfl) (Nat.le_of_ble_eq_true rfl) wX46_init q267 (inv_N (host := "LetMill") (dX12_level 69 rfl rfl) (by decide) q1784 q1785 rfl (by decide) lX46_init) (fun b hb => by exact Or.inl (by have e : some _ = some b := hb; cases e; simp)) rfl ?_
        refine C.mono hf (fun _ _ => KV.g (fun h26 hf le27 => ?_))
        replace s1 := s1.leX sc1 le27 k25 (by decide)
        replace s7 := s7.leX sc7 le27 k25 (by decide)
        have k18 := leK le27 k18 (by decide)
        have k25 := leK le27 k25 (by decide)
        refine x_astore (pc' := 128) (dX12_level 70 rfl rfl) (by decide) rfl rfl ?_
        exact X.sub [4, 5, 3, 2, 1, 0] rfl (by simp) hf
      · replace hf := hf.2 c13
        refine x_aload_n (pc' := 109) 0 (dX12_level 61 rfl rfl) rfl rfl rfl ?_
        exact x_aret (dX12_level 62 rfl rfl) rfl (Or.inl ⟨_, rfl⟩) (Or.inr ⟨_, rfl⟩) hf
    · replace hf := hf.1 (Classical.not_not.mp c6)
      replace c6 := Classical.not_not.mp c6
      refine x_aload_n (pc' := 30) 2 (dX12_level 18 rfl rfl) rfl rfl rfl ?_
      refine x_inv (pc' := 33) (ν := mX12_kind) (av := [_]) (st := []) rfl rfl (dX12_level 19 rfl rfl) (Nat.le_of_ble_eq_true rfl) wX12_kind q226 (inv_V (k := 10) (dX12_level 19 rfl rfl) q1281 q1283 qs12 wX12_kind (by decide) lX12_kind (by decide) s7.1) (exN (by decide)) rfl ?_
      refine C.mono hf (fun _ _ => KI.g (fun x30 h28 hf le29 => ?_))
      replace s1 := s1.le sc1 (le29)
      replace s7 := s7.le sc7 (le29)
      refine x_inv (pc' := 36) (ν := mX12_levelOf) (av := [_]) (st := []) rfl rfl (dX12_level 20 rfl rfl) (Nat.le_of_ble_eq_true rfl) wX12_levelOf q226 (inv_S (dX12_level 20 rfl rfl) q1760 q1761 q226 wX12_levelOf (by decide) lX12_levelOf) (exN (by decide)) rfl ?_
      refine C.mono hf (fun _ _ => KI.g (fun x33 h31 hf le32 => ?_))
      replace s1 := s1.le sc1 (le32)
      replace s7 := s7.le sc7 (le32)
      refine x_iconst (pc' := 37) (v := 5) (dX12_level 21 rfl rfl) (by decide) rfl ?_
      refine x_icmp_eq (pc' := 40) (tgt := 42) (dX12_level 22 rfl rfl) (by decide) rfl (fun c34 => ?_) (fun c34 => ?_)
      · replace hf := hf.1 c34
        refine x_aload_n (pc' := 43) 2 (dX12_level 25 rfl rfl) rfl rfl rfl ?_
        refine x_getR (pc' := 46) (dX12_level 26 rfl rfl) g114 q858 (Or.inl rfl) rfl (hf_of 10 s7.1 rfl (by decide) m10_114) (s7.2 0 _ rfl rfl).1 ?_
        refine x_getR (pc' := 49) (dX12_level 27 rfl rfl) g24 q323 (Or.inl rfl) rfl (hf_of 1 s1.1 rfl (by decide) m1_24) (s1.2 2 _ rfl rfl).1 ?_
        refine x_aload_n (pc' := 50) 2 (dX12_level 28 rfl rfl) rfl rfl rfl ?_
        refine x_inv (pc' := 53) (ν := mX12_take) (av := [_]) (st := [_]) rfl rfl (dX12_level 29 rfl rfl) (Nat.le_of_ble_eq_true rfl) wX12_take q226 (inv_V (k := 10) (dX12_level 29 rfl rfl) q1316 q1318 qs15 wX12_take (by decide) lX12_take (by decide) s7.1) (exN (by decide)) rfl ?_
        refine C.mono hf (fun _ _ => KI.g (fun x37 h35 hf le36 => ?_))
        replace s1 := s1.le sc1 (le36)
        replace s7 := s7.le sc7 (le36)
        obtain ⟨i38, hf⟩ := hf
        refine x_iald (pc' := 54) (dX12_level 30 rfl rfl) rfl (s1.2 2 _ rfl rfl).2.1 (by rw [(s1.2 2 _ rfl rfl).2.2.2 (by decide)]; exact i38) ?_
        replace hf := hf _ rfl
        refine x_istore (pc' := 56) (dX12_level 31 rfl rfl) (by decide) rfl rfl ?_
        refine x_aload_n (pc' := 57) 3 (dX12_level 32 rfl rfl) rfl rfl rfl ?_
        refine x_dup (pc' := 58) (dX12_level 33 rfl rfl) rfl rfl ?_
        refine x_getI (pc' := 61) (dX12_level 34 rfl rfl) g116 q860 (Or.inl rfl) rfl (hf_of 10 s7.1 rfl (by decide) m10_116) ?_
        refine x_iconst (pc' := 62) (v := 1) (dX12_level 35 rfl rfl) (by decide) rfl ?_
        refine x_iadd (pc' := 63) (dX12_level 36 rfl rfl) rfl ?_
        refine x_putI (pc' := 66) (dX12_level 37 rfl rfl) g116 q860 (Or.inl rfl) (Or.inl rfl) (Or.inl (by decide)) rfl (hf_of 10 s7.1 rfl (by decide) m10_116) (fun h40 e53 => ?_)
        replace hf := hf h40 e53
        replace s1 : So 1 (gW G) h40 := by rw [e53]; exact s1.le sc1 (pI_le (Or.inl rfl))
        replace s7 : So 7 (gW G) h40 := by rw [e53]; exact s7.le sc7 (pI_le (Or.inl rfl))
        refine x_aload_n (pc' := 67) 3 (dX12_level 38 rfl rfl) rfl rfl rfl ?_
        refine x_iconst (pc' := 68) (v := 5) (dX12_level 39 rfl rfl) (by decide) rfl ?_
        refine x_inv (pc' := 71) (ν := mX12_level) (av := [_, _]) (st := []) rfl rfl (dX12_level 40 rfl rfl) (Nat.le_of_ble_eq_true rfl) wX12_level q226 (inv_V (k := 10) (dX12_level 40 rfl rfl) q1589 q1591 qs25 wX12_level (by decide) lX12_level (by decide) s7.1) (exN (by decide)) rfl ?_
        refine C.mono hf (fun _ _ => KR.g (fun b43 h41 hf le42 => ?_))
        replace s1 := s1.le sc1 (le42)
        replace s7 := s7.le sc7 (le42)
        refine x_astore (pc' := 73) (dX12_level 41 rfl rfl) (by decide) rfl rfl ?_
        refine x_aload_n (pc' := 74) 4 (dX12_level 42 rfl rfl) rfl rfl rfl ?_
        refine x_dup (pc' := 75) (dX12_level 43 rfl rfl) rfl rfl ?_
        refine x_getI (pc' := 78) (dX12_level 44 rfl rfl) g116 q860 (Or.inl rfl) rfl (hf_of 10 s7.1 rfl (by decide) m10_116) ?_
        refine x_iconst (pc' := 79) (v := 1) (dX12_level 45 rfl rfl) (by decide) rfl ?_
        refine x_isub (pc' := 80) (dX12_level 46 rfl rfl) rfl ?_
        refine x_putI (pc' := 83) (dX12_level 47 rfl rfl) g116 q860 (Or.inl rfl) (Or.inl rfl) (Or.inl (by decide)) rfl (hf_of 10 s7.1 rfl (by decide) m10_116) (fun h44 e52 => ?_)
        replace hf := hf h44 e52
        replace s1 : So 1 (gW G) h44 := by rw [e52]; exact s1.le sc1 (pI_le (Or.inl rfl))
        replace s7 : So 7 (gW G) h44 := by rw [e52]; exact s7.le sc7 (pI_le (Or.inl rfl))
        obtain ⟨n1, n2, hf⟩ := hf
        refine x_new (pc' := 86) (k := 41) (dX12_level 48 rfl rfl) q1763 (by decide) rfl (by decide) n1 n2 (fun q45 h47 k46 e48 => ?_)
        replace hf := hf q45 k46 h47 e48
        replace s1 : So 1 (gW G) h47 := by rw [e48]; exact s1.le sc1 (nO_le k46)
        replace s7 : So 7 (gW G) h47 := by rw [e48]; exact s7.le sc7 (nO_le k46)
        have k49 : hK h47 q45 = 42 := by rw [e48]; exact kNOs
        refine x_dup (pc' := 87) (dX12_level 49 rfl rfl) rfl rfl ?_
        refine x_iload_n (pc' := 88) 3 (dX12_level 50 rfl rfl) rfl rfl rfl ?_
        refine x_iload (pc' := 90) 1 (dX12_level 51 rfl rfl) rfl rfl ?_
        refine x_aload_n (pc' := 91) 2 (dX12_level 52 rfl rfl) rfl rfl rfl ?_
        refine x_aload (pc' := 93) 0 (dX12_level 53 rfl rfl) rfl rfl ?_
        refine x_inv (pc' := 96) (ν := mX45_init) (av := [_, _, _, _, _]) (st := [_]) rfl rfl (dX12_level 54 rfl rfl) (Nat.le_of_ble_eq_true rfl) wX45_init q266 (inv_I (dX12_level 54 rfl rfl) q1765 q1766 q1767 rfl (by decide) lX45_init) (fun b hb => by exact Or.inl (by have e : some _ = some b := hb; cases e; simp)) rfl ?_
        refine C.mono hf (fun _ _ => KV.g (fun h50 hf le51 => ?_))
        replace s1 := s1.leX sc1 le51 k49 (by decide)
        replace s7 := s7.leX sc7 le51 k49 (by decide)
        have k49 := leK le51 k49 (by decide)
        exact x_aret (dX12_level 55 rfl rfl) rfl (Or.inl ⟨_, rfl⟩) (Or.inr ⟨_, rfl⟩) hf
      · replace hf := hf.2 c34
        refine x_aload_n (pc' := 41) 0 (dX12_level 23 rfl rfl) rfl rfl rfl ?_
        exact x_aret (dX12_level 24 rfl rfl) rfl (Or.inl ⟨_, rfl⟩) (Or.inr ⟨_, rfl⟩) hf
  · replace hf := hf.1 (Classical.not_not.mp c1)
    replace c1 := Classical.not_not.mp c1
    refine x_aload_n (pc' := 7) 0 (dX12_level 3 rfl rfl) rfl rfl rfl ?_
    refine x_inv (pc' := 10) (ν := mX12_application) (av := [_]) (st := []) rfl rfl (dX12_level 4 rfl rfl) (Nat.le_of_ble_eq_true rfl) wX12_application q226 (inv_V (k := 10) (dX12_level 4 rfl rfl) q1593 q1595 qs26 wX12_application (by decide) lX12_application (by decide) s7.1) (exN (by decide)) rfl ?_
    refine C.mono hf (fun _ _ => KR.g (fun b56 h54 hf le55 => ?_))
    replace s1 := s1.le sc1 (le55)
    replace s7 := s7.le sc7 (le55)
    exact x_aret (dX12_level 5 rfl rfl) rfl (Or.inl ⟨_, rfl⟩) (Or.inr ⟨_, rfl⟩) hf
theorem bX12_level_128 (G : Gh) (d : Nat) (h : AH) (Q : Outcome → AH → Prop) (l1 : Int32) (l2 : Int32) (l3 : Nat) (l4 : Nat) (l5 : Nat) (s1 : So 1 (gW G) h) (s7 : So 7 (gW G) h) (hf : C G mX12_kind d [.ref (gW G 7)] h (KI Q (fun x3 h1 => C G mX12_levelOf d [.int (x3)] h1 (KI Q (fun x6 h4 => (x6 = l1 → (C G mX12_take d [.ref (gW G 7)] h4 (KI Q (fun x20 h18 => vp_in x20 4098 ∧ (hK h18 l5 = 43 ∧ (C G mX46_add d [.ref (l5), .int (aI h18 (gW G 1024) x20.toNatClampNeg)] h18 (KV Q (fun h22 => C G mX12_level d [.ref (gW G 7), .int (l1 + 1)] h22 (KR Q (fun b27 h25 => hK h25 l4 = 6 ∧ (C G mX7_add d [.ref (l4), .ref (b27)] h25 (KV Q (fun h28 => X G mX12_level (d + 1) none [] 128 [(0, .ref (gW G 7)), (1, .int (l1)), (2, .int (l2)), (3, .ref (l3)), (4, .ref (l4)), (5, .ref (l5))] [] h28 Q))))))))))))) ∧ (¬ x6 = l1 → ((hc h4 + 1 ≤ MC) ∧ (hs h4 + 5 ≤ MS) ∧ ∀ q8, hK h4 q8 = 0 → ∀ h10, h10 = nO h4 q8 43 → (C G mX12_expsOf d [.ref (l4)] h10 (KR Q (fun b15 h13 => C G mX47_init d [.ref (q8), .int (l2), .ref (l3), .ref (l5), .ref (b15)] h13 (KV Q (fun h16 => Q (.returned (some (.ref (q8)))) h16)))))))))))) : X G mX12_level (d + 1) none [] 128 [(0, .ref (gW G 7)), (1, .int (l1)), (2, .int (l2)), (3, .ref (l3)), (4, .ref (l4)), (5, .ref (l5))] [] h Q := by
  refine x_aload_n (pc' := 129) 0 (dX12_level 71 rfl rfl) rfl rfl rfl ?_
  refine x_inv (pc' := 132) (ν := mX12_kind) (av := [_]) (st := []) rfl rfl (dX12_level 72 rfl rfl) (Nat.le_of_ble_eq_true rfl) wX12_kind q226 (inv_V (k := 10) (dX12_level 72 rfl rfl) q1281 q1283 qs12 wX12_kind (by decide) lX12_kind (by decide) s7.1) (exN (by decide)) rfl ?_
  refine C.mono hf (fun _ _ => KI.g (fun x3 h1 hf le2 => ?_))
  replace s1 := s1.le sc1 (le2)
  replace s7 := s7.le sc7 (le2)
  refine x_inv (pc' := 135) (ν := mX12_levelOf) (av := [_]) (st := []) rfl rfl (dX12_level 73 rfl rfl) (Nat.le_of_ble_eq_true rfl) wX12_levelOf q226 (inv_S (dX12_level 73 rfl rfl) q1760 q1761 q226 wX12_levelOf (by decide) lX12_levelOf) (exN (by decide)) rfl ?_
  refine C.mono hf (fun _ _ => KI.g (fun x6 h4 hf le5 => ?_))
  replace s1 := s1.le sc1 (le5)
  replace s7 := s7.le sc7 (le5)
  refine x_iload_n (pc' := 136) 1 (dX12_level 74 rfl rfl) rfl rfl rfl ?_
  refine x_icmp_ne (pc' := 139) (tgt := 171) (dX12_level 75 rfl rfl) (by decide) rfl (fun c7 => ?_) (fun c7 => ?_)
  · replace hf := hf.2 c7
    obtain ⟨n1, n2, hf⟩ := hf
    refine x_new (pc' := 174) (k := 43) (dX12_level 92 rfl rfl) q1798 (by decide) rfl (by decide) n1 n2 (fun q8 h10 k9 e11 => ?_)
    replace hf := hf q8 k9 h10 e11
    replace s1 : So 1 (gW G) h10 := by rw [e11]; exact s1.le sc1 (nO_le k9)
    replace s7 : So 7 (gW G) h10 := by rw [e11]; exact s7.le sc7 (nO_le k9)
    have k12 : hK h10 q8 = 44 := by rw [e11]; exact kNOs
    refine x_dup (pc' := 175) (dX12_level 93 rfl rfl) rfl rfl ?_
    refine x_iload_n (pc' := 176) 2 (dX12_level 94 rfl rfl) rfl rfl rfl ?_
    refine x_aload_n (pc' := 177) 3 (dX12_level 95 rfl rfl) rfl rfl rfl ?_
    refine x_aload (pc' := 179) 5 (dX12_level 96 rfl rfl) rfl rfl ?_
    refine x_aload (pc' := 181) 4 (dX12_level 97 rfl rfl) rfl rfl ?_
    refine x_inv (pc' := 184) (ν := mX12_expsOf) (av := [_]) (st := [_, _, _, _, _]) rfl rfl (dX12_level 98 rfl rfl) (Nat.le_of_ble_eq_true rfl) wX12_expsOf q226 (inv_S (dX12_level 98 rfl rfl) q1678 q1679 q226 wX12_expsOf (by decide) lX12_expsOf) (exN (by decide)) rfl ?_
    refine C.mono hf (fun _ _ => KR.g (fun b15 h13 hf le14 => ?_))
    have k12 := leK le14 k12 (by decide)
    replace s1 := s1.le sc1 (le14)
    replace s7 := s7.le sc7 (le14)
    refine x_inv (pc' := 187) (ν := mX47_init) (av := [_, _, _, _, _]) (st := [_]) rfl rfl (dX12_level 99 rfl rfl) (Nat.le_of_ble_eq_true rfl) wX47_init q268 (inv_I (dX12_level 99 rfl rfl) q1800 q1801 q1802 rfl (by decide) lX47_init) (fun b hb => by exact Or.inl (by have e : some _ = some b := hb; cases e; simp)) rfl ?_
    refine C.mono hf (fun _ _ => KV.g (fun h16 hf le17 => ?_))
    replace s1 := s1.leX sc1 le17 k12 (by decide)
    replace s7 := s7.leX sc7 le17 k12 (by decide)
    have k12 := leK le17 k12 (by decide)
    exact x_aret (dX12_level 100 rfl rfl) rfl (Or.inl ⟨_, rfl⟩) (Or.inr ⟨_, rfl⟩) hf
  · replace hf := hf.1 (Classical.not_not.mp c7)
    replace c7 := Classical.not_not.mp c7
    refine x_aload (pc' := 141) 5 (dX12_level 76 rfl rfl) rfl rfl ?_
    refine x_aload_n (pc' := 142) 0 (dX12_level 77 rfl rfl) rfl rfl rfl ?_
    refine x_getR (pc' := 145) (dX12_level 78 rfl rfl) g114 q858 (Or.inl rfl) rfl (hf_of 10 s7.1 rfl (by decide) m10_114) (s7.2 0 _ rfl rfl).1 ?_
    refine x_getR (pc' := 148) (dX12_level 79 rfl rfl) g24 q323 (Or.inl rfl) rfl (hf_of 1 s1.1 rfl (by decide) m1_24) (s1.2 2 _ rfl rfl).1 ?_
    refine x_aload_n (pc' := 149) 0 (dX12_level 80 rfl rfl) rfl rfl rfl ?_
    refine x_inv (pc' := 152) (ν := mX12_take) (av := [_]) (st := [_, _]) rfl rfl (dX12_level 81 rfl rfl) (Nat.le_of_ble_eq_true rfl) wX12_take q226 (inv_V (k := 10) (dX12_level 81 rfl rfl) q1316 q1318 qs15 wX12_take (by decide) lX12_take (by decide) s7.1) (exN (by decide)) rfl ?_
    refine C.mono hf (fun _ _ => KI.g (fun x20 h18 hf le19 => ?_))
    replace s1 := s1.le sc1 (le19)
    replace s7 := s7.le sc7 (le19)
    obtain ⟨i21, hf⟩ := hf
    refine x_iald (pc' := 153) (dX12_level 82 rfl rfl) rfl (s1.2 2 _ rfl rfl).2.1 (by rw [(s1.2 2 _ rfl rfl).2.2.2 (by decide)]; exact i21) ?_
    obtain ⟨k24, hf⟩ := hf
    refine x_inv (pc' := 156) (ν := mX46_add) (av := [_, _]) (st := []) rfl rfl (dX12_level 83 rfl rfl) (Nat.le_of_ble_eq_true rfl) wX46_add q267 (inv_V (k := 42) (dX12_level 83 rfl rfl) q1794 q1795 q1796 wX46_add (by decide) lX46_add (by decide) k24) (exN (by decide)) rfl ?_
    refine C.mono hf (fun _ _ => KV.g (fun h22 hf le23 => ?_))
    have k24 := leK le23 k24 (by decide)
    replace s1 := s1.le sc1 (le23)
    replace s7 := s7.le sc7 (le23)
    refine x_aload (pc' := 158) 4 (dX12_level 84 rfl rfl) rfl rfl ?_
    refine x_aload_n (pc' := 159) 0 (dX12_level 85 rfl rfl) rfl rfl rfl ?_
    refine x_iload_n (pc' := 160) 1 (dX12_level 86 rfl rfl) rfl rfl rfl ?_
    refine x_iconst (pc' := 161) (v := 1) (dX12_level 87 rfl rfl) (by decide) rfl ?_
    refine x_iadd (pc' := 162) (dX12_level 88 rfl rfl) rfl ?_
    refine x_inv (pc' := 165) (ν := mX12_level) (av := [_, _]) (st := [_]) rfl rfl (dX12_level 89 rfl rfl) (Nat.le_of_ble_eq_true rfl) wX12_level q226 (inv_V (k := 10) (dX12_level 89 rfl rfl) q1589 q1591 qs25 wX12_level (by decide) lX12_level (by decide) s7.1) (exN (by decide)) rfl ?_
    refine C.mono hf (fun _ _ => KR.g (fun b27 h25 hf le26 => ?_))
    have k24 := leK le26 k24 (by decide)
    replace s1 := s1.le sc1 (le26)
    replace s7 := s7.le sc7 (le26)
    obtain ⟨k30, hf⟩ := hf
    refine x_inv (pc' := 168) (ν := mX7_add) (av := [_, _]) (st := []) rfl rfl (dX12_level 90 rfl rfl) (Nat.le_of_ble_eq_true rfl) wX7_add q221 (inv_V (k := 5) (dX12_level 90 rfl rfl) q1401 q590 q591 wX7_add (by decide) lX7_add (by decide) k30) (exN (by decide)) rfl ?_
    refine C.mono hf (fun _ _ => KV.g (fun h28 hf le29 => ?_))
    have k24 := leK le29 k24 (by decide)
    have k30 := leK le29 k30 (by decide)
    replace s1 := s1.le sc1 (le29)
    replace s7 := s7.le sc7 (le29)
    refine x_goto (tgt := 128) (dX12_level 91 rfl rfl) (by decide) ?_
    exact X.sub [0, 1, 2, 3, 4, 5] rfl (by simp) hf
theorem bX12_application (G : Gh) (d : Nat) (h : AH) (Q : Outcome → AH → Prop)  (s7 : So 7 (gW G) h) (hf : ∀ x1 : Int32, x1 = fI h (gW G 7) 115 → (C G mX12_atom d [.ref (gW G 7)] h (KR Q (fun b4 h2 => C G mX12_beginsExp d [.ref (gW G 7)] h2 (KI Q (fun x7 h5 => (x7 = 0 → (Q (.returned (some (.ref (b4)))) h5)) ∧ (¬ x7 = 0 → ((hc h5 + 1 ≤ MC) ∧ (hs h5 + 2 ≤ MS) ∧ ∀ q9, hK h5 q9 = 0 → ∀ h11, h11 = nO h5 q9 5 → (C G mX7_init d [.ref (q9)] h11 (KV Q (fun h14 => X G mX12_application (d + 1) none [] 27 [(0, .ref (gW G 7)), (1, .int (x1)), (2, .ref (b4)), (3, .ref (q9))] [] h14 Q))))))))))) : C G mX12_application (d + 1) [.ref (gW G 7)] h Q := by
  refine C.of_X (by decide +kernel) (Nat.le_of_ble_eq_true rfl) wX12_application ?_
  show X G mX12_application (d + 1) none [] 0 [(0, .ref (gW G 7))] [] h Q
  refine x_aload_n (pc' := 1) 0 (dX12_application 0 rfl rfl) rfl rfl rfl ?_
  refine x_getI (pc' := 4) (dX12_application 1 rfl rfl) g115 q859 (Or.inl rfl) rfl (hf_of 10 s7.1 rfl (by decide) m10_115) ?_
  replace hf := hf _ rfl
  refine x_istore_n (pc' := 5) (dX12_application 2 rfl rfl) rfl (by decide) rfl rfl ?_
  refine x_aload_n (pc' := 6) 1 (dX12_application 3 rfl rfl) rfl rfl rfl ?_
  refine x_inv (pc' := 9) (ν := mX12_atom) (av := [_]) (st := []) rfl rfl (dX12_application 4 rfl rfl) (Nat.le_of_ble_eq_true rfl) wX12_atom q226 (inv_V (k := 10) (dX12_application 4 rfl rfl) q1597 q1599 qs27 wX12_atom (by decide) lX12_atom (by decide) s7.1) (exN (by decide)) rfl ?_
  refine C.mono hf (fun _ _ => KR.g (fun b4 h2 hf le3 => ?_))
  replace s7 := s7.le sc7 (le3)
  refine x_astore_n (pc' := 10) (dX12_application 5 rfl rfl) rfl (by decide) rfl rfl ?_
  refine x_aload_n (pc' := 11) 2 (dX12_application 6 rfl rfl) rfl rfl rfl ?_
  refine x_inv (pc' := 14) (ν := mX12_beginsExp) (av := [_]) (st := []) rfl rfl (dX12_application 7 rfl rfl) (Nat.le_of_ble_eq_true rfl) wX12_beginsExp q226 (inv_V (k := 10) (dX12_application 7 rfl rfl) q1741 q1743 qs30 wX12_beginsExp (by decide) lX12_beginsExp (by decide) s7.1) (exN (by decide)) rfl ?_
  refine C.mono hf (fun _ _ => KI.g (fun x7 h5 hf le6 => ?_))
  replace s7 := s7.le sc7 (le6)
  refine x_if_ne (pc' := 17) (tgt := 19) (dX12_application 8 rfl rfl) (by decide) rfl (fun c8 => ?_) (fun c8 => ?_)
  · replace hf := hf.2 c8
    obtain ⟨n1, n2, hf⟩ := hf
    refine x_new (pc' := 22) (k := 5) (dX12_application 11 rfl rfl) q1275 (by decide) rfl (by decide) n1 n2 (fun q9 h11 k10 e12 => ?_)
    replace hf := hf q9 k10 h11 e12
    replace s7 : So 7 (gW G) h11 := by rw [e12]; exact s7.le sc7 (nO_le k10)
    have k13 : hK h11 q9 = 6 := by rw [e12]; exact kNOs
    refine x_dup (pc' := 23) (dX12_application 12 rfl rfl) rfl rfl ?_
    refine x_inv (pc' := 26) (ν := mX7_init) (av := [_]) (st := [_]) rfl rfl (dX12_application 13 rfl rfl) (Nat.le_of_ble_eq_true rfl) wX7_init q221 (inv_N (host := "LetMill") (dX12_application 13 rfl rfl) (by decide) q560 q561 rfl (by decide) lX7_init) (fun b hb => by exact Or.inl (by have e : some _ = some b := hb; cases e; simp)) rfl ?_
    refine C.mono hf (fun _ _ => KV.g (fun h14 hf le15 => ?_))
    replace s7 := s7.leX sc7 le15 k13 (by decide)
    have k13 := leK le15 k13 (by decide)
    refine x_astore_n (pc' := 27) (dX12_application 14 rfl rfl) rfl (by decide) rfl rfl ?_
    exact X.sub [3, 2, 1, 0] rfl (by simp) hf
  · replace hf := hf.1 (Classical.not_not.mp c8)
    replace c8 := Classical.not_not.mp c8
    refine x_aload_n (pc' := 18) 0 (dX12_application 9 rfl rfl) rfl rfl rfl ?_
    exact x_aret (dX12_application 10 rfl rfl) rfl (Or.inl ⟨_, rfl⟩) (Or.inr ⟨_, rfl⟩) hf
theorem bX12_application_27 (G : Gh) (d : Nat) (h : AH) (Q : Outcome → AH → Prop) (l1 : Int32) (l2 : Nat) (l3 : Nat) (s7 : So 7 (gW G) h) (hf : C G mX12_beginsExp d [.ref (gW G 7)] h (KI Q (fun x3 h1 => (x3 = 0 → ((hc h1 + 1 ≤ MC) ∧ (hs h1 + 4 ≤ MS) ∧ ∀ q5, hK h1 q5 = 0 → ∀ h7, h7 = nO h1 q5 40 → (C G mX12_expsOf d [.ref (l3)] h7 (KR Q (fun b12 h10 => C G mX44_init d [.ref (q5), .int (l1), .ref (l2), .ref (b12)] h10 (KV Q (fun h13 => Q (.returned (some (.ref (q5)))) h13))))))) ∧ (¬ x3 = 0 → (C G mX12_atom d [.ref (gW G 7)] h1 (KR Q (fun b17 h15 => hK h15 l3 = 6 ∧ (C G mX7_add d [.ref (l3), .ref (b17)] h15 (KV Q (fun h18 => X G mX12_application (d + 1) none [] 27 [(0, .ref (gW G 7)), (1, .int (l1)), (2, .ref (l2)), (3, .ref (l3))] [] h18 Q)))))))))) : X G mX12_application (d + 1) none [] 27 [(0, .ref (gW G 7)), (1, .int (l1)), (2, .ref (l2)), (3, .ref (l3))] [] h Q := by
  refine x_aload_n (pc' := 28) 0 (dX12_application 15 rfl rfl) rfl rfl rfl ?_
  refine x_inv (pc' := 31) (ν := mX12_beginsExp) (av := [_]) (st := []) rfl rfl (dX12_application 16 rfl rfl) (Nat.le_of_ble_eq_true rfl) wX12_beginsExp q226 (inv_V (k := 10) (dX12_application 16 rfl rfl) q1741 q1743 qs30 wX12_beginsExp (by decide) lX12_beginsExp (by decide) s7.1) (exN (by decide)) rfl ?_
  refine C.mono hf (fun _ _ => KI.g (fun x3 h1 hf le2 => ?_))
  replace s7 := s7.le sc7 (le2)
  refine x_if_eq (pc' := 34) (tgt := 45) (dX12_application 17 rfl rfl) (by decide) rfl (fun c4 => ?_) (fun c4 => ?_)
  · replace hf := hf.1 c4
    obtain ⟨n1, n2, hf⟩ := hf
    refine x_new (pc' := 48) (k := 40) (dX12_application 23 rfl rfl) q1745 (by decide) rfl (by decide) n1 n2 (fun q5 h7 k6 e8 => ?_)
    replace hf := hf q5 k6 h7 e8
    replace s7 : So 7 (gW G) h7 := by rw [e8]; exact s7.le sc7 (nO_le k6)
    have k9 : hK h7 q5 = 41 := by rw [e8]; exact kNOs
    refine x_dup (pc' := 49) (dX12_application 24 rfl rfl) rfl rfl ?_
    refine x_iload_n (pc' := 50) 1 (dX12_application 25 rfl rfl) rfl rfl rfl ?_
    refine x_aload_n (pc' := 51) 2 (dX12_application 26 rfl rfl) rfl rfl rfl ?_
    refine x_aload_n (pc' := 52) 3 (dX12_application 27 rfl rfl) rfl rfl rfl ?_
    refine x_inv (pc' := 55) (ν := mX12_expsOf) (av := [_]) (st := [_, _, _, _]) rfl rfl (dX12_application 28 rfl rfl) (Nat.le_of_ble_eq_true rfl) wX12_expsOf q226 (inv_S (dX12_application 28 rfl rfl) q1678 q1679 q226 wX12_expsOf (by decide) lX12_expsOf) (exN (by decide)) rfl ?_
    refine C.mono hf (fun _ _ => KR.g (fun b12 h10 hf le11 => ?_))
    have k9 := leK le11 k9 (by decide)
    replace s7 := s7.le sc7 (le11)
    refine x_inv (pc' := 58) (ν := mX44_init) (av := [_, _, _, _]) (st := [_]) rfl rfl (dX12_application 29 rfl rfl) (Nat.le_of_ble_eq_true rfl) wX44_init q265 (inv_I (dX12_application 29 rfl rfl) q1747 q1748 q1749 rfl (by decide) lX44_init) (fun b hb => by exact Or.inl (by have e : some _ = some b := hb; cases e; simp)) rfl ?_
    refine C.mono hf (fun _ _ => KV.g (fun h13 hf le14 => ?_))
    replace s7 := s7.leX sc7 le14 k9 (by decide)
    have k9 := leK le14 k9 (by decide)
    exact x_aret (dX12_application 30 rfl rfl) rfl (Or.inl ⟨_, rfl⟩) (Or.inr ⟨_, rfl⟩) hf
  · replace hf := hf.2 c4
    refine x_aload_n (pc' := 35) 3 (dX12_application 18 rfl rfl) rfl rfl rfl ?_
    refine x_aload_n (pc' := 36) 0 (dX12_application 19 rfl rfl) rfl rfl rfl ?_
    refine x_inv (pc' := 39) (ν := mX12_atom) (av := [_]) (st := [_]) rfl rfl (dX12_application 20 rfl rfl) (Nat.le_of_ble_eq_true rfl) wX12_atom q226 (inv_V (k := 10) (dX12_application 20 rfl rfl) q1597 q1599 qs27 wX12_atom (by decide) lX12_atom (by decide) s7.1) (exN (by decide)) rfl ?_
    refine C.mono hf (fun _ _ => KR.g (fun b17 h15 hf le16 => ?_))
    replace s7 := s7.le sc7 (le16)
    obtain ⟨k20, hf⟩ := hf
    refine x_inv (pc' := 42) (ν := mX7_add) (av := [_, _]) (st := []) rfl rfl (dX12_application 21 rfl rfl) (Nat.le_of_ble_eq_true rfl) wX7_add q221 (inv_V (k := 5) (dX12_application 21 rfl rfl) q1401 q590 q591 wX7_add (by decide) lX7_add (by decide) k20) (exN (by decide)) rfl ?_
    refine C.mono hf (fun _ _ => KV.g (fun h18 hf le19 => ?_))
    have k20 := leK le19 k20 (by decide)
    replace s7 := s7.le sc7 (le19)
    refine x_goto (tgt := 27) (dX12_application 22 rfl rfl) (by decide) ?_
    exact X.sub [0, 1, 2, 3] rfl (by simp) hf
theorem bX12_atom (G : Gh) (d : Nat) (h : AH) (Q : Outcome → AH → Prop)  (s1 : So 1 (gW G) h) (s7 : So 7 (gW G) h) (hf : ∀ x1 : Int32, x1 = fI h (gW G 7) 115 → (C G mX12_kind d [.ref (gW G 7)] h (KI Q (fun x4 h2 => (x4 = 33 → ((hc h2 + 1 ≤ MC) ∧ (hs h2 + 3 ≤ MS) ∧ ∀ q6, hK h2 q6 = 0 → ∀ h8, h8 = nO h2 q6 35 → (C G mX12_take d [.ref (gW G 7)] h8 (KI Q (fun x13 h11 => vp_in x13 4098 ∧ (((aI h11 (gW G 1024) x13.toNatClampNeg) = 33 → (C G mX38_init d [.ref (q6), .int (x1), .int (2)] h11 (KV Q (fun h18 => Q (.returned (some (.ref (q6)))) h18)))) ∧ (¬ ((aI h11 (gW G 1024) x13.toNatClampNeg) = 33) → (C G mX38_init d [.ref (q6), .int (x1), .int (3)] h11 (KV Q (fun h16 => Q (.returned (some (.ref (q6)))) h16)))))))))) ∧ (x4 = 40 → (C G mX12_round d [.ref (gW G 7), .int (x1)] h2 (KR Q (fun b22 h20 => Q (.returned (some (.ref (b22)))) h20)))) ∧ (x4 = 91 → (C G mX12_take d [.ref (gW G 7)] h2 (KI Q (fun x25 h23 => (hc h23 + 1 ≤ MC) ∧ (hs h23 + 2 ≤ MS) ∧ ∀ q26, hK h23 q26 = 0 → ∀ h28, h28 = nO h23 q26 5 → (C G mX7_init d [.ref (q26)] h28 (KV Q (fun h31 => C G mX12_kind d [.ref (gW G 7)] h31 (KI Q (fun x35 h33 => (x35 = 93 → (C G mX12_expect d [.ref (gW G 7), .int (93)] h33 (KI Q (fun x39 h37 => (hc h37 + 1 ≤ MC) ∧ (hs h37 + 3 ≤ MS) ∧ ∀ q40, hK h37 q40 = 0 → ∀ h42, h42 = nO h37 q40 39 → (C G mX12_expsOf d [.ref (q26)] h42 (KR Q (fun b47 h45 => C G mX43_init d [.ref (q40), .int (x1), .ref (b47)] h45 (KV Q (fun h48 => Q (.returned (some (.ref (q40)))) h48))))))))) ∧ (¬ x35 = 93 → (∀ h50, h50 = pI h33 (gW G 7) 116 ((fI h33 (gW G 7) 116) + 1) → (X G mX12_atom (d + 1) none [] 249 [(0, .ref (gW G 7)), (1, .int (x1)), (3, .ref (q26))] [] h50 Q)))))))))))) ∧ (x4 = 126 → ((hc h2 + 1 ≤ MC) ∧ (hs h2 + 3 ≤ MS) ∧ ∀ q52, hK h2 q52 = 0 → ∀ h54, h54 = nO h2 q52 35 → (C G mX12_take d [.ref (gW G 7)] h54 (KI Q (fun x59 h57 => vp_in x59 4098 ∧ (((aI h57 (gW G 1024) x59.toNatClampNeg) = 33 → (C G mX38_init d [.ref (q52), .int (x1), .int (2)] h57 (KV Q (fun h64 => Q (.returned (some (.ref (q52)))) h64)))) ∧ (¬ ((aI h57 (gW G 1024) x59.toNatClampNeg) = 33) → (C G mX38_init d [.ref (q52), .int (x1), .int (3)] h57 (KV Q (fun h62 => Q (.returned (some (.ref (q52)))) h62)))))))))) ∧ (x4 = 266 → (C G mX12_let d [.ref (gW G 7), .int (x1)] h2 (KR Q (fun b68 h66 => Q (.returned (some (.ref (b68)))) h66)))) ∧ (x4 = 272 → ((hc h2 + 1 ≤ MC) ∧ (hs h2 + 4 ≤ MS) ∧ ∀ q69, hK h2 q69 = 0 → ∀ h71, h71 = nO h2 q69 34 → (C G mX12_take d [.ref (gW G 7)] h71 (KI Q (fun x76 h74 => vp_in x76 4098 ∧ (((aI h74 (gW G 1024) x76.toNatClampNeg) = 272 → (C G mX37_init d [.ref (q69), .int (x1), .int (1), .int (1)] h74 (KV Q (fun h81 => Q (.returned (some (.ref (q69)))) h81)))) ∧ (¬ ((aI h74 (gW G 1024) x76.toNatClampNeg) = 272) → (C G mX37_init d [.ref (q69), .int (x1), .int (1), .int (0)] h74 (KV Q (fun h79 => Q (.returned (some (.ref (q69)))) h79)))))))))) ∧ (x4 = 273 → ((hc h2 + 1 ≤ MC) ∧ (hs h2 + 4 ≤ MS) ∧ ∀ q83, hK h2 q83 = 0 → ∀ h85, h85 = nO h2 q83 34 → (C G mX12_take d [.ref (gW G 7)] h85 (KI Q (fun x90 h88 => vp_in x90 4098 ∧ (((aI h88 (gW G 1024) x90.toNatClampNeg) = 272 → (C G mX37_init d [.ref (q83), .int (x1), .int (1), .int (1)] h88 (KV Q (fun h95 => Q (.returned (some (.ref (q83)))) h95)))) ∧ (¬ ((aI h88 (gW G 1024) x90.toNatClampNeg) = 272) → (C G mX37_init d [.ref (q83), .int (x1), .int (1), .int (0)] h88 (KV Q (fun h93 => Q (.returned (some (.ref (q83)))) h93)))))))))) ∧ (x4 = 280 → ((hc h2 + 1 ≤ MC) ∧ (hs h2 + 4 ≤ MS) ∧ ∀ q97, hK h2 q97 = 0 → ∀ h99, h99 = nO h2 q97 32 → (C G mX12_take d [.ref (gW G 7)] h99 (KI Q (fun x104 h102 => C G mX35_init d [.ref (q97), .int (x104)] h102 (KV Q (fun h105 => Q (.returned (some (.ref (q97)))) h105))))))) ∧ (x4 = 281 → ((hc h2 + 1 ≤ MC) ∧ (hs h2 + 3 ≤ MS) ∧ ∀ q107, hK h2 q107 = 0 → ∀ h109, h109 = nO h2 q107 33 → (C G mX12_take d [.ref (gW G 7)] h109 (KI Q (fun x114 h112 => C G mX36_init d [.ref (q107), .int (x114)] h112 (KV Q (fun h115 => Q (.returned (some (.ref (q107)))) h115))))))) ∧ (x4 = 283 → ((hc h2 + 1 ≤ MC) ∧ (hs h2 + 4 ≤ MS) ∧ ∀ q117, hK h2 q117 = 0 → ∀ h119, h119 = nO h2 q117 34 → (C G mX12_take d [.ref (gW G 7)] h119 (KI Q (fun x124 h122 => vp_in x124 4098 ∧ (C G mX37_init d [.ref (q117), .int (x1), .int (0), .int ((aJ h122 (gW G 1026) x124.toNatClampNeg : Int64).toInt32)] h122 (KV Q (fun h126 => Q (.returned (some (.ref (q117)))) h126)))))))) ∧ (¬ x4 = 33 ∧ ¬ x4 = 40 ∧ ¬ x4 = 91 ∧ ¬ x4 = 126 ∧ ¬ x4 = 266 ∧ ¬ x4 = 272 ∧ ¬ x4 = 273 ∧ ¬ x4 = 280 ∧ ¬ x4 = 281 ∧ ¬ x4 = 283 → (C G mX12_wrong d [.ref (gW G 7)] h2 (KR Q (fun b130 h128 => Q (.threw b130) h128)))))))) : C G mX12_atom (d + 1) [.ref (gW G 7)] h Q := by
  refine C.of_X (by decide +kernel) (Nat.le_of_ble_eq_true rfl) wX12_atom ?_
  show X G mX12_atom (d + 1) none [] 0 [(0, .ref (gW G 7))] [] h Q
  refine x_aload_n (pc' := 1) 0 (dX12_atom 0 rfl rfl) rfl rfl rfl ?_
  refine x_getI (pc' := 4) (dX12_atom 1 rfl rfl) g115 q859 (Or.inl rfl) rfl (hf_of 10 s7.1 rfl (by decide) m10_115) ?_
  replace hf := hf _ rfl
  refine x_istore_n (pc' := 5) (dX12_atom 2 rfl rfl) rfl (by decide) rfl rfl ?_
  refine x_aload_n (pc' := 6) 1 (dX12_atom 3 rfl rfl) rfl rfl rfl ?_
  refine x_inv (pc' := 9) (ν := mX12_kind) (av := [_]) (st := []) rfl rfl (dX12_atom 4 rfl rfl) (Nat.le_of_ble_eq_true rfl) wX12_kind q226 (inv_V (k := 10) (dX12_atom 4 rfl rfl) q1281 q1283 qs12 wX12_kind (by decide) lX12_kind (by decide) s7.1) (exN (by decide)) rfl ?_
  refine C.mono hf (fun _ _ => KI.g (fun x4 h2 hf le3 => ?_))
  replace s1 := s1.le sc1 (le3)
  replace s7 := s7.le sc7 (le3)
  by_cases c50 : x4 = 33
  · replace hf := hf.1 c50
    refine x_ls (v := 33) (tgt := 180) (swX12_atom_9) (by decide) (by rw [c50]; decide) (by decide) ?_
    obtain ⟨n1, n2, hf⟩ := hf
    refine x_new (pc' := 183) (k := 35) (dX12_atom 48 rfl rfl) q1643 (by decide) rfl (by decide) n1 n2 (fun q6 h8 k7 e9 => ?_)
    replace hf := hf q6 k7 h8 e9
    replace s1 : So 1 (gW G) h8 := by rw [e9]; exact s1.le sc1 (nO_le k7)
    replace s7 : So 7 (gW G) h8 := by rw [e9]; exact s7.le sc7 (nO_le k7)
    have k10 : hK h8 q6 = 36 := by rw [e9]; exact kNOs
    refine x_dup (pc' := 184) (dX12_atom 49 rfl rfl) rfl rfl ?_
    refine x_iload_n (pc' := 185) 0 (dX12_atom 50 rfl rfl) rfl rfl rfl ?_
    refine x_aload_n (pc' := 186) 1 (dX12_atom 51 rfl rfl) rfl rfl rfl ?_
    refine x_getR (pc' := 189) (dX12_atom 52 rfl rfl) g114 q858 (Or.inl rfl) rfl (hf_of 10 s7.1 rfl (by decide) m10_114) (s7.2 0 _ rfl rfl).1 ?_
    refine x_getR (pc' := 192) (dX12_atom 53 rfl rfl) g24 q323 (Or.inl rfl) rfl (hf_of 1 s1.1 rfl (by decide) m1_24) (s1.2 2 _ rfl rfl).1 ?_
    refine x_aload_n (pc' := 193) 1 (dX12_atom 54 rfl rfl) rfl rfl rfl ?_
    refine x_inv (pc' := 196) (ν := mX12_take) (av := [_]) (st := [_, _, _, _]) rfl rfl (dX12_atom 55 rfl rfl) (Nat.le_of_ble_eq_true rfl) wX12_take q226 (inv_V (k := 10) (dX12_atom 55 rfl rfl) q1316 q1318 qs15 wX12_take (by decide) lX12_take (by decide) s7.1) (exN (by decide)) rfl ?_
    refine C.mono hf (fun _ _ => KI.g (fun x13 h11 hf le12 => ?_))
    have k10 := leK le12 k10 (by decide)
    replace s1 := s1.le sc1 (le12)
    replace s7 := s7.le sc7 (le12)
    obtain ⟨i14, hf⟩ := hf
    refine x_iald (pc' := 197) (dX12_atom 56 rfl rfl) rfl (s1.2 2 _ rfl rfl).2.1 (by rw [(s1.2 2 _ rfl rfl).2.2.2 (by decide)]; exact i14) ?_
    refine x_bipush (pc' := 199) (v := 33) (dX12_atom 57 rfl rfl) (by decide) rfl ?_
    refine x_icmp_ne (pc' := 202) (tgt := 206) (dX12_atom 58 rfl rfl) (by decide) rfl (fun c15 => ?_) (fun c15 => ?_)
    · replace hf := hf.2 c15
      refine x_iconst (pc' := 207) (v := 3) (dX12_atom 61 rfl rfl) (by decide) rfl ?_
      refine x_inv (pc' := 210) (ν := mX38_init) (av := [_, _, _]) (st := [_]) rfl rfl (dX12_atom 62 rfl rfl) (Nat.le_of_ble_eq_true rfl) wX38_init q259 (inv_I (dX12_atom 62 rfl rfl) q1645 q1646 q1647 rfl (by decide) lX38_init) (fun b hb => by exact Or.inl (by have e : some _ = some b := hb; cases e; simp)) rfl ?_
      refine C.mono hf (fun _ _ => KV.g (fun h16 hf le17 => ?_))
      replace s1 := s1.leX sc1 le17 k10 (by decide)
      replace s7 := s7.leX sc7 le17 k10 (by decide)
      have k10 := leK le17 k10 (by decide)
      exact x_aret (dX12_atom 63 rfl rfl) rfl (Or.inl ⟨_, rfl⟩) (Or.inr ⟨_, rfl⟩) hf
    · replace hf := hf.1 (Classical.not_not.mp c15)
      replace c15 := Classical.not_not.mp c15
      refine x_iconst (pc' := 203) (v := 2) (dX12_atom 59 rfl rfl) (by decide) rfl ?_
      refine x_goto (tgt := 207) (dX12_atom 60 rfl rfl) (by decide) ?_
      refine x_inv (pc' := 210) (ν := mX38_init) (av := [_, _, _]) (st := [_]) rfl rfl (dX12_atom 62 rfl rfl) (Nat.le_of_ble_eq_true rfl) wX38_init q259 (inv_I (dX12_atom 62 rfl rfl) q1645 q1646 q1647 rfl (by decide) lX38_init) (fun b hb => by exact Or.inl (by have e : some _ = some b := hb; cases e; simp)) rfl ?_
      refine C.mono hf (fun _ _ => KV.g (fun h18 hf le19 => ?_))
      replace s1 := s1.leX sc1 le19 k10 (by decide)
      replace s7 := s7.leX sc7 le19 k10 (by decide)
      have k10 := leK le19 k10 (by decide)
      exact x_aret (dX12_atom 63 rfl rfl) rfl (Or.inl ⟨_, rfl⟩) (Or.inr ⟨_, rfl⟩) hf
  by_cases c51 : x4 = 40
  · replace hf := hf.2.1 c51
    refine x_ls (v := 40) (tgt := 211) (swX12_atom_9) (by decide) (by rw [c51]; decide) (by decide) ?_
    refine x_aload_n (pc' := 212) 1 (dX12_atom 64 rfl rfl) rfl rfl rfl ?_
    refine x_iload_n (pc' := 213) 0 (dX12_atom 65 rfl rfl) rfl rfl rfl ?_
    refine x_inv (pc' := 216) (ν := mX12_round) (av := [_, _]) (st := []) rfl rfl (dX12_atom 66 rfl rfl) (Nat.le_of_ble_eq_true rfl) wX12_round q226 (inv_V (k := 10) (dX12_atom 66 rfl rfl) q1655 q1657 qs28 wX12_round (by decide) lX12_round (by decide) s7.1) (exN (by decide)) rfl ?_
    refine C.mono hf (fun _ _ => KR.g (fun b22 h20 hf le21 => ?_))
    replace s1 := s1.le sc1 (le21)
    replace s7 := s7.le sc7 (le21)
    exact x_aret (dX12_atom 67 rfl rfl) rfl (Or.inl ⟨_, rfl⟩) (Or.inr ⟨_, rfl⟩) hf
  by_cases c52 : x4 = 91
  · replace hf := hf.2.2.1 c52
    refine x_ls (v := 91) (tgt := 217) (swX12_atom_9) (by decide) (by rw [c52]; decide) (by decide) ?_
    refine x_aload_n (pc' := 218) 1 (dX12_atom 68 rfl rfl) rfl rfl rfl ?_
    refine x_inv (pc' := 221) (ν := mX12_take) (av := [_]) (st := []) rfl rfl (dX12_atom 69 rfl rfl) (Nat.le_of_ble_eq_true rfl) wX12_take q226 (inv_V (k := 10) (dX12_atom 69 rfl rfl) q1316 q1318 qs15 wX12_take (by decide) lX12_take (by decide) s7.1) (exN (by decide)) rfl ?_
    refine C.mono hf (fun _ _ => KI.g (fun x25 h23 hf le24 => ?_))
    replace s1 := s1.le sc1 (le24)
    replace s7 := s7.le sc7 (le24)
    refine x_istore_n (pc' := 222) (dX12_atom 70 rfl rfl) rfl (by decide) rfl rfl ?_
    obtain ⟨n1, n2, hf⟩ := hf
    refine x_new (pc' := 225) (k := 5) (dX12_atom 71 rfl rfl) q1275 (by decide) rfl (by decide) n1 n2 (fun q26 h28 k27 e29 => ?_)
    replace hf := hf q26 k27 h28 e29
    replace s1 : So 1 (gW G) h28 := by rw [e29]; exact s1.le sc1 (nO_le k27)
    replace s7 : So 7 (gW G) h28 := by rw [e29]; exact s7.le sc7 (nO_le k27)
    have k30 : hK h28 q26 = 6 := by rw [e29]; exact kNOs
    refine x_dup (pc' := 226) (dX12_atom 72 rfl rfl) rfl rfl ?_
    refine x_inv (pc' := 229) (ν := mX7_init) (av := [_]) (st := [_]) rfl rfl (dX12_atom 73 rfl rfl) (Nat.le_of_ble_eq_true rfl) wX7_init q221 (inv_N (host := "LetMill") (dX12_atom 73 rfl rfl) (by decide) q560 q561 rfl (by decide) lX7_init) (fun b hb => by exact Or.inl (by have e : some _ = some b := hb; cases e; simp)) rfl ?_
    refine C.mono hf (fun _ _ => KV.g (fun h31 hf le32 => ?_))
    replace s1 := s1.leX sc1 le32 k30 (by decide)
    replace s7 := s7.leX sc7 le32 k30 (by decide)
    have k30 := leK le32 k30 (by decide)
    refine x_astore_n (pc' := 230) (dX12_atom 74 rfl rfl) rfl (by decide) rfl rfl ?_
    refine x_aload_n (pc' := 231) 3 (dX12_atom 75 rfl rfl) rfl rfl rfl ?_
    refine x_inv (pc' := 234) (ν := mX12_kind) (av := [_]) (st := []) rfl rfl (dX12_atom 76 rfl rfl) (Nat.le_of_ble_eq_true rfl) wX12_kind q226 (inv_V (k := 10) (dX12_atom 76 rfl rfl) q1281 q1283 qs12 wX12_kind (by decide) lX12_kind (by decide) s7.1) (exN (by decide)) rfl ?_
    refine C.mono hf (fun _ _ => KI.g (fun x35 h33 hf le34 => ?_))
    have k30 := leK le34 k30 (by decide)
    replace s1 := s1.le sc1 (le34)
    replace s7 := s7.le sc7 (le34)
    refine x_bipush (pc' := 236) (v := 93) (dX12_atom 77 rfl rfl) (by decide) rfl ?_
    refine x_icmp_eq (pc' := 239) (tgt := 276) (dX12_atom 78 rfl rfl) (by decide) rfl (fun c36 => ?_) (fun c36 => ?_)
    · replace hf := hf.1 c36
      refine x_aload_n (pc' := 277) 3 (dX12_atom 99 rfl rfl) rfl rfl rfl ?_
      refine x_bipush (pc' := 279) (v := 93) (dX12_atom 100 rfl rfl) (by decide) rfl ?_
      refine x_inv (pc' := 282) (ν := mX12_expect) (av := [_, _]) (st := []) rfl rfl (dX12_atom 101 rfl rfl) (Nat.le_of_ble_eq_true rfl) wX12_expect q226 (inv_V (k := 10) (dX12_atom 101 rfl rfl) q1471 q1473 qs21 wX12_expect (by decide) lX12_expect (by decide) s7.1) (exN (by decide)) rfl ?_
      refine C.mono hf (fun _ _ => KI.g (fun x39 h37 hf le38 => ?_))
      have k30 := leK le38 k30 (by decide)
      replace s1 := s1.le sc1 (le38)
      replace s7 := s7.le sc7 (le38)
      refine x_istore_n (pc' := 283) (dX12_atom 102 rfl rfl) rfl (by decide) rfl rfl ?_
      obtain ⟨n1, n2, hf⟩ := hf
      refine x_new (pc' := 286) (k := 39) (dX12_atom 103 rfl rfl) q1712 (by decide) rfl (by decide) n1 n2 (fun q40 h42 k41 e43 => ?_)
      replace hf := hf q40 k41 h42 e43
      replace k30 : hK h42 q26 = 6 := by rw [e43]; exact kNO k30 (by decide) k41
      replace s1 : So 1 (gW G) h42 := by rw [e43]; exact s1.le sc1 (nO_le k41)
      replace s7 : So 7 (gW G) h42 := by rw [e43]; exact s7.le sc7 (nO_le k41)
      have k44 : hK h42 q40 = 40 := by rw [e43]; exact kNOs
      refine x_dup (pc' := 287) (dX12_atom 104 rfl rfl) rfl rfl ?_
      refine x_iload_n (pc' := 288) 2 (dX12_atom 105 rfl rfl) rfl rfl rfl ?_
      refine x_aload_n (pc' := 289) 1 (dX12_atom 106 rfl rfl) rfl rfl rfl ?_
      refine x_inv (pc' := 292) (ν := mX12_expsOf) (av := [_]) (st := [_, _, _]) rfl rfl (dX12_atom 107 rfl rfl) (Nat.le_of_ble_eq_true rfl) wX12_expsOf q226 (inv_S (dX12_atom 107 rfl rfl) q1678 q1679 q226 wX12_expsOf (by decide) lX12_expsOf) (exN (by decide)) rfl ?_
      refine C.mono hf (fun _ _ => KR.g (fun b47 h45 hf le46 => ?_))
      have k30 := leK le46 k30 (by decide)
      have k44 := leK le46 k44 (by decide)
      replace s1 := s1.le sc1 (le46)
      replace s7 := s7.le sc7 (le46)
      refine x_inv (pc' := 295) (ν := mX43_init) (av := [_, _, _]) (st := [_]) rfl rfl (dX12_atom 108 rfl rfl) (Nat.le_of_ble_eq_true rfl) wX43_init q264 (inv_I (dX12_atom 108 rfl rfl) q1714 q1715 q1716 rfl (by decide) lX43_init) (fun b hb => by exact Or.inl (by have e : some _ = some b := hb; cases e; simp)) rfl ?_
      refine C.mono hf (fun _ _ => KV.g (fun h48 hf le49 => ?_))
      replace s1 := s1.leX sc1 le49 k44 (by decide)
      replace s7 := s7.leX sc7 le49 k44 (by decide)
      have k30 := leK le49 k30 (by decide)
      have k44 := leK le49 k44 (by decide)
      exact x_aret (dX12_atom 109 rfl rfl) rfl (Or.inl ⟨_, rfl⟩) (Or.inr ⟨_, rfl⟩) hf
    · replace hf := hf.2 c36
      refine x_aload_n (pc' := 240) 3 (dX12_atom 79 rfl rfl) rfl rfl rfl ?_
      refine x_dup (pc' := 241) (dX12_atom 80 rfl rfl) rfl rfl ?_
      refine x_getI (pc' := 244) (dX12_atom 81 rfl rfl) g116 q860 (Or.inl rfl) rfl (hf_of 10 s7.1 rfl (by decide) m10_116) ?_
      refine x_iconst (pc' := 245) (v := 1) (dX12_atom 82 rfl rfl) (by decide) rfl ?_
      refine x_iadd (pc' := 246) (dX12_atom 83 rfl rfl) rfl ?_
      refine x_putI (pc' := 249) (dX12_atom 84 rfl rfl) g116 q860 (Or.inl rfl) (Or.inl rfl) (Or.inl (by decide)) rfl (hf_of 10 s7.1 rfl (by decide) m10_116) (fun h50 e51 => ?_)
      replace hf := hf h50 e51
      replace k30 : hK h50 q26 = 6 := by rw [e51]; exact k30
      replace s1 : So 1 (gW G) h50 := by rw [e51]; exact s1.le sc1 (pI_le (Or.inl rfl))
      replace s7 : So 7 (gW G) h50 := by rw [e51]; exact s7.le sc7 (pI_le (Or.inl rfl))
      exact X.sub [3, 2, 0] rfl (by simp) hf
  by_cases c53 : x4 = 126
  · replace hf := hf.2.2.2.1 c53
    refine x_ls (v := 126) (tgt := 180) (swX12_atom_9) (by decide) (by rw [c53]; decide) (by decide) ?_
    obtain ⟨n1, n2, hf⟩ := hf
    refine x_new (pc' := 183) (k := 35) (dX12_atom 48 rfl rfl) q1643 (by decide) rfl (by decide) n1 n2 (fun q52 h54 k53 e55 => ?_)
    replace hf := hf q52 k53 h54 e55
    replace s1 : So 1 (gW G) h54 := by rw [e55]; exact s1.le sc1 (nO_le k53)
    replace s7 : So 7 (gW G) h54 := by rw [e55]; exact s7.le sc7 (nO_le k53)
    have k56 : hK h54 q52 = 36 := by rw [e55]; exact kNOs
    refine x_dup (pc' := 184) (dX12_atom 49 rfl rfl) rfl rfl ?_
    refine x_iload_n (pc' := 185) 0 (dX12_atom 50 rfl rfl) rfl rfl rfl ?_
    refine x_aload_n (pc' := 186) 1 (dX12_atom 51 rfl rfl) rfl rfl rfl ?_
    refine x_getR (pc' := 189) (dX12_atom 52 rfl rfl) g114 q858 (Or.inl rfl) rfl (hf_of 10 s7.1 rfl (by decide) m10_114) (s7.2 0 _ rfl rfl).1 ?_
    refine x_getR (pc' := 192) (dX12_atom 53 rfl rfl) g24 q323 (Or.inl rfl) rfl (hf_of 1 s1.1 rfl (by decide) m1_24) (s1.2 2 _ rfl rfl).1 ?_
    refine x_aload_n (pc' := 193) 1 (dX12_atom 54 rfl rfl) rfl rfl rfl ?_
    refine x_inv (pc' := 196) (ν := mX12_take) (av := [_]) (st := [_, _, _, _]) rfl rfl (dX12_atom 55 rfl rfl) (Nat.le_of_ble_eq_true rfl) wX12_take q226 (inv_V (k := 10) (dX12_atom 55 rfl rfl) q1316 q1318 qs15 wX12_take (by decide) lX12_take (by decide) s7.1) (exN (by decide)) rfl ?_
    refine C.mono hf (fun _ _ => KI.g (fun x59 h57 hf le58 => ?_))
    have k56 := leK le58 k56 (by decide)
    replace s1 := s1.le sc1 (le58)
    replace s7 := s7.le sc7 (le58)
    obtain ⟨i60, hf⟩ := hf
    refine x_iald (pc' := 197) (dX12_atom 56 rfl rfl) rfl (s1.2 2 _ rfl rfl).2.1 (by rw [(s1.2 2 _ rfl rfl).2.2.2 (by decide)]; exact i60) ?_
    refine x_bipush (pc' := 199) (v := 33) (dX12_atom 57 rfl rfl) (by decide) rfl ?_
    refine x_icmp_ne (pc' := 202) (tgt := 206) (dX12_atom 58 rfl rfl) (by decide) rfl (fun c61 => ?_) (fun c61 => ?_)
    · replace hf := hf.2 c61
      refine x_iconst (pc' := 207) (v := 3) (dX12_atom 61 rfl rfl) (by decide) rfl ?_
      refine x_inv (pc' := 210) (ν := mX38_init) (av := [_, _, _]) (st := [_]) rfl rfl (dX12_atom 62 rfl rfl) (Nat.le_of_ble_eq_true rfl) wX38_init q259 (inv_I (dX12_atom 62 rfl rfl) q1645 q1646 q1647 rfl (by decide) lX38_init) (fun b hb => by exact Or.inl (by have e : some _ = some b := hb; cases e; simp)) rfl ?_
      refine C.mono hf (fun _ _ => KV.g (fun h62 hf le63 => ?_))
      replace s1 := s1.leX sc1 le63 k56 (by decide)
      replace s7 := s7.leX sc7 le63 k56 (by decide)
      have k56 := leK le63 k56 (by decide)
      exact x_aret (dX12_atom 63 rfl rfl) rfl (Or.inl ⟨_, rfl⟩) (Or.inr ⟨_, rfl⟩) hf
    · replace hf := hf.1 (Classical.not_not.mp c61)
      replace c61 := Classical.not_not.mp c61
      refine x_iconst (pc' := 203) (v := 2) (dX12_atom 59 rfl rfl) (by decide) rfl ?_
      refine x_goto (tgt := 207) (dX12_atom 60 rfl rfl) (by decide) ?_
      refine x_inv (pc' := 210) (ν := mX38_init) (av := [_, _, _]) (st := [_]) rfl rfl (dX12_atom 62 rfl rfl) (Nat.le_of_ble_eq_true rfl) wX38_init q259 (inv_I (dX12_atom 62 rfl rfl) q1645 q1646 q1647 rfl (by decide) lX38_init) (fun b hb => by exact Or.inl (by have e : some _ = some b := hb; cases e; simp)) rfl ?_
      refine C.mono hf (fun _ _ => KV.g (fun h64 hf le65 => ?_))
      replace s1 := s1.leX sc1 le65 k56 (by decide)
      replace s7 := s7.leX sc7 le65 k56 (by decide)
      have k56 := leK le65 k56 (by decide)
      exact x_aret (dX12_atom 63 rfl rfl) rfl (Or.inl ⟨_, rfl⟩) (Or.inr ⟨_, rfl⟩) hf
  by_cases c54 : x4 = 266
  · replace hf := hf.2.2.2.2.1 c54
    refine x_ls (v := 266) (tgt := 296) (swX12_atom_9) (by decide) (by rw [c54]; decide) (by decide) ?_
    refine x_aload_n (pc' := 297) 1 (dX12_atom 110 rfl rfl) rfl rfl rfl ?_
    refine x_iload_n (pc' := 298) 0 (dX12_atom 111 rfl rfl) rfl rfl rfl ?_
    refine x_inv (pc' := 301) (ν := mX12_let) (av := [_, _]) (st := []) rfl rfl (dX12_atom 112 rfl rfl) (Nat.le_of_ble_eq_true rfl) wX12_let q226 (inv_V (k := 10) (dX12_atom 112 rfl rfl) q1722 q1724 qs29 wX12_let (by decide) lX12_let (by decide) s7.1) (exN (by decide)) rfl ?_
    refine C.mono hf (fun _ _ => KR.g (fun b68 h66 hf le67 => ?_))
    replace s1 := s1.le sc1 (le67)
    replace s7 := s7.le sc7 (le67)
    exact x_aret (dX12_atom 113 rfl rfl) rfl (Or.inl ⟨_, rfl⟩) (Or.inr ⟨_, rfl⟩) hf
  by_cases c55 : x4 = 272
  · replace hf := hf.2.2.2.2.2.1 c55
    refine x_ls (v := 272) (tgt := 147) (swX12_atom_9) (by decide) (by rw [c55]; decide) (by decide) ?_
    obtain ⟨n1, n2, hf⟩ := hf
    refine x_new (pc' := 150) (k := 34) (dX12_atom 31 rfl rfl) q1628 (by decide) rfl (by decide) n1 n2 (fun q69 h71 k70 e72 => ?_)
    replace hf := hf q69 k70 h71 e72
    replace s1 : So 1 (gW G) h71 := by rw [e72]; exact s1.le sc1 (nO_le k70)
    replace s7 : So 7 (gW G) h71 := by rw [e72]; exact s7.le sc7 (nO_le k70)
    have k73 : hK h71 q69 = 35 := by rw [e72]; exact kNOs
    refine x_dup (pc' := 151) (dX12_atom 32 rfl rfl) rfl rfl ?_
    refine x_iload_n (pc' := 152) 0 (dX12_atom 33 rfl rfl) rfl rfl rfl ?_
    refine x_iconst (pc' := 153) (v := 1) (dX12_atom 34 rfl rfl) (by decide) rfl ?_
    refine x_aload_n (pc' := 154) 1 (dX12_atom 35 rfl rfl) rfl rfl rfl ?_
    refine x_getR (pc' := 157) (dX12_atom 36 rfl rfl) g114 q858 (Or.inl rfl) rfl (hf_of 10 s7.1 rfl (by decide) m10_114) (s7.2 0 _ rfl rfl).1 ?_
    refine x_getR (pc' := 160) (dX12_atom 37 rfl rfl) g24 q323 (Or.inl rfl) rfl (hf_of 1 s1.1 rfl (by decide) m1_24) (s1.2 2 _ rfl rfl).1 ?_
    refine x_aload_n (pc' := 161) 1 (dX12_atom 38 rfl rfl) rfl rfl rfl ?_
    refine x_inv (pc' := 164) (ν := mX12_take) (av := [_]) (st := [_, _, _, _, _]) rfl rfl (dX12_atom 39 rfl rfl) (Nat.le_of_ble_eq_true rfl) wX12_take q226 (inv_V (k := 10) (dX12_atom 39 rfl rfl) q1316 q1318 qs15 wX12_take (by decide) lX12_take (by decide) s7.1) (exN (by decide)) rfl ?_
    refine C.mono hf (fun _ _ => KI.g (fun x76 h74 hf le75 => ?_))
    have k73 := leK le75 k73 (by decide)
    replace s1 := s1.le sc1 (le75)
    replace s7 := s7.le sc7 (le75)
    obtain ⟨i77, hf⟩ := hf
    refine x_iald (pc' := 165) (dX12_atom 40 rfl rfl) rfl (s1.2 2 _ rfl rfl).2.1 (by rw [(s1.2 2 _ rfl rfl).2.2.2 (by decide)]; exact i77) ?_
    refine x_sipush (pc' := 168) (v := 272) (dX12_atom 41 rfl rfl) (by decide) rfl ?_
    refine x_icmp_ne (pc' := 171) (tgt := 175) (dX12_atom 42 rfl rfl) (by decide) rfl (fun c78 => ?_) (fun c78 => ?_)
    · replace hf := hf.2 c78
      refine x_iconst (pc' := 176) (v := 0) (dX12_atom 45 rfl rfl) (by decide) rfl ?_
      refine x_inv (pc' := 179) (ν := mX37_init) (av := [_, _, _, _]) (st := [_]) rfl rfl (dX12_atom 46 rfl rfl) (Nat.le_of_ble_eq_true rfl) wX37_init q258 (inv_I (dX12_atom 46 rfl rfl) q1630 q1631 q1632 rfl (by decide) lX37_init) (fun b hb => by exact Or.inl (by have e : some _ = some b := hb; cases e; simp)) rfl ?_
      refine C.mono hf (fun _ _ => KV.g (fun h79 hf le80 => ?_))
      replace s1 := s1.leX sc1 le80 k73 (by decide)
      replace s7 := s7.leX sc7 le80 k73 (by decide)
      have k73 := leK le80 k73 (by decide)
      exact x_aret (dX12_atom 47 rfl rfl) rfl (Or.inl ⟨_, rfl⟩) (Or.inr ⟨_, rfl⟩) hf
    · replace hf := hf.1 (Classical.not_not.mp c78)
      replace c78 := Classical.not_not.mp c78
      refine x_iconst (pc' := 172) (v := 1) (dX12_atom 43 rfl rfl) (by decide) rfl ?_
      refine x_goto (tgt := 176) (dX12_atom 44 rfl rfl) (by decide) ?_
      refine x_inv (pc' := 179) (ν := mX37_init) (av := [_, _, _, _]) (st := [_]) rfl rfl (dX12_atom 46 rfl rfl) (Nat.le_of_ble_eq_true rfl) wX37_init q258 (inv_I (dX12_atom 46 rfl rfl) q1630 q1631 q1632 rfl (by decide) lX37_init) (fun b hb => by exact Or.inl (by have e : some _ = some b := hb; cases e; simp)) rfl ?_
      refine C.mono hf (fun _ _ => KV.g (fun h81 hf le82 => ?_))
      replace s1 := s1.leX sc1 le82 k73 (by decide)
      replace s7 := s7.leX sc7 le82 k73 (by decide)
      have k73 := leK le82 k73 (by decide)
      exact x_aret (dX12_atom 47 rfl rfl) rfl (Or.inl ⟨_, rfl⟩) (Or.inr ⟨_, rfl⟩) hf
  by_cases c56 : x4 = 273
  · replace hf := hf.2.2.2.2.2.2.1 c56
    refine x_ls (v := 273) (tgt := 147) (swX12_atom_9) (by decide) (by rw [c56]; decide) (by decide) ?_
    obtain ⟨n1, n2, hf⟩ := hf
    refine x_new (pc' := 150) (k := 34) (dX12_atom 31 rfl rfl) q1628 (by decide) rfl (by decide) n1 n2 (fun q83 h85 k84 e86 => ?_)
    replace hf := hf q83 k84 h85 e86
    replace s1 : So 1 (gW G) h85 := by rw [e86]; exact s1.le sc1 (nO_le k84)
    replace s7 : So 7 (gW G) h85 := by rw [e86]; exact s7.le sc7 (nO_le k84)
    have k87 : hK h85 q83 = 35 := by rw [e86]; exact kNOs
    refine x_dup (pc' := 151) (dX12_atom 32 rfl rfl) rfl rfl ?_
    refine x_iload_n (pc' := 152) 0 (dX12_atom 33 rfl rfl) rfl rfl rfl ?_
    refine x_iconst (pc' := 153) (v := 1) (dX12_atom 34 rfl rfl) (by decide) rfl ?_
    refine x_aload_n (pc' := 154) 1 (dX12_atom 35 rfl rfl) rfl rfl rfl ?_
    refine x_getR (pc' := 157) (dX12_atom 36 rfl rfl) g114 q858 (Or.inl rfl) rfl (hf_of 10 s7.1 rfl (by decide) m10_114) (s7.2 0 _ rfl rfl).1 ?_
    refine x_getR (pc' := 160) (dX12_atom 37 rfl rfl) g24 q323 (Or.inl rfl) rfl (hf_of 1 s1.1 rfl (by decide) m1_24) (s1.2 2 _ rfl rfl).1 ?_
    refine x_aload_n (pc' := 161) 1 (dX12_atom 38 rfl rfl) rfl rfl rfl ?_
    refine x_inv (pc' := 164) (ν := mX12_take) (av := [_]) (st := [_, _, _, _, _]) rfl rfl (dX12_atom 39 rfl rfl) (Nat.le_of_ble_eq_true rfl) wX12_take q226 (inv_V (k := 10) (dX12_atom 39 rfl rfl) q1316 q1318 qs15 wX12_take (by decide) lX12_take (by decide) s7.1) (exN (by decide)) rfl ?_
    refine C.mono hf (fun _ _ => KI.g (fun x90 h88 hf le89 => ?_))
    have k87 := leK le89 k87 (by decide)
    replace s1 := s1.le sc1 (le89)
    replace s7 := s7.le sc7 (le89)
    obtain ⟨i91, hf⟩ := hf
    refine x_iald (pc' := 165) (dX12_atom 40 rfl rfl) rfl (s1.2 2 _ rfl rfl).2.1 (by rw [(s1.2 2 _ rfl rfl).2.2.2 (by decide)]; exact i91) ?_
    refine x_sipush (pc' := 168) (v := 272) (dX12_atom 41 rfl rfl) (by decide) rfl ?_
    refine x_icmp_ne (pc' := 171) (tgt := 175) (dX12_atom 42 rfl rfl) (by decide) rfl (fun c92 => ?_) (fun c92 => ?_)
    · replace hf := hf.2 c92
      refine x_iconst (pc' := 176) (v := 0) (dX12_atom 45 rfl rfl) (by decide) rfl ?_
      refine x_inv (pc' := 179) (ν := mX37_init) (av := [_, _, _, _]) (st := [_]) rfl rfl (dX12_atom 46 rfl rfl) (Nat.le_of_ble_eq_true rfl) wX37_init q258 (inv_I (dX12_atom 46 rfl rfl) q1630 q1631 q1632 rfl (by decide) lX37_init) (fun b hb => by exact Or.inl (by have e : some _ = some b := hb; cases e; simp)) rfl ?_
      refine C.mono hf (fun _ _ => KV.g (fun h93 hf le94 => ?_))
      replace s1 := s1.leX sc1 le94 k87 (by decide)
      replace s7 := s7.leX sc7 le94 k87 (by decide)
      have k87 := leK le94 k87 (by decide)
      exact x_aret (dX12_atom 47 rfl rfl) rfl (Or.inl ⟨_, rfl⟩) (Or.inr ⟨_, rfl⟩) hf
    · replace hf := hf.1 (Classical.not_not.mp c92)
      replace c92 := Classical.not_not.mp c92
      refine x_iconst (pc' := 172) (v := 1) (dX12_atom 43 rfl rfl) (by decide) rfl ?_
      refine x_goto (tgt := 176) (dX12_atom 44 rfl rfl) (by decide) ?_
      refine x_inv (pc' := 179) (ν := mX37_init) (av := [_, _, _, _]) (st := [_]) rfl rfl (dX12_atom 46 rfl rfl) (Nat.le_of_ble_eq_true rfl) wX37_init q258 (inv_I (dX12_atom 46 rfl rfl) q1630 q1631 q1632 rfl (by decide) lX37_init) (fun b hb => by exact Or.inl (by have e : some _ = some b := hb; cases e; simp)) rfl ?_
      refine C.mono hf (fun _ _ => KV.g (fun h95 hf le96 => ?_))
      replace s1 := s1.leX sc1 le96 k87 (by decide)
      replace s7 := s7.leX sc7 le96 k87 (by decide)
      have k87 := leK le96 k87 (by decide)
      exact x_aret (dX12_atom 47 rfl rfl) rfl (Or.inl ⟨_, rfl⟩) (Or.inr ⟨_, rfl⟩) hf
  by_cases c57 : x4 = 280
  · replace hf := hf.2.2.2.2.2.2.2.1 c57
    refine x_ls (v := 280) (tgt := 100) (swX12_atom_9) (by decide) (by rw [c57]; decide) (by decide) ?_
    obtain ⟨n1, n2, hf⟩ := hf
    refine x_new (pc' := 103) (k := 32) (dX12_atom 6 rfl rfl) q1601 (by decide) rfl (by decide) n1 n2 (fun q97 h99 k98 e100 => ?_)
    replace hf := hf q97 k98 h99 e100
    replace s1 : So 1 (gW G) h99 := by rw [e100]; exact s1.le sc1 (nO_le k98)
    replace s7 : So 7 (gW G) h99 := by rw [e100]; exact s7.le sc7 (nO_le k98)
    have k101 : hK h99 q97 = 33 := by rw [e100]; exact kNOs
    refine x_dup (pc' := 104) (dX12_atom 7 rfl rfl) rfl rfl ?_
    refine x_aload_n (pc' := 105) 1 (dX12_atom 8 rfl rfl) rfl rfl rfl ?_
    refine x_inv (pc' := 108) (ν := mX12_take) (av := [_]) (st := [_, _]) rfl rfl (dX12_atom 9 rfl rfl) (Nat.le_of_ble_eq_true rfl) wX12_take q226 (inv_V (k := 10) (dX12_atom 9 rfl rfl) q1316 q1318 qs15 wX12_take (by decide) lX12_take (by decide) s7.1) (exN (by decide)) rfl ?_
    refine C.mono hf (fun _ _ => KI.g (fun x104 h102 hf le103 => ?_))
    have k101 := leK le103 k101 (by decide)
    replace s1 := s1.le sc1 (le103)
    replace s7 := s7.le sc7 (le103)
    refine x_inv (pc' := 111) (ν := mX35_init) (av := [_, _]) (st := [_]) rfl rfl (dX12_atom 10 rfl rfl) (Nat.le_of_ble_eq_true rfl) wX35_init q256 (inv_I (dX12_atom 10 rfl rfl) q1603 q1604 q1605 rfl (by decide) lX35_init) (fun b hb => by exact Or.inl (by have e : some _ = some b := hb; cases e; simp)) rfl ?_
    refine C.mono hf (fun _ _ => KV.g (fun h105 hf le106 => ?_))
    replace s1 := s1.leX sc1 le106 k101 (by decide)
    replace s7 := s7.leX sc7 le106 k101 (by decide)
    have k101 := leK le106 k101 (by decide)
    exact x_aret (dX12_atom 11 rfl rfl) rfl (Or.inl ⟨_, rfl⟩) (Or.inr ⟨_, rfl⟩) hf
  by_cases c58 : x4 = 281
  · replace hf := hf.2.2.2.2.2.2.2.2.1 c58
    refine x_ls (v := 281) (tgt := 112) (swX12_atom_9) (by decide) (by rw [c58]; decide) (by decide) ?_
    obtain ⟨n1, n2, hf⟩ := hf
    refine x_new (pc' := 115) (k := 33) (dX12_atom 12 rfl rfl) q1616 (by decide) rfl (by decide) n1 n2 (fun q107 h109 k108 e110 => ?_)
    replace hf := hf q107 k108 h109 e110
    replace s1 : So 1 (gW G) h109 := by rw [e110]; exact s1.le sc1 (nO_le k108)
    replace s7 : So 7 (gW G) h109 := by rw [e110]; exact s7.le sc7 (nO_le k108)
    have k111 : hK h109 q107 = 34 := by rw [e110]; exact kNOs
    refine x_dup (pc' := 116) (dX12_atom 13 rfl rfl) rfl rfl ?_
    refine x_aload_n (pc' := 117) 1 (dX12_atom 14 rfl rfl) rfl rfl rfl ?_
    refine x_inv (pc' := 120) (ν := mX12_take) (av := [_]) (st := [_, _]) rfl rfl (dX12_atom 15 rfl rfl) (Nat.le_of_ble_eq_true rfl) wX12_take q226 (inv_V (k := 10) (dX12_atom 15 rfl rfl) q1316 q1318 qs15 wX12_take (by decide) lX12_take (by decide) s7.1) (exN (by decide)) rfl ?_
    refine C.mono hf (fun _ _ => KI.g (fun x114 h112 hf le113 => ?_))
    have k111 := leK le113 k111 (by decide)
    replace s1 := s1.le sc1 (le113)
    replace s7 := s7.le sc7 (le113)
    refine x_inv (pc' := 123) (ν := mX36_init) (av := [_, _]) (st := [_]) rfl rfl (dX12_atom 16 rfl rfl) (Nat.le_of_ble_eq_true rfl) wX36_init q257 (inv_I (dX12_atom 16 rfl rfl) q1618 q1619 q1620 rfl (by decide) lX36_init) (fun b hb => by exact Or.inl (by have e : some _ = some b := hb; cases e; simp)) rfl ?_
    refine C.mono hf (fun _ _ => KV.g (fun h115 hf le116 => ?_))
    replace s1 := s1.leX sc1 le116 k111 (by decide)
    replace s7 := s7.leX sc7 le116 k111 (by decide)
    have k111 := leK le116 k111 (by decide)
    exact x_aret (dX12_atom 17 rfl rfl) rfl (Or.inl ⟨_, rfl⟩) (Or.inr ⟨_, rfl⟩) hf
  by_cases c59 : x4 = 283
  · replace hf := hf.2.2.2.2.2.2.2.2.2.1 c59
    refine x_ls (v := 283) (tgt := 124) (swX12_atom_9) (by decide) (by rw [c59]; decide) (by decide) ?_
    obtain ⟨n1, n2, hf⟩ := hf
    refine x_new (pc' := 127) (k := 34) (dX12_atom 18 rfl rfl) q1628 (by decide) rfl (by decide) n1 n2 (fun q117 h119 k118 e120 => ?_)
    replace hf := hf q117 k118 h119 e120
    replace s1 : So 1 (gW G) h119 := by rw [e120]; exact s1.le sc1 (nO_le k118)
    replace s7 : So 7 (gW G) h119 := by rw [e120]; exact s7.le sc7 (nO_le k118)
    have k121 : hK h119 q117 = 35 := by rw [e120]; exact kNOs
    refine x_dup (pc' := 128) (dX12_atom 19 rfl rfl) rfl rfl ?_
    refine x_iload_n (pc' := 129) 0 (dX12_atom 20 rfl rfl) rfl rfl rfl ?_
    refine x_iconst (pc' := 130) (v := 0) (dX12_atom 21 rfl rfl) (by decide) rfl ?_
    refine x_aload_n (pc' := 131) 1 (dX12_atom 22 rfl rfl) rfl rfl rfl ?_
    refine x_getR (pc' := 134) (dX12_atom 23 rfl rfl) g114 q858 (Or.inl rfl) rfl (hf_of 10 s7.1 rfl (by decide) m10_114) (s7.2 0 _ rfl rfl).1 ?_
    refine x_getR (pc' := 137) (dX12_atom 24 rfl rfl) g26 q334 (Or.inl rfl) rfl (hf_of 1 s1.1 rfl (by decide) m1_26) (s1.2 4 _ rfl rfl).1 ?_
    refine x_aload_n (pc' := 138) 1 (dX12_atom 25 rfl rfl) rfl rfl rfl ?_
    refine x_inv (pc' := 141) (ν := mX12_take) (av := [_]) (st := [_, _, _, _, _]) rfl rfl (dX12_atom 26 rfl rfl) (Nat.le_of_ble_eq_true rfl) wX12_take q226 (inv_V (k := 10) (dX12_atom 26 rfl rfl) q1316 q1318 qs15 wX12_take (by decide) lX12_take (by decide) s7.1) (exN (by decide)) rfl ?_
    refine C.mono hf (fun _ _ => KI.g (fun x124 h122 hf le123 => ?_))
    have k121 := leK le123 k121 (by decide)
    replace s1 := s1.le sc1 (le123)
    replace s7 := s7.le sc7 (le123)
    obtain ⟨i125, hf⟩ := hf
    refine x_lald (pc' := 142) (dX12_atom 27 rfl rfl) rfl (s1.2 4 _ rfl rfl).2.1 (by rw [(s1.2 4 _ rfl rfl).2.2.2 (by decide)]; exact i125) ?_
    refine x_l2i (pc' := 143) (dX12_atom 28 rfl rfl) rfl ?_
    refine x_inv (pc' := 146) (ν := mX37_init) (av := [_, _, _, _]) (st := [_]) rfl rfl (dX12_atom 29 rfl rfl) (Nat.le_of_ble_eq_true rfl) wX37_init q258 (inv_I (dX12_atom 29 rfl rfl) q1630 q1631 q1632 rfl (by decide) lX37_init) (fun b hb => by exact Or.inl (by have e : some _ = some b := hb; cases e; simp)) rfl ?_
    refine C.mono hf (fun _ _ => KV.g (fun h126 hf le127 => ?_))
    replace s1 := s1.leX sc1 le127 k121 (by decide)
    replace s7 := s7.leX sc7 le127 k121 (by decide)
    have k121 := leK le127 k121 (by decide)
    exact x_aret (dX12_atom 30 rfl rfl) rfl (Or.inl ⟨_, rfl⟩) (Or.inr ⟨_, rfl⟩) hf
  replace hf := hf.2.2.2.2.2.2.2.2.2.2 ⟨c50, c51, c52, c53, c54, c55, c56, c57, c58, c59⟩
  refine x_ld (vs := [33, 40, 91, 126, 266, 272, 273, 280, 281, 283]) (tgt := 302) (swX12_atom_9) (by decide) ?_ (by decide) (by decide) ?_
  · intro v hv
    simp only [List.mem_cons, List.not_mem_nil, or_false] at hv
    rcases hv with rfl | rfl | rfl | rfl | rfl | rfl | rfl | rfl | rfl | rfl
    · exact i32_ne (by decide) c50
    · exact i32_ne (by decide) c51
    · exact i32_ne (by decide) c52
    · exact i32_ne (by decide) c53
    · exact i32_ne (by decide) c54
    · exact i32_ne (by decide) c55
    · exact i32_ne (by decide) c56
    · exact i32_ne (by decide) c57
    · exact i32_ne (by decide) c58
    · exact i32_ne (by decide) c59
  · refine x_aload_n (pc' := 303) 1 (dX12_atom 114 rfl rfl) rfl rfl rfl ?_
    refine x_inv (pc' := 306) (ν := mX12_wrong) (av := [_]) (st := []) rfl rfl (dX12_atom 115 rfl rfl) (Nat.le_of_ble_eq_true rfl) wX12_wrong q226 (inv_V (k := 10) (dX12_atom 115 rfl rfl) q1289 q1291 qs14 wX12_wrong (by decide) lX12_wrong (by decide) s7.1) (exN (by decide)) rfl ?_
    refine C.mono hf (fun _ _ => KR.g (fun b130 h128 hf le129 => ?_))
    replace s1 := s1.le sc1 (le129)
    replace s7 := s7.le sc7 (le129)
    exact x_athrow (dX12_atom 116 rfl rfl) rfl hf
theorem bX12_atom_249 (G : Gh) (d : Nat) (h : AH) (Q : Outcome → AH → Prop) (l1 : Int32) (l3 : Nat) (s7 : So 7 (gW G) h) (hf : C G mX12_exp d [.ref (gW G 7)] h (KR Q (fun b3 h1 => hK h1 l3 = 6 ∧ (C G mX7_add d [.ref (l3), .ref (b3)] h1 (KV Q (fun h4 => C G mX12_skip d [.ref (gW G 7), .int (44)] h4 (KI Q (fun x9 h7 => (x9 = 0 → (∀ h11, h11 = pI h7 (gW G 7) 116 ((fI h7 (gW G 7) 116) - 1) → (C G mX12_expect d [.ref (gW G 7), .int (93)] h11 (KI Q (fun x14 h12 => (hc h12 + 1 ≤ MC) ∧ (hs h12 + 3 ≤ MS) ∧ ∀ q15, hK h12 q15 = 0 → ∀ h17, h17 = nO h12 q15 39 → (C G mX12_expsOf d [.ref (l3)] h17 (KR Q (fun b22 h20 => C G mX43_init d [.ref (q15), .int (l1), .ref (b22)] h20 (KV Q (fun h23 => Q (.returned (some (.ref (q15)))) h23)))))))))) ∧ (¬ x9 = 0 → (X G mX12_atom (d + 1) none [] 249 [(0, .ref (gW G 7)), (1, .int (l1)), (3, .ref (l3))] [] h7 Q)))))))))) : X G mX12_atom (d + 1) none [] 249 [(0, .ref (gW G 7)), (1, .int (l1)), (3, .ref (l3))] [] h Q := by
  refine x_aload_n (pc' := 250) 2 (dX12_atom 85 rfl rfl) rfl rfl rfl ?_
  refine x_aload_n (pc' := 251) 0 (dX12_atom 86 rfl rfl) rfl rfl rfl ?_
  refine x_inv (pc' := 254) (ν := mX12_exp) (av := [_]) (st := [_]) rfl rfl (dX12_atom 87 rfl rfl) (Nat.le_of_ble_eq_true rfl) wX12_exp q226 (inv_V (k := 10) (dX12_atom 87 rfl rfl) q1477 q1479 qs22 wX12_exp (by decide) lX12_exp (by decide) s7.1) (exN (by decide)) rfl ?_
  refine C.mono hf (fun _ _ => KR.g (fun b3 h1 hf le2 => ?_))
  replace s7 := s7.le sc7 (le2)
  obtain ⟨k6, hf⟩ := hf
  refine x_inv (pc' := 257) (ν := mX7_add) (av := [_, _]) (st := []) rfl rfl (dX12_atom 88 rfl rfl) (Nat.le_of_ble_eq_true rfl) wX7_add q221 (inv_V (k := 5) (dX12_atom 88 rfl rfl) q1401 q590 q591 wX7_add (by decide) lX7_add (by decide) k6) (exN (by decide)) rfl ?_
  refine C.mono hf (fun _ _ => KV.g (fun h4 hf le5 => ?_))
  have k6 := leK le5 k6 (by decide)
  replace s7 := s7.le sc7 (le5)
  refine x_aload_n (pc' := 258) 0 (dX12_atom 89 rfl rfl) rfl rfl rfl ?_
  refine x_bipush (pc' := 260) (v := 44) (dX12_atom 90 rfl rfl) (by decide) rfl ?_
  refine x_inv (pc' := 263) (ν := mX12_skip) (av := [_, _]) (st := []) rfl rfl (dX12_atom 91 rfl rfl) (Nat.le_of_ble_eq_true rfl) wX12_skip q226 (inv_V (k := 10) (dX12_atom 91 rfl rfl) q1511 q1513 qs24 wX12_skip (by decide) lX12_skip (by decide) s7.1) (exN (by decide)) rfl ?_
  refine C.mono hf (fun _ _ => KI.g (fun x9 h7 hf le8 => ?_))
  have k6 := leK le8 k6 (by decide)
  replace s7 := s7.le sc7 (le8)
  refine x_if_ne (pc' := 266) (tgt := 249) (dX12_atom 92 rfl rfl) (by decide) rfl (fun c10 => ?_) (fun c10 => ?_)
  · replace hf := hf.2 c10
    exact X.sub [0, 1, 2] rfl (by simp) hf
  · replace hf := hf.1 (Classical.not_not.mp c10)
    replace c10 := Classical.not_not.mp c10
    refine x_aload_n (pc' := 267) 0 (dX12_atom 93 rfl rfl) rfl rfl rfl ?_
    refine x_dup (pc' := 268) (dX12_atom 94 rfl rfl) rfl rfl ?_
    refine x_getI (pc' := 271) (dX12_atom 95 rfl rfl) g116 q860 (Or.inl rfl) rfl (hf_of 10 s7.1 rfl (by decide) m10_116) ?_
    refine x_iconst (pc' := 272) (v := 1) (dX12_atom 96 rfl rfl) (by decide) rfl ?_
    refine x_isub (pc' := 273) (dX12_atom 97 rfl rfl) rfl ?_
    refine x_putI (pc' := 276) (dX12_atom 98 rfl rfl) g116 q860 (Or.inl rfl) (Or.inl rfl) (Or.inl (by decide)) rfl (hf_of 10 s7.1 rfl (by decide) m10_116) (fun h11 e25 => ?_)
    replace hf := hf h11 e25
    replace k6 : hK h11 l3 = 6 := by rw [e25]; exact k6
    replace s7 : So 7 (gW G) h11 := by rw [e25]; exact s7.le sc7 (pI_le (Or.inl rfl))
    refine x_aload_n (pc' := 277) 0 (dX12_atom 99 rfl rfl) rfl rfl rfl ?_
    refine x_bipush (pc' := 279) (v := 93) (dX12_atom 100 rfl rfl) (by decide) rfl ?_
    refine x_inv (pc' := 282) (ν := mX12_expect) (av := [_, _]) (st := []) rfl rfl (dX12_atom 101 rfl rfl) (Nat.le_of_ble_eq_true rfl) wX12_expect q226 (inv_V (k := 10) (dX12_atom 101 rfl rfl) q1471 q1473 qs21 wX12_expect (by decide) lX12_expect (by decide) s7.1) (exN (by decide)) rfl ?_
    refine C.mono hf (fun _ _ => KI.g (fun x14 h12 hf le13 => ?_))
    have k6 := leK le13 k6 (by decide)
    replace s7 := s7.le sc7 (le13)
    refine x_istore_n (pc' := 283) (dX12_atom 102 rfl rfl) rfl (by decide) rfl rfl ?_
    obtain ⟨n1, n2, hf⟩ := hf
    refine x_new (pc' := 286) (k := 39) (dX12_atom 103 rfl rfl) q1712 (by decide) rfl (by decide) n1 n2 (fun q15 h17 k16 e18 => ?_)
    replace hf := hf q15 k16 h17 e18
    replace k6 : hK h17 l3 = 6 := by rw [e18]; exact kNO k6 (by decide) k16
    replace s7 : So 7 (gW G) h17 := by rw [e18]; exact s7.le sc7 (nO_le k16)
    have k19 : hK h17 q15 = 40 := by rw [e18]; exact kNOs
    refine x_dup (pc' := 287) (dX12_atom 104 rfl rfl) rfl rfl ?_
    refine x_iload_n (pc' := 288) 2 (dX12_atom 105 rfl rfl) rfl rfl rfl ?_
    refine x_aload_n (pc' := 289) 3 (dX12_atom 106 rfl rfl) rfl rfl rfl ?_
    refine x_inv (pc' := 292) (ν := mX12_expsOf) (av := [_]) (st := [_, _, _]) rfl rfl (dX12_atom 107 rfl rfl) (Nat.le_of_ble_eq_true rfl) wX12_expsOf q226 (inv_S (dX12_atom 107 rfl rfl) q1678 q1679 q226 wX12_expsOf (by decide) lX12_expsOf) (exN (by decide)) rfl ?_
    refine C.mono hf (fun _ _ => KR.g (fun b22 h20 hf le21 => ?_))
    have k6 := leK le21 k6 (by decide)
    have k19 := leK le21 k19 (by decide)
    replace s7 := s7.le sc7 (le21)
    refine x_inv (pc' := 295) (ν := mX43_init) (av := [_, _, _]) (st := [_]) rfl rfl (dX12_atom 108 rfl rfl) (Nat.le_of_ble_eq_true rfl) wX43_init q264 (inv_I (dX12_atom 108 rfl rfl) q1714 q1715 q1716 rfl (by decide) lX43_init) (fun b hb => by exact Or.inl (by have e : some _ = some b := hb; cases e; simp)) rfl ?_
    refine C.mono hf (fun _ _ => KV.g (fun h23 hf le24 => ?_))
    replace s7 := s7.leX sc7 le24 k19 (by decide)
    have k6 := leK le24 k6 (by decide)
    have k19 := leK le24 k19 (by decide)
    exact x_aret (dX12_atom 109 rfl rfl) rfl (Or.inl ⟨_, rfl⟩) (Or.inr ⟨_, rfl⟩) hf
theorem bX12_round (G : Gh) (d : Nat) (h : AH) (Q : Outcome → AH → Prop) (p1 : Int32) (s7 : So 7 (gW G) h) (hf : C G mX12_take d [.ref (gW G 7)] h (KI Q (fun x3 h1 => C G mX12_kind d [.ref (gW G 7)] h1 (KI Q (fun x6 h4 => (x6 = 41 → (C G mX12_take d [.ref (gW G 7)] h4 (KI Q (fun x27 h25 => (hc h25 + 1 ≤ MC) ∧ (hs h25 + 4 ≤ MS) ∧ ∀ q28, hK h25 q28 = 0 → ∀ h30, h30 = nO h25 q28 34 → (C G mX37_init d [.ref (q28), .int (p1), .int (2), .int (0)] h30 (KV Q (fun h33 => Q (.returned (some (.ref (q28)))) h33))))))) ∧ (¬ x6 = 41 → (∀ h8, h8 = pI h4 (gW G 7) 116 ((fI h4 (gW G 7) 116) + 1) → ((hc h8 + 1 ≤ MC) ∧ (hs h8 + 2 ≤ MS) ∧ ∀ q9, hK h8 q9 = 0 → ∀ h11, h11 = nO h8 q9 5 → (C G mX7_init d [.ref (q9)] h11 (KV Q (fun h14 => C G mX12_exp d [.ref (gW G 7)] h14 (KR Q (fun b18 h16 => C G mX7_add d [.ref (q9), .ref (b18)] h16 (KV Q (fun h19 => C G mX12_kind d [.ref (gW G 7)] h19 (KI Q (fun x23 h21 => X G mX12_round (d + 1) none [] 62 [(0, .ref (gW G 7)), (1, .int (p1)), (3, .ref (q9)), (4, .int (x23))] [] h21 Q))))))))))))))))) : C G mX12_round (d + 1) [.ref (gW G 7), .int (p1)] h Q := by
  refine C.of_X (by decide +kernel) (Nat.le_of_ble_eq_true rfl) wX12_round ?_
  show X G mX12_round (d + 1) none [] 0 [(0, .ref (gW G 7)), (1, .int (p1))] [] h Q
  refine x_aload_n (pc' := 1) 0 (dX12_round 0 rfl rfl) rfl rfl rfl ?_
  refine x_inv (pc' := 4) (ν := mX12_take) (av := [_]) (st := []) rfl rfl (dX12_round 1 rfl rfl) (Nat.le_of_ble_eq_true rfl) wX12_take q226 (inv_V (k := 10) (dX12_round 1 rfl rfl) q1316 q1318 qs15 wX12_take (by decide) lX12_take (by decide) s7.1) (exN (by decide)) rfl ?_
  refine C.mono hf (fun _ _ => KI.g (fun x3 h1 hf le2 => ?_))
  replace s7 := s7.le sc7 (le2)
  refine x_istore_n (pc' := 5) (dX12_round 2 rfl rfl) rfl (by decide) rfl rfl ?_
  refine x_aload_n (pc' := 6) 1 (dX12_round 3 rfl rfl) rfl rfl rfl ?_
  refine x_inv (pc' := 9) (ν := mX12_kind) (av := [_]) (st := []) rfl rfl (dX12_round 4 rfl rfl) (Nat.le_of_ble_eq_true rfl) wX12_kind q226 (inv_V (k := 10) (dX12_round 4 rfl rfl) q1281 q1283 qs12 wX12_kind (by decide) lX12_kind (by decide) s7.1) (exN (by decide)) rfl ?_
  refine C.mono hf (fun _ _ => KI.g (fun x6 h4 hf le5 => ?_))
  replace s7 := s7.le sc7 (le5)
  refine x_bipush (pc' := 11) (v := 41) (dX12_round 5 rfl rfl) (by decide) rfl ?_
  refine x_icmp_ne (pc' := 14) (tgt := 30) (dX12_round 6 rfl rfl) (by decide) rfl (fun c7 => ?_) (fun c7 => ?_)
  · replace hf := hf.2 c7
    refine x_aload_n (pc' := 31) 1 (dX12_round 17 rfl rfl) rfl rfl rfl ?_
    refine x_dup (pc' := 32) (dX12_round 18 rfl rfl) rfl rfl ?_
    refine x_getI (pc' := 35) (dX12_round 19 rfl rfl) g116 q860 (Or.inl rfl) rfl (hf_of 10 s7.1 rfl (by decide) m10_116) ?_
    refine x_iconst (pc' := 36) (v := 1) (dX12_round 20 rfl rfl) (by decide) rfl ?_
    refine x_iadd (pc' := 37) (dX12_round 21 rfl rfl) rfl ?_
    refine x_putI (pc' := 40) (dX12_round 22 rfl rfl) g116 q860 (Or.inl rfl) (Or.inl rfl) (Or.inl (by decide)) rfl (hf_of 10 s7.1 rfl (by decide) m10_116) (fun h8 e24 => ?_)
    replace hf := hf h8 e24
    replace s7 : So 7 (gW G) h8 := by rw [e24]; exact s7.le sc7 (pI_le (Or.inl rfl))
    obtain ⟨n1, n2, hf⟩ := hf
    refine x_new (pc' := 43) (k := 5) (dX12_round 23 rfl rfl) q1275 (by decide) rfl (by decide) n1 n2 (fun q9 h11 k10 e12 => ?_)
    replace hf := hf q9 k10 h11 e12
    replace s7 : So 7 (gW G) h11 := by rw [e12]; exact s7.le sc7 (nO_le k10)
    have k13 : hK h11 q9 = 6 := by rw [e12]; exact kNOs
    refine x_dup (pc' := 44) (dX12_round 24 rfl rfl) rfl rfl ?_
    refine x_inv (pc' := 47) (ν := mX7_init) (av := [_]) (st := [_]) rfl rfl (dX12_round 25 rfl rfl) (Nat.le_of_ble_eq_true rfl) wX7_init q221 (inv_N (host := "LetMill") (dX12_round 25 rfl rfl) (by decide) q560 q561 rfl (by decide) lX7_init) (fun b hb => by exact Or.inl (by have e : some _ = some b := hb; cases e; simp)) rfl ?_
    refine C.mono hf (fun _ _ => KV.g (fun h14 hf le15 => ?_))
    replace s7 := s7.leX sc7 le15 k13 (by decide)
    have k13 := leK le15 k13 (by decide)
    refine x_astore_n (pc' := 48) (dX12_round 26 rfl rfl) rfl (by decide) rfl rfl ?_
    refine x_aload_n (pc' := 49) 0 (dX12_round 27 rfl rfl) rfl rfl rfl ?_
    refine x_aload_n (pc' := 50) 2 (dX12_round 28 rfl rfl) rfl rfl rfl ?_
    refine x_inv (pc' := 53) (ν := mX12_exp) (av := [_]) (st := [_]) rfl rfl (dX12_round 29 rfl rfl) (Nat.le_of_ble_eq_true rfl) wX12_exp q226 (inv_V (k := 10) (dX12_round 29 rfl rfl) q1477 q1479 qs22 wX12_exp (by decide) lX12_exp (by decide) s7.1) (exN (by decide)) rfl ?_
    refine C.mono hf (fun _ _ => KR.g (fun b18 h16 hf le17 => ?_))
    have k13 := leK le17 k13 (by decide)
    replace s7 := s7.le sc7 (le17)
    refine x_inv (pc' := 56) (ν := mX7_add) (av := [_, _]) (st := []) rfl rfl (dX12_round 30 rfl rfl) (Nat.le_of_ble_eq_true rfl) wX7_add q221 (inv_V (k := 5) (dX12_round 30 rfl rfl) q1401 q590 q591 wX7_add (by decide) lX7_add (by decide) k13) (exN (by decide)) rfl ?_
    refine C.mono hf (fun _ _ => KV.g (fun h19 hf le20 => ?_))
    have k13 := leK le20 k13 (by decide)
    replace s7 := s7.le sc7 (le20)
    refine x_aload_n (pc' := 57) 2 (dX12_round 31 rfl rfl) rfl rfl rfl ?_
    refine x_inv (pc' := 60) (ν := mX12_kind) (av := [_]) (st := []) rfl rfl (dX12_round 32 rfl rfl) (Nat.le_of_ble_eq_true rfl) wX12_kind q226 (inv_V (k := 10) (dX12_round 32 rfl rfl) q1281 q1283 qs12 wX12_kind (by decide) lX12_kind (by decide) s7.1) (exN (by decide)) rfl ?_
    refine C.mono hf (fun _ _ => KI.g (fun x23 h21 hf le22 => ?_))
    have k13 := leK le22 k13 (by decide)
    replace s7 := s7.le sc7 (le22)
    refine x_istore (pc' := 62) (dX12_round 33 rfl rfl) (by decide) rfl rfl ?_
    exact X.sub [3, 4, 1, 0] rfl (by simp) hf
  · replace hf := hf.1 (Classical.not_not.mp c7)
    replace c7 := Classical.not_not.mp c7
    refine x_aload_n (pc' := 15) 1 (dX12_round 7 rfl rfl) rfl rfl rfl ?_
    refine x_inv (pc' := 18) (ν := mX12_take) (av := [_]) (st := []) rfl rfl (dX12_round 8 rfl rfl) (Nat.le_of_ble_eq_true rfl) wX12_take q226 (inv_V (k := 10) (dX12_round 8 rfl rfl) q1316 q1318 qs15 wX12_take (by decide) lX12_take (by decide) s7.1) (exN (by decide)) rfl ?_
    refine C.mono hf (fun _ _ => KI.g (fun x27 h25 hf le26 => ?_))
    replace s7 := s7.le sc7 (le26)
    refine x_istore_n (pc' := 19) (dX12_round 9 rfl rfl) rfl (by decide) rfl rfl ?_
    obtain ⟨n1, n2, hf⟩ := hf
    refine x_new (pc' := 22) (k := 34) (dX12_round 10 rfl rfl) q1628 (by decide) rfl (by decide) n1 n2 (fun q28 h30 k29 e31 => ?_)
    replace hf := hf q28 k29 h30 e31
    replace s7 : So 7 (gW G) h30 := by rw [e31]; exact s7.le sc7 (nO_le k29)
    have k32 : hK h30 q28 = 35 := by rw [e31]; exact kNOs
    refine x_dup (pc' := 23) (dX12_round 11 rfl rfl) rfl rfl ?_
    refine x_iload_n (pc' := 24) 2 (dX12_round 12 rfl rfl) rfl rfl rfl ?_
    refine x_iconst (pc' := 25) (v := 2) (dX12_round 13 rfl rfl) (by decide) rfl ?_
    refine x_iconst (pc' := 26) (v := 0) (dX12_round 14 rfl rfl) (by decide) rfl ?_
    refine x_inv (pc' := 29) (ν := mX37_init) (av := [_, _, _, _]) (st := [_]) rfl rfl (dX12_round 15 rfl rfl) (Nat.le_of_ble_eq_true rfl) wX37_init q258 (inv_I (dX12_round 15 rfl rfl) q1630 q1631 q1632 rfl (by decide) lX37_init) (fun b hb => by exact Or.inl (by have e : some _ = some b := hb; cases e; simp)) rfl ?_
    refine C.mono hf (fun _ _ => KV.g (fun h33 hf le34 => ?_))
    replace s7 := s7.leX sc7 le34 k32 (by decide)
    have k32 := leK le34 k32 (by decide)
    exact x_aret (dX12_round 16 rfl rfl) rfl (Or.inl ⟨_, rfl⟩) (Or.inr ⟨_, rfl⟩) hf
theorem bX12_round_62 (G : Gh) (d : Nat) (h : AH) (Q : Outcome → AH → Prop) (l1 : Int32) (l3 : Nat) (l4 : Int32) (s7 : So 7 (gW G) h) (hf : (l4 = 44 → (X G mX12_round (d + 1) none [] 76 [(0, .ref (gW G 7)), (1, .int (l1)), (3, .ref (l3)), (4, .int (l4))] [] h Q)) ∧ (¬ l4 = 44 → ((l4 = 59 → (X G mX12_round (d + 1) none [] 76 [(0, .ref (gW G 7)), (1, .int (l1)), (3, .ref (l3)), (4, .int (l4))] [] h Q)) ∧ (¬ l4 = 59 → (∀ h3, h3 = pI h (gW G 7) 116 ((fI h (gW G 7) 116) - 1) → (C G mX12_expect d [.ref (gW G 7), .int (41)] h3 (KI Q (fun x6 h4 => hK h4 l3 = 6 ∧ (((fI h4 l3 78) = 1 → ((hc h4 + 1 ≤ MC) ∧ (hs h4 + 3 ≤ MS) ∧ ∀ q20, hK h4 q20 = 0 → ∀ h22, h22 = nO h4 q20 36 → (C G mX7_exp d [.ref (l3), .int (0)] h22 (KR Q (fun b27 h25 => C G mX39_init d [.ref (q20), .int (l1), .ref (b27)] h25 (KV Q (fun h28 => Q (.returned (some (.ref (q20)))) h28))))))) ∧ (¬ ((fI h4 l3 78) = 1) → ((hc h4 + 1 ≤ MC) ∧ (hs h4 + 3 ≤ MS) ∧ ∀ q10, hK h4 q10 = 0 → ∀ h12, h12 = nO h4 q10 38 → (C G mX12_expsOf d [.ref (l3)] h12 (KR Q (fun b17 h15 => C G mX42_init d [.ref (q10), .int (l1), .ref (b17)] h15 (KV Q (fun h18 => Q (.returned (some (.ref (q10)))) h18)))))))))))))))) : X G mX12_round (d + 1) none [] 62 [(0, .ref (gW G 7)), (1, .int (l1)), (3, .ref (l3)), (4, .int (l4))] [] h Q := by
  refine x_iload (pc' := 64) 3 (dX12_round 34 rfl rfl) rfl rfl ?_
  refine x_bipush (pc' := 66) (v := 44) (dX12_round 35 rfl rfl) (by decide) rfl ?_
  refine x_icmp_eq (pc' := 69) (tgt := 76) (dX12_round 36 rfl rfl) (by decide) rfl (fun c1 => ?_) (fun c1 => ?_)
  · replace hf := hf.1 c1
    exact X.sub [0, 1, 2, 3] rfl (by simp) hf
  · replace hf := hf.2 c1
    refine x_iload (pc' := 71) 3 (dX12_round 37 rfl rfl) rfl rfl ?_
    refine x_bipush (pc' := 73) (v := 59) (dX12_round 38 rfl rfl) (by decide) rfl ?_
    refine x_icmp_ne (pc' := 76) (tgt := 122) (dX12_round 39 rfl rfl) (by decide) rfl (fun c2 => ?_) (fun c2 => ?_)
    · replace hf := hf.2 c2
      refine x_aload_n (pc' := 123) 0 (dX12_round 62 rfl rfl) rfl rfl rfl ?_
      refine x_dup (pc' := 124) (dX12_round 63 rfl rfl) rfl rfl ?_
      refine x_getI (pc' := 127) (dX12_round 64 rfl rfl) g116 q860 (Or.inl rfl) rfl (hf_of 10 s7.1 rfl (by decide) m10_116) ?_
      refine x_iconst (pc' := 128) (v := 1) (dX12_round 65 rfl rfl) (by decide) rfl ?_
      refine x_isub (pc' := 129) (dX12_round 66 rfl rfl) rfl ?_
      refine x_putI (pc' := 132) (dX12_round 67 rfl rfl) g116 q860 (Or.inl rfl) (Or.inl rfl) (Or.inl (by decide)) rfl (hf_of 10 s7.1 rfl (by decide) m10_116) (fun h3 e30 => ?_)
      replace hf := hf h3 e30
      replace s7 : So 7 (gW G) h3 := by rw [e30]; exact s7.le sc7 (pI_le (Or.inl rfl))
      refine x_aload_n (pc' := 133) 0 (dX12_round 68 rfl rfl) rfl rfl rfl ?_
      refine x_bipush (pc' := 135) (v := 41) (dX12_round 69 rfl rfl) (by decide) rfl ?_
      refine x_inv (pc' := 138) (ν := mX12_expect) (av := [_, _]) (st := []) rfl rfl (dX12_round 70 rfl rfl) (Nat.le_of_ble_eq_true rfl) wX12_expect q226 (inv_V (k := 10) (dX12_round 70 rfl rfl) q1471 q1473 qs21 wX12_expect (by decide) lX12_expect (by decide) s7.1) (exN (by decide)) rfl ?_
      refine C.mono hf (fun _ _ => KI.g (fun x6 h4 hf le5 => ?_))
      replace s7 := s7.le sc7 (le5)
      refine x_istore_n (pc' := 139) (dX12_round 71 rfl rfl) rfl (by decide) rfl rfl ?_
      refine x_aload_n (pc' := 140) 3 (dX12_round 72 rfl rfl) rfl rfl rfl ?_
      obtain ⟨k7, hf⟩ := hf
      refine x_getI (pc' := 143) (dX12_round 73 rfl rfl) g78 q578 (Or.inl rfl) rfl (hf_of 5 k7 rfl (by decide) m5_78) ?_
      refine x_iconst (pc' := 144) (v := 1) (dX12_round 74 rfl rfl) (by decide) rfl ?_
      refine x_icmp_ne (pc' := 147) (tgt := 161) (dX12_round 75 rfl rfl) (by decide) rfl (fun c8 => ?_) (fun c8 => ?_)
      · replace hf := hf.2 c8
        refine x_iload (pc' := 163) 4 (dX12_round 84 rfl rfl) rfl rfl ?_
        refine x_bipush (pc' := 165) (v := 44) (dX12_round 85 rfl rfl) (by decide) rfl ?_
        refine x_icmp_ne (pc' := 168) (tgt := 183) (dX12_round 86 rfl rfl) (by decide) rfl (fun c9 => ?_) (fun c9 => ?_)
        · obtain ⟨n1, n2, hf⟩ := hf
          refine x_new (pc' := 186) (k := 38) (dX12_round 94 rfl rfl) q1702 (by decide) rfl (by decide) n1 n2 (fun q10 h12 k11 e13 => ?_)
          replace hf := hf q10 k11 h12 e13
          replace k7 : hK h12 l3 = 6 := by rw [e13]; exact kNO k7 (by decide) k11
          replace s7 : So 7 (gW G) h12 := by rw [e13]; exact s7.le sc7 (nO_le k11)
          have k14 : hK h12 q10 = 39 := by rw [e13]; exact kNOs
          refine x_dup (pc' := 187) (dX12_round 95 rfl rfl) rfl rfl ?_
          refine x_iload_n (pc' := 188) 2 (dX12_round 96 rfl rfl) rfl rfl rfl ?_
          refine x_aload_n (pc' := 189) 3 (dX12_round 97 rfl rfl) rfl rfl rfl ?_
          refine x_inv (pc' := 192) (ν := mX12_expsOf) (av := [_]) (st := [_, _, _]) rfl rfl (dX12_round 98 rfl rfl) (Nat.le_of_ble_eq_true rfl) wX12_expsOf q226 (inv_S (dX12_round 98 rfl rfl) q1678 q1679 q226 wX12_expsOf (by decide) lX12_expsOf) (exN (by decide)) rfl ?_
          refine C.mono hf (fun _ _ => KR.g (fun b17 h15 hf le16 => ?_))
          have k7 := leK le16 k7 (by decide)
          have k14 := leK le16 k14 (by decide)
          replace s7 := s7.le sc7 (le16)
          refine x_inv (pc' := 195) (ν := mX42_init) (av := [_, _, _]) (st := [_]) rfl rfl (dX12_round 99 rfl rfl) (Nat.le_of_ble_eq_true rfl) wX42_init q263 (inv_I (dX12_round 99 rfl rfl) q1704 q1705 q1706 rfl (by decide) lX42_init) (fun b hb => by exact Or.inl (by have e : some _ = some b := hb; cases e; simp)) rfl ?_
          refine C.mono hf (fun _ _ => KV.g (fun h18 hf le19 => ?_))
          replace s7 := s7.leX sc7 le19 k14 (by decide)
          have k7 := leK le19 k7 (by decide)
          have k14 := leK le19 k14 (by decide)
          exact x_aret (dX12_round 100 rfl rfl) rfl (Or.inl ⟨_, rfl⟩) (Or.inr ⟨_, rfl⟩) hf
        · exact absurd c1 c9
      · replace hf := hf.1 (Classical.not_not.mp c8)
        replace c8 := Classical.not_not.mp c8
        obtain ⟨n1, n2, hf⟩ := hf
        refine x_new (pc' := 150) (k := 36) (dX12_round 76 rfl rfl) q1659 (by decide) rfl (by decide) n1 n2 (fun q20 h22 k21 e23 => ?_)
        replace hf := hf q20 k21 h22 e23
        replace k7 : hK h22 l3 = 6 := by rw [e23]; exact kNO k7 (by decide) k21
        replace s7 : So 7 (gW G) h22 := by rw [e23]; exact s7.le sc7 (nO_le k21)
        have k24 : hK h22 q20 = 37 := by rw [e23]; exact kNOs
        refine x_dup (pc' := 151) (dX12_round 77 rfl rfl) rfl rfl ?_
        refine x_iload_n (pc' := 152) 2 (dX12_round 78 rfl rfl) rfl rfl rfl ?_
        refine x_aload_n (pc' := 153) 3 (dX12_round 79 rfl rfl) rfl rfl rfl ?_
        refine x_iconst (pc' := 154) (v := 0) (dX12_round 80 rfl rfl) (by decide) rfl ?_
        refine x_inv (pc' := 157) (ν := mX7_exp) (av := [_, _]) (st := [_, _, _]) rfl rfl (dX12_round 81 rfl rfl) (Nat.le_of_ble_eq_true rfl) wX7_exp q221 (inv_V (k := 5) (dX12_round 81 rfl rfl) q1661 q1662 q1663 wX7_exp (by decide) lX7_exp (by decide) k7) (exN (by decide)) rfl ?_
        refine C.mono hf (fun _ _ => KR.g (fun b27 h25 hf le26 => ?_))
        have k7 := leK le26 k7 (by decide)
        have k24 := leK le26 k24 (by decide)
        replace s7 := s7.le sc7 (le26)
        refine x_inv (pc' := 160) (ν := mX39_init) (av := [_, _, _]) (st := [_]) rfl rfl (dX12_round 82 rfl rfl) (Nat.le_of_ble_eq_true rfl) wX39_init q260 (inv_I (dX12_round 82 rfl rfl) q1666 q1667 q1668 rfl (by decide) lX39_init) (fun b hb => by exact Or.inl (by have e : some _ = some b := hb; cases e; simp)) rfl ?_
        refine C.mono hf (fun _ _ => KV.g (fun h28 hf le29 => ?_))
        replace s7 := s7.leX sc7 le29 k24 (by decide)
        have k7 := leK le29 k7 (by decide)
        have k24 := leK le29 k24 (by decide)
        exact x_aret (dX12_round 83 rfl rfl) rfl (Or.inl ⟨_, rfl⟩) (Or.inr ⟨_, rfl⟩) hf
    · replace hf := hf.1 (Classical.not_not.mp c2)
      replace c2 := Classical.not_not.mp c2
      exact X.sub [0, 1, 2, 3] rfl (by simp) hf
theorem bX12_round_76 (G : Gh) (d : Nat) (h : AH) (Q : Outcome → AH → Prop) (l1 : Int32) (l3 : Nat) (l4 : Int32) (s7 : So 7 (gW G) h) (hf : C G mX12_kind d [.ref (gW G 7)] h (KI Q (fun x3 h1 => (x3 = l4 → ((l4 = 44 → (hK h1 l3 = 6 ∧ (((fI h1 l3 78) = 6 → (C G mX12_wrong d [.ref (gW G 7)] h1 (KR Q (fun b65 h63 => Q (.threw b65) h63)))) ∧ (¬ ((fI h1 l3 78) = 6) → (C G mX12_take d [.ref (gW G 7)] h1 (KI Q (fun x57 h55 => C G mX12_exp d [.ref (gW G 7)] h55 (KR Q (fun b60 h58 => C G mX7_add d [.ref (l3), .ref (b60)] h58 (KV Q (fun h61 => X G mX12_round (d + 1) none [] 62 [(0, .ref (gW G 7)), (1, .int (l1)), (3, .ref (l3)), (4, .int (l4))] [] h61 Q))))))))))) ∧ (¬ l4 = 44 → (C G mX12_take d [.ref (gW G 7)] h1 (KI Q (fun x46 h44 => C G mX12_exp d [.ref (gW G 7)] h44 (KR Q (fun b49 h47 => hK h47 l3 = 6 ∧ (C G mX7_add d [.ref (l3), .ref (b49)] h47 (KV Q (fun h50 => X G mX12_round (d + 1) none [] 62 [(0, .ref (gW G 7)), (1, .int (l1)), (3, .ref (l3)), (4, .int (l4))] [] h50 Q))))))))))) ∧ (¬ x3 = l4 → (∀ h5, h5 = pI h1 (gW G 7) 116 ((fI h1 (gW G 7) 116) - 1) → (C G mX12_expect d [.ref (gW G 7), .int (41)] h5 (KI Q (fun x8 h6 => hK h6 l3 = 6 ∧ (((fI h6 l3 78) = 1 → ((hc h6 + 1 ≤ MC) ∧ (hs h6 + 3 ≤ MS) ∧ ∀ q32, hK h6 q32 = 0 → ∀ h34, h34 = nO h6 q32 36 → (C G mX7_exp d [.ref (l3), .int (0)] h34 (KR Q (fun b39 h37 => C G mX39_init d [.ref (q32), .int (l1), .ref (b39)] h37 (KV Q (fun h40 => Q (.returned (some (.ref (q32)))) h40))))))) ∧ (¬ ((fI h6 l3 78) = 1) → ((l4 = 44 → ((hc h6 + 1 ≤ MC) ∧ (hs h6 + 3 ≤ MS) ∧ ∀ q22, hK h6 q22 = 0 → ∀ h24, h24 = nO h6 q22 37 → (C G mX12_expsOf d [.ref (l3)] h24 (KR Q (fun b29 h27 => C G mX41_init d [.ref (q22), .int (l1), .ref (b29)] h27 (KV Q (fun h30 => Q (.returned (some (.ref (q22)))) h30))))))) ∧ (¬ l4 = 44 → ((hc h6 + 1 ≤ MC) ∧ (hs h6 + 3 ≤ MS) ∧ ∀ q12, hK h6 q12 = 0 → ∀ h14, h14 = nO h6 q12 38 → (C G mX12_expsOf d [.ref (l3)] h14 (KR Q (fun b19 h17 => C G mX42_init d [.ref (q12), .int (l1), .ref (b19)] h17 (KV Q (fun h20 => Q (.returned (some (.ref (q12)))) h20)))))))))))))))))) : X G mX12_round (d + 1) none [] 76 [(0, .ref (gW G 7)), (1, .int (l1)), (3, .ref (l3)), (4, .int (l4))] [] h Q := by
  refine x_aload_n (pc' := 77) 0 (dX12_round 40 rfl rfl) rfl rfl rfl ?_
  refine x_inv (pc' := 80) (ν := mX12_kind) (av := [_]) (st := []) rfl rfl (dX12_round 41 rfl rfl) (Nat.le_of_ble_eq_true rfl) wX12_kind q226 (inv_V (k := 10) (dX12_round 41 rfl rfl) q1281 q1283 qs12 wX12_kind (by decide) lX12_kind (by decide) s7.1) (exN (by decide)) rfl ?_
  refine C.mono hf (fun _ _ => KI.g (fun x3 h1 hf le2 => ?_))
  replace s7 := s7.le sc7 (le2)
  refine x_iload (pc' := 82) 3 (dX12_round 42 rfl rfl) rfl rfl ?_
  refine x_icmp_ne (pc' := 85) (tgt := 122) (dX12_round 43 rfl rfl) (by decide) rfl (fun c4 => ?_) (fun c4 => ?_)
  · replace hf := hf.2 c4
    refine x_aload_n (pc' := 123) 0 (dX12_round 62 rfl rfl) rfl rfl rfl ?_
    refine x_dup (pc' := 124) (dX12_round 63 rfl rfl) rfl rfl ?_
    refine x_getI (pc' := 127) (dX12_round 64 rfl rfl) g116 q860 (Or.inl rfl) rfl (hf_of 10 s7.1 rfl (by decide) m10_116) ?_
    refine x_iconst (pc' := 128) (v := 1) (dX12_round 65 rfl rfl) (by decide) rfl ?_
    refine x_isub (pc' := 129) (dX12_round 66 rfl rfl) rfl ?_
    refine x_putI (pc' := 132) (dX12_round 67 rfl rfl) g116 q860 (Or.inl rfl) (Or.inl rfl) (Or.inl (by decide)) rfl (hf_of 10 s7.1 rfl (by decide) m10_116) (fun h5 e42 => ?_)
    replace hf := hf h5 e42
    replace s7 : So 7 (gW G) h5 := by rw [e42]; exact s7.le sc7 (pI_le (Or.inl rfl))
    refine x_aload_n (pc' := 133) 0 (dX12_round 68 rfl rfl) rfl rfl rfl ?_
    refine x_bipush (pc' := 135) (v := 41) (dX12_round 69 rfl rfl) (by decide) rfl ?_
    refine x_inv (pc' := 138) (ν := mX12_expect) (av := [_, _]) (st := []) rfl rfl (dX12_round 70 rfl rfl) (Nat.le_of_ble_eq_true rfl) wX12_expect q226 (inv_V (k := 10) (dX12_round 70 rfl rfl) q1471 q1473 qs21 wX12_expect (by decide) lX12_expect (by decide) s7.1) (exN (by decide)) rfl ?_
    refine C.mono hf (fun _ _ => KI.g (fun x8 h6 hf le7 => ?_))
    replace s7 := s7.le sc7 (le7)
    refine x_istore_n (pc' := 139) (dX12_round 71 rfl rfl) rfl (by decide) rfl rfl ?_
    refine x_aload_n (pc' := 140) 3 (dX12_round 72 rfl rfl) rfl rfl rfl ?_
    obtain ⟨k9, hf⟩ := hf
    refine x_getI (pc' := 143) (dX12_round 73 rfl rfl) g78 q578 (Or.inl rfl) rfl (hf_of 5 k9 rfl (by decide) m5_78) ?_
    refine x_iconst (pc' := 144) (v := 1) (dX12_round 74 rfl rfl) (by decide) rfl ?_
    refine x_icmp_ne (pc' := 147) (tgt := 161) (dX12_round 75 rfl rfl) (by decide) rfl (fun c10 => ?_) (fun c10 => ?_)
    · replace hf := hf.2 c10
      refine x_iload (pc' := 163) 4 (dX12_round 84 rfl rfl) rfl rfl ?_
      refine x_bipush (pc' := 165) (v := 44) (dX12_round 85 rfl rfl) (by decide) rfl ?_
      refine x_icmp_ne (pc' := 168) (tgt := 183) (dX12_round 86 rfl rfl) (by decide) rfl (fun c11 => ?_) (fun c11 => ?_)
      · replace hf := hf.2 c11
        obtain ⟨n1, n2, hf⟩ := hf
        refine x_new (pc' := 186) (k := 38) (dX12_round 94 rfl rfl) q1702 (by decide) rfl (by decide) n1 n2 (fun q12 h14 k13 e15 => ?_)
        replace hf := hf q12 k13 h14 e15
        replace k9 : hK h14 l3 = 6 := by rw [e15]; exact kNO k9 (by decide) k13
        replace s7 : So 7 (gW G) h14 := by rw [e15]; exact s7.le sc7 (nO_le k13)
        have k16 : hK h14 q12 = 39 := by rw [e15]; exact kNOs
        refine x_dup (pc' := 187) (dX12_round 95 rfl rfl) rfl rfl ?_
        refine x_iload_n (pc' := 188) 2 (dX12_round 96 rfl rfl) rfl rfl rfl ?_
        refine x_aload_n (pc' := 189) 3 (dX12_round 97 rfl rfl) rfl rfl rfl ?_
        refine x_inv (pc' := 192) (ν := mX12_expsOf) (av := [_]) (st := [_, _, _]) rfl rfl (dX12_round 98 rfl rfl) (Nat.le_of_ble_eq_true rfl) wX12_expsOf q226 (inv_S (dX12_round 98 rfl rfl) q1678 q1679 q226 wX12_expsOf (by decide) lX12_expsOf) (exN (by decide)) rfl ?_
        refine C.mono hf (fun _ _ => KR.g (fun b19 h17 hf le18 => ?_))
        have k9 := leK le18 k9 (by decide)
        have k16 := leK le18 k16 (by decide)
        replace s7 := s7.le sc7 (le18)
        refine x_inv (pc' := 195) (ν := mX42_init) (av := [_, _, _]) (st := [_]) rfl rfl (dX12_round 99 rfl rfl) (Nat.le_of_ble_eq_true rfl) wX42_init q263 (inv_I (dX12_round 99 rfl rfl) q1704 q1705 q1706 rfl (by decide) lX42_init) (fun b hb => by exact Or.inl (by have e : some _ = some b := hb; cases e; simp)) rfl ?_
        refine C.mono hf (fun _ _ => KV.g (fun h20 hf le21 => ?_))
        replace s7 := s7.leX sc7 le21 k16 (by decide)
        have k9 := leK le21 k9 (by decide)
        have k16 := leK le21 k16 (by decide)
        exact x_aret (dX12_round 100 rfl rfl) rfl (Or.inl ⟨_, rfl⟩) (Or.inr ⟨_, rfl⟩) hf
      · replace hf := hf.1 (Classical.not_not.mp c11)
        replace c11 := Classical.not_not.mp c11
        obtain ⟨n1, n2, hf⟩ := hf
        refine x_new (pc' := 171) (k := 37) (dX12_round 87 rfl rfl) q1676 (by decide) rfl (by decide) n1 n2 (fun q22 h24 k23 e25 => ?_)
        replace hf := hf q22 k23 h24 e25
        replace k9 : hK h24 l3 = 6 := by rw [e25]; exact kNO k9 (by decide) k23
        replace s7 : So 7 (gW G) h24 := by rw [e25]; exact s7.le sc7 (nO_le k23)
        have k26 : hK h24 q22 = 38 := by rw [e25]; exact kNOs
        refine x_dup (pc' := 172) (dX12_round 88 rfl rfl) rfl rfl ?_
        refine x_iload_n (pc' := 173) 2 (dX12_round 89 rfl rfl) rfl rfl rfl ?_
        refine x_aload_n (pc' := 174) 3 (dX12_round 90 rfl rfl) rfl rfl rfl ?_
        refine x_inv (pc' := 177) (ν := mX12_expsOf) (av := [_]) (st := [_, _, _]) rfl rfl (dX12_round 91 rfl rfl) (Nat.le_of_ble_eq_true rfl) wX12_expsOf q226 (inv_S (dX12_round 91 rfl rfl) q1678 q1679 q226 wX12_expsOf (by decide) lX12_expsOf) (exN (by decide)) rfl ?_
        refine C.mono hf (fun _ _ => KR.g (fun b29 h27 hf le28 => ?_))
        have k9 := leK le28 k9 (by decide)
        have k26 := leK le28 k26 (by decide)
        replace s7 := s7.le sc7 (le28)
        refine x_inv (pc' := 180) (ν := mX41_init) (av := [_, _, _]) (st := [_]) rfl rfl (dX12_round 92 rfl rfl) (Nat.le_of_ble_eq_true rfl) wX41_init q262 (inv_I (dX12_round 92 rfl rfl) q1683 q1684 q1685 rfl (by decide) lX41_init) (fun b hb => by exact Or.inl (by have e : some _ = some b := hb; cases e; simp)) rfl ?_
        refine C.mono hf (fun _ _ => KV.g (fun h30 hf le31 => ?_))
        replace s7 := s7.leX sc7 le31 k26 (by decide)
        have k9 := leK le31 k9 (by decide)
        have k26 := leK le31 k26 (by decide)
        refine x_goto (tgt := 195) (dX12_round 93 rfl rfl) (by decide) ?_
        exact x_aret (dX12_round 100 rfl rfl) rfl (Or.inl ⟨_, rfl⟩) (Or.inr ⟨_, rfl⟩) hf
    · replace hf := hf.1 (Classical.not_not.mp c10)
      replace c10 := Classical.not_not.mp c10
      obtain ⟨n1, n2, hf⟩ := hf
      refine x_new (pc' := 150) (k := 36) (dX12_round 76 rfl rfl) q1659 (by decide) rfl (by decide) n1 n2 (fun q32 h34 k33 e35 => ?_)
      replace hf := hf q32 k33 h34 e35
      replace k9 : hK h34 l3 = 6 := by rw [e35]; exact kNO k9 (by decide) k33
      replace s7 : So 7 (gW G) h34 := by rw [e35]; exact s7.le sc7 (nO_le k33)
      have k36 : hK h34 q32 = 37 := by rw [e35]; exact kNOs
      refine x_dup (pc' := 151) (dX12_round 77 rfl rfl) rfl rfl ?_
      refine x_iload_n (pc' := 152) 2 (dX12_round 78 rfl rfl) rfl rfl rfl ?_
      refine x_aload_n (pc' := 153) 3 (dX12_round 79 rfl rfl) rfl rfl rfl ?_
      refine x_iconst (pc' := 154) (v := 0) (dX12_round 80 rfl rfl) (by decide) rfl ?_
      refine x_inv (pc' := 157) (ν := mX7_exp) (av := [_, _]) (st := [_, _, _]) rfl rfl (dX12_round 81 rfl rfl) (Nat.le_of_ble_eq_true rfl) wX7_exp q221 (inv_V (k := 5) (dX12_round 81 rfl rfl) q1661 q1662 q1663 wX7_exp (by decide) lX7_exp (by decide) k9) (exN (by decide)) rfl ?_
      refine C.mono hf (fun _ _ => KR.g (fun b39 h37 hf le38 => ?_))
      have k9 := leK le38 k9 (by decide)
      have k36 := leK le38 k36 (by decide)
      replace s7 := s7.le sc7 (le38)
      refine x_inv (pc' := 160) (ν := mX39_init) (av := [_, _, _]) (st := [_]) rfl rfl (dX12_round 82 rfl rfl) (Nat.le_of_ble_eq_true rfl) wX39_init q260 (inv_I (dX12_round 82 rfl rfl) q1666 q1667 q1668 rfl (by decide) lX39_init) (fun b hb => by exact Or.inl (by have e : some _ = some b := hb; cases e; simp)) rfl ?_
      refine C.mono hf (fun _ _ => KV.g (fun h40 hf le41 => ?_))
      replace s7 := s7.leX sc7 le41 k36 (by decide)
      have k9 := leK le41 k9 (by decide)
      have k36 := leK le41 k36 (by decide)
      exact x_aret (dX12_round 83 rfl rfl) rfl (Or.inl ⟨_, rfl⟩) (Or.inr ⟨_, rfl⟩) hf
  · replace hf := hf.1 (Classical.not_not.mp c4)
    replace c4 := Classical.not_not.mp c4
    refine x_iload (pc' := 87) 3 (dX12_round 44 rfl rfl) rfl rfl ?_
    refine x_bipush (pc' := 89) (v := 44) (dX12_round 45 rfl rfl) (by decide) rfl ?_
    refine x_icmp_ne (pc' := 92) (tgt := 106) (dX12_round 46 rfl rfl) (by decide) rfl (fun c43 => ?_) (fun c43 => ?_)
    · replace hf := hf.2 c43
      refine x_aload_n (pc' := 107) 0 (dX12_round 54 rfl rfl) rfl rfl rfl ?_
      refine x_inv (pc' := 110) (ν := mX12_take) (av := [_]) (st := []) rfl rfl (dX12_round 55 rfl rfl) (Nat.le_of_ble_eq_true rfl) wX12_take q226 (inv_V (k := 10) (dX12_round 55 rfl rfl) q1316 q1318 qs15 wX12_take (by decide) lX12_take (by decide) s7.1) (exN (by decide)) rfl ?_
      refine C.mono hf (fun _ _ => KI.g (fun x46 h44 hf le45 => ?_))
      replace s7 := s7.le sc7 (le45)
      refine x_istore_n (pc' := 111) (dX12_round 56 rfl rfl) rfl (by decide) rfl rfl ?_
      refine x_aload_n (pc' := 112) 3 (dX12_round 57 rfl rfl) rfl rfl rfl ?_
      refine x_aload_n (pc' := 113) 1 (dX12_round 58 rfl rfl) rfl rfl rfl ?_
      refine x_inv (pc' := 116) (ν := mX12_exp) (av := [_]) (st := [_]) rfl rfl (dX12_round 59 rfl rfl) (Nat.le_of_ble_eq_true rfl) wX12_exp q226 (inv_V (k := 10) (dX12_round 59 rfl rfl) q1477 q1479 qs22 wX12_exp (by decide) lX12_exp (by decide) s7.1) (exN (by decide)) rfl ?_
      refine C.mono hf (fun _ _ => KR.g (fun b49 h47 hf le48 => ?_))
      replace s7 := s7.le sc7 (le48)
      obtain ⟨k52, hf⟩ := hf
      refine x_inv (pc' := 119) (ν := mX7_add) (av := [_, _]) (st := []) rfl rfl (dX12_round 60 rfl rfl) (Nat.le_of_ble_eq_true rfl) wX7_add q221 (inv_V (k := 5) (dX12_round 60 rfl rfl) q1401 q590 q591 wX7_add (by decide) lX7_add (by decide) k52) (exN (by decide)) rfl ?_
      refine C.mono hf (fun _ _ => KV.g (fun h50 hf le51 => ?_))
      have k52 := leK le51 k52 (by decide)
      replace s7 := s7.le sc7 (le51)
      refine x_goto (tgt := 62) (dX12_round 61 rfl rfl) (by decide) ?_
      exact X.sub [1, 2, 3, 4] rfl (by simp) hf
    · replace hf := hf.1 (Classical.not_not.mp c43)
      replace c43 := Classical.not_not.mp c43
      refine x_aload_n (pc' := 93) 2 (dX12_round 47 rfl rfl) rfl rfl rfl ?_
      obtain ⟨k53, hf⟩ := hf
      refine x_getI (pc' := 96) (dX12_round 48 rfl rfl) g78 q578 (Or.inl rfl) rfl (hf_of 5 k53 rfl (by decide) m5_78) ?_
      refine x_bipush (pc' := 98) (v := 6) (dX12_round 49 rfl rfl) (by decide) rfl ?_
      refine x_icmp_ne (pc' := 101) (tgt := 106) (dX12_round 50 rfl rfl) (by decide) rfl (fun c54 => ?_) (fun c54 => ?_)
      · replace hf := hf.2 c54
        refine x_aload_n (pc' := 107) 0 (dX12_round 54 rfl rfl) rfl rfl rfl ?_
        refine x_inv (pc' := 110) (ν := mX12_take) (av := [_]) (st := []) rfl rfl (dX12_round 55 rfl rfl) (Nat.le_of_ble_eq_true rfl) wX12_take q226 (inv_V (k := 10) (dX12_round 55 rfl rfl) q1316 q1318 qs15 wX12_take (by decide) lX12_take (by decide) s7.1) (exN (by decide)) rfl ?_
        refine C.mono hf (fun _ _ => KI.g (fun x57 h55 hf le56 => ?_))
        have k53 := leK le56 k53 (by decide)
        replace s7 := s7.le sc7 (le56)
        refine x_istore_n (pc' := 111) (dX12_round 56 rfl rfl) rfl (by decide) rfl rfl ?_
        refine x_aload_n (pc' := 112) 3 (dX12_round 57 rfl rfl) rfl rfl rfl ?_
        refine x_aload_n (pc' := 113) 1 (dX12_round 58 rfl rfl) rfl rfl rfl ?_
        refine x_inv (pc' := 116) (ν := mX12_exp) (av := [_]) (st := [_]) rfl rfl (dX12_round 59 rfl rfl) (Nat.le_of_ble_eq_true rfl) wX12_exp q226 (inv_V (k := 10) (dX12_round 59 rfl rfl) q1477 q1479 qs22 wX12_exp (by decide) lX12_exp (by decide) s7.1) (exN (by decide)) rfl ?_
        refine C.mono hf (fun _ _ => KR.g (fun b60 h58 hf le59 => ?_))
        have k53 := leK le59 k53 (by decide)
        replace s7 := s7.le sc7 (le59)
        refine x_inv (pc' := 119) (ν := mX7_add) (av := [_, _]) (st := []) rfl rfl (dX12_round 60 rfl rfl) (Nat.le_of_ble_eq_true rfl) wX7_add q221 (inv_V (k := 5) (dX12_round 60 rfl rfl) q1401 q590 q591 wX7_add (by decide) lX7_add (by decide) k53) (exN (by decide)) rfl ?_
        refine C.mono hf (fun _ _ => KV.g (fun h61 hf le62 => ?_))
        have k53 := leK le62 k53 (by decide)
        replace s7 := s7.le sc7 (le62)
        refine x_goto (tgt := 62) (dX12_round 61 rfl rfl) (by decide) ?_
        exact X.sub [1, 2, 3, 4] rfl (by simp) hf
      · replace hf := hf.1 (Classical.not_not.mp c54)
        replace c54 := Classical.not_not.mp c54
        refine x_aload_n (pc' := 102) 0 (dX12_round 51 rfl rfl) rfl rfl rfl ?_
        refine x_inv (pc' := 105) (ν := mX12_wrong) (av := [_]) (st := []) rfl rfl (dX12_round 52 rfl rfl) (Nat.le_of_ble_eq_true rfl) wX12_wrong q226 (inv_V (k := 10) (dX12_round 52 rfl rfl) q1289 q1291 qs14 wX12_wrong (by decide) lX12_wrong (by decide) s7.1) (exN (by decide)) rfl ?_
        refine C.mono hf (fun _ _ => KR.g (fun b65 h63 hf le64 => ?_))
        have k53 := leK le64 k53 (by decide)
        replace s7 := s7.le sc7 (le64)
        exact x_athrow (dX12_round 53 rfl rfl) rfl hf
theorem bX12_expsOf (G : Gh) (d : Nat) (h : AH) (Q : Outcome → AH → Prop) (p0 : Nat) (hf : hK h p0 = 6 ∧ ((¬ (fI h p0 78 : Int32) < 0) ∧ (hc h + 1 ≤ MC) ∧ (hs h + (fI h p0 78 : Int32).toNatClampNeg ≤ MS) ∧ ∀ q2, hK h q2 = 0 → ∀ h4, h4 = nA h q2 9 (fI h p0 78 : Int32).toNatClampNeg → (X G mX12_expsOf (d + 1) none [] 10 [(0, .ref (p0)), (1, .ref (q2)), (2, .int (0))] [] h4 Q))) : C G mX12_expsOf (d + 1) [.ref (p0)] h Q := by
  refine C.of_X (by decide +kernel) (Nat.le_of_ble_eq_true rfl) wX12_expsOf ?_
  show X G mX12_expsOf (d + 1) none [] 0 [(0, .ref (p0))] [] h Q
  refine x_aload_n (pc' := 1) 0 (dX12_expsOf 0 rfl rfl) rfl rfl rfl ?_
  obtain ⟨k1, hf⟩ := hf
  refine x_getI (pc' := 4) (dX12_expsOf 1 rfl rfl) g78 q578 (Or.inl rfl) rfl (hf_of 5 k1 rfl (by decide) m5_78) ?_
  obtain ⟨z6, n1, n2, hf⟩ := hf
  refine x_newq (pc' := 7) (t := 9) (E := "LetMill$Exp") (dX12_expsOf 2 rfl rfl) q1681 (by decide) (by decide) rfl rfl z6 (by decide) n1 n2 (fun q2 h4 k3 e5 => ?_)
  replace hf := hf q2 k3 h4 e5
  replace k1 : hK h4 p0 = 6 := by rw [e5]; exact kNA k1 (by decide) k3
  have k7 : hK h4 q2 = 1009 := by rw [e5]; exact kNAs
  refine x_astore_n (pc' := 8) (dX12_expsOf 3 rfl rfl) rfl (by decide) rfl rfl ?_
  refine x_iconst (pc' := 9) (v := 0) (dX12_expsOf 4 rfl rfl) (by decide) rfl ?_
  refine x_istore_n (pc' := 10) (dX12_expsOf 5 rfl rfl) rfl (by decide) rfl rfl ?_
  exact X.sub [2, 1, 0] rfl (by simp) hf
theorem bX12_expsOf_10 (G : Gh) (d : Nat) (h : AH) (Q : Outcome → AH → Prop) (l0 : Nat) (l1 : Nat) (l2 : Int32) (hf : hK h l0 = 6 ∧ (((fI h l0 78) ≤ l2 → (Q (.returned (some (.ref (l1)))) h)) ∧ (¬ ((fI h l0 78) ≤ l2) → (C G mX7_exp d [.ref (l0), .int (l2)] h (KR Q (fun b5 h3 => hK h3 l1 = 1009 ∧ Ns (gW G) l1 ∧ vp_in l2 (hL h3 l1) ∧ AOK G h3 b5 9 "LetMill$Exp" ∧ ∀ h8, h8 = sR h3 l1 l2.toNatClampNeg (some b5) → (∀ x11 : Int32, x11 = l2 + 1 → (X G mX12_expsOf (d + 1) none [] 10 [(0, .ref (l0)), (1, .ref (l1)), (2, .int (x11))] [] h8 Q)))))))) : X G mX12_expsOf (d + 1) none [] 10 [(0, .ref (l0)), (1, .ref (l1)), (2, .int (l2))] [] h Q := by
  refine x_iload_n (pc' := 11) 2 (dX12_expsOf 6 rfl rfl) rfl rfl rfl ?_
  refine x_aload_n (pc' := 12) 0 (dX12_expsOf 7 rfl rfl) rfl rfl rfl ?_
  obtain ⟨k1, hf⟩ := hf
  refine x_getI (pc' := 15) (dX12_expsOf 8 rfl rfl) g78 q578 (Or.inl rfl) rfl (hf_of 5 k1 rfl (by decide) m5_78) ?_
  refine x_icmp_ge (pc' := 18) (tgt := 32) (dX12_expsOf 9 rfl rfl) (by decide) rfl (fun c2 => ?_) (fun c2 => ?_)
  · replace hf := hf.1 c2
    refine x_aload_n (pc' := 33) 1 (dX12_expsOf 18 rfl rfl) rfl rfl rfl ?_
    exact x_aret (dX12_expsOf 19 rfl rfl) rfl (Or.inr ⟨_, rfl⟩) (Or.inr ⟨_, rfl⟩) hf
  · replace hf := hf.2 c2
    refine x_aload_n (pc' := 19) 1 (dX12_expsOf 10 rfl rfl) rfl rfl rfl ?_
    refine x_iload_n (pc' := 20) 2 (dX12_expsOf 11 rfl rfl) rfl rfl rfl ?_
    refine x_aload_n (pc' := 21) 0 (dX12_expsOf 12 rfl rfl) rfl rfl rfl ?_
    refine x_iload_n (pc' := 22) 2 (dX12_expsOf 13 rfl rfl) rfl rfl rfl ?_
    refine x_inv (pc' := 25) (ν := mX7_exp) (av := [_, _]) (st := [_, _]) rfl rfl (dX12_expsOf 14 rfl rfl) (Nat.le_of_ble_eq_true rfl) wX7_exp q221 (inv_V (k := 5) (dX12_expsOf 14 rfl rfl) q1661 q1662 q1663 wX7_exp (by decide) lX7_exp (by decide) k1) (exN (by decide)) rfl ?_
    refine C.mono hf (fun _ _ => KR.g (fun b5 h3 hf le4 => ?_))
    have k1 := leK le4 k1 (by decide)
    obtain ⟨k6, hf⟩ := hf
    obtain ⟨n10, hf⟩ := hf
    obtain ⟨i7, hf⟩ := hf
    obtain ⟨o12, hf⟩ := hf
    refine x_aast (pc' := 26) (t := 9) (E := "LetMill$Exp") (dX12_expsOf 15 rfl rfl) rfl (by decide) rfl (by decide) k6 (Or.inr ⟨n10, by decide⟩) i7 o12 (fun h8 e9 => ?_)
    replace hf := hf h8 e9
    replace k1 : hK h8 l0 = 6 := by rw [e9]; exact k1
    replace k6 : hK h8 l1 = 1009 := by rw [e9]; exact k6
    replace hf := hf _ rfl
    refine x_iinc (pc' := 29) 2 (dX12_expsOf 16 rfl rfl) rfl (by rfl) (by decide) rfl rfl ?_
    refine x_goto (tgt := 10) (dX12_expsOf 17 rfl rfl) (by decide) ?_
    exact X.sub [1, 2, 0] rfl (by simp) hf
theorem bX12_let (G : Gh) (d : Nat) (h : AH) (Q : Outcome → AH → Prop) (p1 : Int32) (s7 : So 7 (gW G) h) (hf : C G mX12_take d [.ref (gW G 7)] h (KI Q (fun x3 h1 => ∀ h4, h4 = pI h1 (gW G 7) 116 ((fI h1 (gW G 7) 116) + 1) → ((hc h4 + 1 ≤ MC) ∧ (hs h4 + 2 ≤ MS) ∧ ∀ q5, hK h4 q5 = 0 → ∀ h7, h7 = nO h4 q5 5 → (C G mX7_init d [.ref (q5)] h7 (KV Q (fun h10 => X G mX12_let (d + 1) none [] 23 [(0, .ref (gW G 7)), (1, .int (p1)), (3, .ref (q5))] [] h10 Q))))))) : C G mX12_let (d + 1) [.ref (gW G 7), .int (p1)] h Q := by
  refine C.of_X (by decide +kernel) (Nat.le_of_ble_eq_true rfl) wX12_let ?_
  show X G mX12_let (d + 1) none [] 0 [(0, .ref (gW G 7)), (1, .int (p1))] [] h Q
  refine x_aload_n (pc' := 1) 0 (dX12_let 0 rfl rfl) rfl rfl rfl ?_
  refine x_inv (pc' := 4) (ν := mX12_take) (av := [_]) (st := []) rfl rfl (dX12_let 1 rfl rfl) (Nat.le_of_ble_eq_true rfl) wX12_take q226 (inv_V (k := 10) (dX12_let 1 rfl rfl) q1316 q1318 qs15 wX12_take (by decide) lX12_take (by decide) s7.1) (exN (by decide)) rfl ?_
  refine C.mono hf (fun _ _ => KI.g (fun x3 h1 hf le2 => ?_))
  replace s7 := s7.le sc7 (le2)
  refine x_istore_n (pc' := 5) (dX12_let 2 rfl rfl) rfl (by decide) rfl rfl ?_
  refine x_aload_n (pc' := 6) 1 (dX12_let 3 rfl rfl) rfl rfl rfl ?_
  refine x_dup (pc' := 7) (dX12_let 4 rfl rfl) rfl rfl ?_
  refine x_getI (pc' := 10) (dX12_let 5 rfl rfl) g116 q860 (Or.inl rfl) rfl (hf_of 10 s7.1 rfl (by decide) m10_116) ?_
  refine x_iconst (pc' := 11) (v := 1) (dX12_let 6 rfl rfl) (by decide) rfl ?_
  refine x_iadd (pc' := 12) (dX12_let 7 rfl rfl) rfl ?_
  refine x_putI (pc' := 15) (dX12_let 8 rfl rfl) g116 q860 (Or.inl rfl) (Or.inl rfl) (Or.inl (by decide)) rfl (hf_of 10 s7.1 rfl (by decide) m10_116) (fun h4 e12 => ?_)
  replace hf := hf h4 e12
  replace s7 : So 7 (gW G) h4 := by rw [e12]; exact s7.le sc7 (pI_le (Or.inl rfl))
  obtain ⟨n1, n2, hf⟩ := hf
  refine x_new (pc' := 18) (k := 5) (dX12_let 9 rfl rfl) q1275 (by decide) rfl (by decide) n1 n2 (fun q5 h7 k6 e8 => ?_)
  replace hf := hf q5 k6 h7 e8
  replace s7 : So 7 (gW G) h7 := by rw [e8]; exact s7.le sc7 (nO_le k6)
  have k9 : hK h7 q5 = 6 := by rw [e8]; exact kNOs
  refine x_dup (pc' := 19) (dX12_let 10 rfl rfl) rfl rfl ?_
  refine x_inv (pc' := 22) (ν := mX7_init) (av := [_]) (st := [_]) rfl rfl (dX12_let 11 rfl rfl) (Nat.le_of_ble_eq_true rfl) wX7_init q221 (inv_N (host := "LetMill") (dX12_let 11 rfl rfl) (by decide) q560 q561 rfl (by decide) lX7_init) (fun b hb => by exact Or.inl (by have e : some _ = some b := hb; cases e; simp)) rfl ?_
  refine C.mono hf (fun _ _ => KV.g (fun h10 hf le11 => ?_))
  replace s7 := s7.leX sc7 le11 k9 (by decide)
  have k9 := leK le11 k9 (by decide)
  refine x_astore_n (pc' := 23) (dX12_let 12 rfl rfl) rfl (by decide) rfl rfl ?_
  exact X.sub [2, 3, 0] rfl (by simp) hf
theorem bX12_let_23 (G : Gh) (d : Nat) (h : AH) (Q : Outcome → AH → Prop) (l1 : Int32) (l3 : Nat) (s7 : So 7 (gW G) h) (hf : C G mX12_isDec d [.ref (gW G 7)] h (KI Q (fun x3 h1 => (x3 = 0 → (C G mX12_expect d [.ref (gW G 7), .int (265)] h1 (KI Q (fun x7 h5 => (hc h5 + 1 ≤ MC) ∧ (hs h5 + 2 ≤ MS) ∧ ∀ q8, hK h5 q8 = 0 → ∀ h10, h10 = nO h5 q8 5 → (C G mX7_init d [.ref (q8)] h10 (KV Q (fun h13 => X G mX12_let (d + 1) none [] 65 [(0, .ref (gW G 7)), (1, .int (l1)), (3, .ref (l3)), (4, .ref (q8))] [] h13 Q))))))) ∧ (¬ x3 = 0 → (C G mX12_dec d [.ref (gW G 7)] h1 (KR Q (fun b17 h15 => hK h15 l3 = 6 ∧ (C G mX7_add d [.ref (l3), .ref (b17)] h15 (KV Q (fun h18 => C G mX12_expect d [.ref (gW G 7), .int (59)] h18 (KI Q (fun x23 h21 => X G mX12_let (d + 1) none [] 23 [(0, .ref (gW G 7)), (1, .int (l1)), (3, .ref (l3))] [] h21 Q)))))))))))) : X G mX12_let (d + 1) none [] 23 [(0, .ref (gW G 7)), (1, .int (l1)), (3, .ref (l3))] [] h Q := by
  refine x_aload_n (pc' := 24) 0 (dX12_let 13 rfl rfl) rfl rfl rfl ?_
  refine x_inv (pc' := 27) (ν := mX12_isDec) (av := [_]) (st := []) rfl rfl (dX12_let 14 rfl rfl) (Nat.le_of_ble_eq_true rfl) wX12_isDec q226 (inv_V (k := 10) (dX12_let 14 rfl rfl) q1277 q1279 qs11 wX12_isDec (by decide) lX12_isDec (by decide) s7.1) (exN (by decide)) rfl ?_
  refine C.mono hf (fun _ _ => KI.g (fun x3 h1 hf le2 => ?_))
  replace s7 := s7.le sc7 (le2)
  refine x_if_eq (pc' := 30) (tgt := 48) (dX12_let 15 rfl rfl) (by decide) rfl (fun c4 => ?_) (fun c4 => ?_)
  · replace hf := hf.1 c4
    refine x_aload_n (pc' := 49) 0 (dX12_let 25 rfl rfl) rfl rfl rfl ?_
    refine x_sipush (pc' := 52) (v := 265) (dX12_let 26 rfl rfl) (by decide) rfl ?_
    refine x_inv (pc' := 55) (ν := mX12_expect) (av := [_, _]) (st := []) rfl rfl (dX12_let 27 rfl rfl) (Nat.le_of_ble_eq_true rfl) wX12_expect q226 (inv_V (k := 10) (dX12_let 27 rfl rfl) q1471 q1473 qs21 wX12_expect (by decide) lX12_expect (by decide) s7.1) (exN (by decide)) rfl ?_
    refine C.mono hf (fun _ _ => KI.g (fun x7 h5 hf le6 => ?_))
    replace s7 := s7.le sc7 (le6)
    refine x_istore_n (pc' := 56) (dX12_let 28 rfl rfl) rfl (by decide) rfl rfl ?_
    obtain ⟨n1, n2, hf⟩ := hf
    refine x_new (pc' := 59) (k := 5) (dX12_let 29 rfl rfl) q1275 (by decide) rfl (by decide) n1 n2 (fun q8 h10 k9 e11 => ?_)
    replace hf := hf q8 k9 h10 e11
    replace s7 : So 7 (gW G) h10 := by rw [e11]; exact s7.le sc7 (nO_le k9)
    have k12 : hK h10 q8 = 6 := by rw [e11]; exact kNOs
    refine x_dup (pc' := 60) (dX12_let 30 rfl rfl) rfl rfl ?_
    refine x_inv (pc' := 63) (ν := mX7_init) (av := [_]) (st := [_]) rfl rfl (dX12_let 31 rfl rfl) (Nat.le_of_ble_eq_true rfl) wX7_init q221 (inv_N (host := "LetMill") (dX12_let 31 rfl rfl) (by decide) q560 q561 rfl (by decide) lX7_init) (fun b hb => by exact Or.inl (by have e : some _ = some b := hb; cases e; simp)) rfl ?_
    refine C.mono hf (fun _ _ => KV.g (fun h13 hf le14 => ?_))
    replace s7 := s7.leX sc7 le14 k12 (by decide)
    have k12 := leK le14 k12 (by decide)
    refine x_astore (pc' := 65) (dX12_let 32 rfl rfl) (by decide) rfl rfl ?_
    exact X.sub [2, 3, 4, 0] rfl (by simp) hf
  · replace hf := hf.2 c4
    refine x_aload_n (pc' := 31) 2 (dX12_let 16 rfl rfl) rfl rfl rfl ?_
    refine x_aload_n (pc' := 32) 0 (dX12_let 17 rfl rfl) rfl rfl rfl ?_
    refine x_inv (pc' := 35) (ν := mX12_dec) (av := [_]) (st := [_]) rfl rfl (dX12_let 18 rfl rfl) (Nat.le_of_ble_eq_true rfl) wX12_dec q226 (inv_V (k := 10) (dX12_let 18 rfl rfl) q1285 q1287 qs13 wX12_dec (by decide) lX12_dec (by decide) s7.1) (exN (by decide)) rfl ?_
    refine C.mono hf (fun _ _ => KR.g (fun b17 h15 hf le16 => ?_))
    replace s7 := s7.le sc7 (le16)
    obtain ⟨k20, hf⟩ := hf
    refine x_inv (pc' := 38) (ν := mX7_add) (av := [_, _]) (st := []) rfl rfl (dX12_let 19 rfl rfl) (Nat.le_of_ble_eq_true rfl) wX7_add q221 (inv_V (k := 5) (dX12_let 19 rfl rfl) q1401 q590 q591 wX7_add (by decide) lX7_add (by decide) k20) (exN (by decide)) rfl ?_
    refine C.mono hf (fun _ _ => KV.g (fun h18 hf le19 => ?_))
    have k20 := leK le19 k20 (by decide)
    replace s7 := s7.le sc7 (le19)
    refine x_aload_n (pc' := 39) 0 (dX12_let 20 rfl rfl) rfl rfl rfl ?_
    refine x_bipush (pc' := 41) (v := 59) (dX12_let 21 rfl rfl) (by decide) rfl ?_
    refine x_inv (pc' := 44) (ν := mX12_expect) (av := [_, _]) (st := []) rfl rfl (dX12_let 22 rfl rfl) (Nat.le_of_ble_eq_true rfl) wX12_expect q226 (inv_V (k := 10) (dX12_let 22 rfl rfl) q1471 q1473 qs21 wX12_expect (by decide) lX12_expect (by decide) s7.1) (exN (by decide)) rfl ?_
    refine C.mono hf (fun _ _ => KI.g (fun x23 h21 hf le22 => ?_))
    have k20 := leK le22 k20 (by decide)
    replace s7 := s7.le sc7 (le22)
    refine x_istore_n (pc' := 45) (dX12_let 23 rfl rfl) rfl (by decide) rfl rfl ?_
    refine x_goto (tgt := 23) (dX12_let 24 rfl rfl) (by decide) ?_
    exact X.sub [1, 2, 3] rfl (by simp) hf
theorem bX12_let_65 (G : Gh) (d : Nat) (h : AH) (Q : Outcome → AH → Prop) (l1 : Int32) (l3 : Nat) (l4 : Nat) (s7 : So 7 (gW G) h) (hf : C G mX12_exp d [.ref (gW G 7)] h (KR Q (fun b3 h1 => hK h1 l4 = 6 ∧ (C G mX7_add d [.ref (l4), .ref (b3)] h1 (KV Q (fun h4 => C G mX12_skip d [.ref (gW G 7), .int (59)] h4 (KI Q (fun x9 h7 => (x9 = 0 → (∀ h11, h11 = pI h7 (gW G 7) 116 ((fI h7 (gW G 7) 116) - 1) → (C G mX12_expect d [.ref (gW G 7), .int (261)] h11 (KI Q (fun x14 h12 => (hc h12 + 1 ≤ MC) ∧ (hs h12 + 4 ≤ MS) ∧ ∀ q15, hK h12 q15 = 0 → ∀ h17, h17 = nO h12 q15 16 → (((fI h17 l4 78) = 1 → (C G mX7_exp d [.ref (l4), .int (0)] h17 (KR Q (fun b39 h37 => C G mX17_init d [.ref (q15), .int (l1), .ref (l3), .ref (b39)] h37 (KV Q (fun h40 => Q (.returned (some (.ref (q15)))) h40)))))) ∧ (¬ ((fI h17 l4 78) = 1) → ((hc h17 + 1 ≤ MC) ∧ (hs h17 + 3 ≤ MS) ∧ ∀ q21, hK h17 q21 = 0 → ∀ h23, h23 = nO h17 q21 38 → (C G mX7_exp d [.ref (l4), .int (0)] h23 (KR Q (fun b28 h26 => HF h26 b28 296 0 ∧ (C G mX12_expsOf d [.ref (l4)] h26 (KR Q (fun b32 h30 => C G mX42_init d [.ref (q21), .int (fI h26 b28 296), .ref (b32)] h30 (KV Q (fun h33 => C G mX17_init d [.ref (q15), .int (l1), .ref (l3), .ref (q21)] h33 (KV Q (fun h35 => Q (.returned (some (.ref (q15)))) h35)))))))))))))))))) ∧ (¬ x9 = 0 → (X G mX12_let (d + 1) none [] 65 [(0, .ref (gW G 7)), (1, .int (l1)), (3, .ref (l3)), (4, .ref (l4))] [] h7 Q)))))))))) : X G mX12_let (d + 1) none [] 65 [(0, .ref (gW G 7)), (1, .int (l1)), (3, .ref (l3)), (4, .ref (l4))] [] h Q := by
  refine x_aload (pc' := 67) 3 (dX12_let 33 rfl rfl) rfl rfl ?_
  refine x_aload_n (pc' := 68) 0 (dX12_let 34 rfl rfl) rfl rfl rfl ?_
  refine x_inv (pc' := 71) (ν := mX12_exp) (av := [_]) (st := [_]) rfl rfl (dX12_let 35 rfl rfl) (Nat.le_of_ble_eq_true rfl) wX12_exp q226 (inv_V (k := 10) (dX12_let 35 rfl rfl) q1477 q1479 qs22 wX12_exp (by decide) lX12_exp (by decide) s7.1) (exN (by decide)) rfl ?_
  refine C.mono hf (fun _ _ => KR.g (fun b3 h1 hf le2 => ?_))
  replace s7 := s7.le sc7 (le2)
  obtain ⟨k6, hf⟩ := hf
  refine x_inv (pc' := 74) (ν := mX7_add) (av := [_, _]) (st := []) rfl rfl (dX12_let 36 rfl rfl) (Nat.le_of_ble_eq_true rfl) wX7_add q221 (inv_V (k := 5) (dX12_let 36 rfl rfl) q1401 q590 q591 wX7_add (by decide) lX7_add (by decide) k6) (exN (by decide)) rfl ?_
  refine C.mono hf (fun _ _ => KV.g (fun h4 hf le5 => ?_))
  have k6 := leK le5 k6 (by decide)
  replace s7 := s7.le sc7 (le5)
  refine x_aload_n (pc' := 75) 0 (dX12_let 37 rfl rfl) rfl rfl rfl ?_
  refine x_bipush (pc' := 77) (v := 59) (dX12_let 38 rfl rfl) (by decide) rfl ?_
  refine x_inv (pc' := 80) (ν := mX12_skip) (av := [_, _]) (st := []) rfl rfl (dX12_let 39 rfl rfl) (Nat.le_of_ble_eq_true rfl) wX12_skip q226 (inv_V (k := 10) (dX12_let 39 rfl rfl) q1511 q1513 qs24 wX12_skip (by decide) lX12_skip (by decide) s7.1) (exN (by decide)) rfl ?_
  refine C.mono hf (fun _ _ => KI.g (fun x9 h7 hf le8 => ?_))
  have k6 := leK le8 k6 (by decide)
  replace s7 := s7.le sc7 (le8)
  refine x_if_ne (pc' := 83) (tgt := 65) (dX12_let 40 rfl rfl) (by decide) rfl (fun c10 => ?_) (fun c10 => ?_)
  · replace hf := hf.2 c10
    exact X.sub [0, 1, 2, 3] rfl (by simp) hf
  · replace hf := hf.1 (Classical.not_not.mp c10)
    replace c10 := Classical.not_not.mp c10
    refine x_aload_n (pc' := 84) 0 (dX12_let 41 rfl rfl) rfl rfl rfl ?_
    refine x_dup (pc' := 85) (dX12_let 42 rfl rfl) rfl rfl ?_
    refine x_getI (pc' := 88) (dX12_let 43 rfl rfl) g116 q860 (Or.inl rfl) rfl (hf_of 10 s7.1 rfl (by decide) m10_116) ?_
    refine x_iconst (pc' := 89) (v := 1) (dX12_let 44 rfl rfl) (by decide) rfl ?_
    refine x_isub (pc' := 90) (dX12_let 45 rfl rfl) rfl ?_
    refine x_putI (pc' := 93) (dX12_let 46 rfl rfl) g116 q860 (Or.inl rfl) (Or.inl rfl) (Or.inl (by decide)) rfl (hf_of 10 s7.1 rfl (by decide) m10_116) (fun h11 e42 => ?_)
    replace hf := hf h11 e42
    replace k6 : hK h11 l4 = 6 := by rw [e42]; exact k6
    replace s7 : So 7 (gW G) h11 := by rw [e42]; exact s7.le sc7 (pI_le (Or.inl rfl))
    refine x_aload_n (pc' := 94) 0 (dX12_let 47 rfl rfl) rfl rfl rfl ?_
    refine x_sipush (pc' := 97) (v := 261) (dX12_let 48 rfl rfl) (by decide) rfl ?_
    refine x_inv (pc' := 100) (ν := mX12_expect) (av := [_, _]) (st := []) rfl rfl (dX12_let 49 rfl rfl) (Nat.le_of_ble_eq_true rfl) wX12_expect q226 (inv_V (k := 10) (dX12_let 49 rfl rfl) q1471 q1473 qs21 wX12_expect (by decide) lX12_expect (by decide) s7.1) (exN (by decide)) rfl ?_
    refine C.mono hf (fun _ _ => KI.g (fun x14 h12 hf le13 => ?_))
    have k6 := leK le13 k6 (by decide)
    replace s7 := s7.le sc7 (le13)
    refine x_istore_n (pc' := 101) (dX12_let 50 rfl rfl) rfl (by decide) rfl rfl ?_
    obtain ⟨n1, n2, hf⟩ := hf
    refine x_new (pc' := 104) (k := 16) (dX12_let 51 rfl rfl) q1726 (by decide) rfl (by decide) n1 n2 (fun q15 h17 k16 e18 => ?_)
    replace hf := hf q15 k16 h17 e18
    replace k6 : hK h17 l4 = 6 := by rw [e18]; exact kNO k6 (by decide) k16
    replace s7 : So 7 (gW G) h17 := by rw [e18]; exact s7.le sc7 (nO_le k16)
    have k19 : hK h17 q15 = 17 := by rw [e18]; exact kNOs
    refine x_dup (pc' := 105) (dX12_let 52 rfl rfl) rfl rfl ?_
    refine x_iload_n (pc' := 106) 2 (dX12_let 53 rfl rfl) rfl rfl rfl ?_
    refine x_aload_n (pc' := 107) 3 (dX12_let 54 rfl rfl) rfl rfl rfl ?_
    refine x_aload (pc' := 109) 4 (dX12_let 55 rfl rfl) rfl rfl ?_
    refine x_getI (pc' := 112) (dX12_let 56 rfl rfl) g78 q578 (Or.inl rfl) rfl (hf_of 5 k6 rfl (by decide) m5_78) ?_
    refine x_iconst (pc' := 113) (v := 1) (dX12_let 57 rfl rfl) (by decide) rfl ?_
    refine x_icmp_ne (pc' := 116) (tgt := 125) (dX12_let 58 rfl rfl) (by decide) rfl (fun c20 => ?_) (fun c20 => ?_)
    · replace hf := hf.2 c20
      obtain ⟨n1, n2, hf⟩ := hf
      refine x_new (pc' := 128) (k := 38) (dX12_let 63 rfl rfl) q1702 (by decide) rfl (by decide) n1 n2 (fun q21 h23 k22 e24 => ?_)
      replace hf := hf q21 k22 h23 e24
      replace k6 : hK h23 l4 = 6 := by rw [e24]; exact kNO k6 (by decide) k22
      replace k19 : hK h23 q15 = 17 := by rw [e24]; exact kNO k19 (by decide) k22
      replace s7 : So 7 (gW G) h23 := by rw [e24]; exact s7.le sc7 (nO_le k22)
      have k25 : hK h23 q21 = 39 := by rw [e24]; exact kNOs
      refine x_dup (pc' := 129) (dX12_let 64 rfl rfl) rfl rfl ?_
      refine x_aload (pc' := 131) 4 (dX12_let 65 rfl rfl) rfl rfl ?_
      refine x_iconst (pc' := 132) (v := 0) (dX12_let 66 rfl rfl) (by decide) rfl ?_
      refine x_inv (pc' := 135) (ν := mX7_exp) (av := [_, _]) (st := [_, _, _, _, _, _]) rfl rfl (dX12_let 67 rfl rfl) (Nat.le_of_ble_eq_true rfl) wX7_exp q221 (inv_V (k := 5) (dX12_let 67 rfl rfl) q1661 q1662 q1663 wX7_exp (by decide) lX7_exp (by decide) k6) (exN (by decide)) rfl ?_
      refine C.mono hf (fun _ _ => KR.g (fun b28 h26 hf le27 => ?_))
      have k6 := leK le27 k6 (by decide)
      have k19 := leK le27 k19 (by decide)
      have k25 := leK le27 k25 (by decide)
      replace s7 := s7.le sc7 (le27)
      obtain ⟨u29, hf⟩ := hf
      refine x_getI (pc' := 138) (dX12_let 68 rfl rfl) g296 q1544 (Or.inl rfl) rfl u29 ?_
      refine x_aload (pc' := 140) 4 (dX12_let 69 rfl rfl) rfl rfl ?_
      refine x_inv (pc' := 143) (ν := mX12_expsOf) (av := [_]) (st := [_, _, _, _, _, _, _]) rfl rfl (dX12_let 70 rfl rfl) (Nat.le_of_ble_eq_true rfl) wX12_expsOf q226 (inv_S (dX12_let 70 rfl rfl) q1678 q1679 q226 wX12_expsOf (by decide) lX12_expsOf) (exN (by decide)) rfl ?_
      refine C.mono hf (fun _ _ => KR.g (fun b32 h30 hf le31 => ?_))
      have k6 := leK le31 k6 (by decide)
      have k19 := leK le31 k19 (by decide)
      have k25 := leK le31 k25 (by decide)
      replace s7 := s7.le sc7 (le31)
      refine x_inv (pc' := 146) (ν := mX42_init) (av := [_, _, _]) (st := [_, _, _, _, _]) rfl rfl (dX12_let 71 rfl rfl) (Nat.le_of_ble_eq_true rfl) wX42_init q263 (inv_I (dX12_let 71 rfl rfl) q1704 q1705 q1706 rfl (by decide) lX42_init) (fun b hb => by exact Or.inl (by have e : some _ = some b := hb; cases e; simp)) rfl ?_
      refine C.mono hf (fun _ _ => KV.g (fun h33 hf le34 => ?_))
      replace s7 := s7.leX sc7 le34 k25 (by decide)
      have k6 := leK le34 k6 (by decide)
      have k19 := leK le34 k19 (by decide)
      have k25 := leK le34 k25 (by decide)
      refine x_inv (pc' := 149) (ν := mX17_init) (av := [_, _, _, _]) (st := [_]) rfl rfl (dX12_let 72 rfl rfl) (Nat.le_of_ble_eq_true rfl) wX17_init q238 (inv_I (dX12_let 72 rfl rfl) q1727 q1728 q1729 rfl (by decide) lX17_init) (fun b hb => by exact Or.inl (by have e : some _ = some b := hb; cases e; simp)) rfl ?_
      refine C.mono hf (fun _ _ => KV.g (fun h35 hf le36 => ?_))
      replace s7 := s7.leX sc7 le36 k19 (by decide)
      have k6 := leK le36 k6 (by decide)
      have k19 := leK le36 k19 (by decide)
      have k25 := leK le36 k25 (by decide)
      exact x_aret (dX12_let 73 rfl rfl) rfl (Or.inl ⟨_, rfl⟩) (Or.inr ⟨_, rfl⟩) hf
    · replace hf := hf.1 (Classical.not_not.mp c20)
      replace c20 := Classical.not_not.mp c20
      refine x_aload (pc' := 118) 4 (dX12_let 59 rfl rfl) rfl rfl ?_
      refine x_iconst (pc' := 119) (v := 0) (dX12_let 60 rfl rfl) (by decide) rfl ?_
      refine x_inv (pc' := 122) (ν := mX7_exp) (av := [_, _]) (st := [_, _, _, _]) rfl rfl (dX12_let 61 rfl rfl) (Nat.le_of_ble_eq_true rfl) wX7_exp q221 (inv_V (k := 5) (dX12_let 61 rfl rfl) q1661 q1662 q1663 wX7_exp (by decide) lX7_exp (by decide) k6) (exN (by decide)) rfl ?_
      refine C.mono hf (fun _ _ => KR.g (fun b39 h37 hf le38 => ?_))
      have k6 := leK le38 k6 (by decide)
      have k19 := leK le38 k19 (by decide)
      replace s7 := s7.le sc7 (le38)
      refine x_goto (tgt := 146) (dX12_let 62 rfl rfl) (by decide) ?_
      refine x_inv (pc' := 149) (ν := mX17_init) (av := [_, _, _, _]) (st := [_]) rfl rfl (dX12_let 72 rfl rfl) (Nat.le_of_ble_eq_true rfl) wX17_init q238 (inv_I (dX12_let 72 rfl rfl) q1727 q1728 q1729 rfl (by decide) lX17_init) (fun b hb => by exact Or.inl (by have e : some _ = some b := hb; cases e; simp)) rfl ?_
      refine C.mono hf (fun _ _ => KV.g (fun h40 hf le41 => ?_))
      replace s7 := s7.leX sc7 le41 k19 (by decide)
      have k6 := leK le41 k6 (by decide)
      have k19 := leK le41 k19 (by decide)
      exact x_aret (dX12_let 73 rfl rfl) rfl (Or.inl ⟨_, rfl⟩) (Or.inr ⟨_, rfl⟩) hf
theorem bX12_beginsExp (G : Gh) (d : Nat) (h : AH) (Q : Outcome → AH → Prop)  (s7 : So 7 (gW G) h) (hf : C G mX12_kind d [.ref (gW G 7)] h (KI Q (fun x3 h1 => (x3 = 280 → (Q (.returned (some (.int 1))) h1)) ∧ (¬ x3 = 280 → ((x3 = 281 → (Q (.returned (some (.int 1))) h1)) ∧ (¬ x3 = 281 → ((x3 = 283 → (Q (.returned (some (.int 1))) h1)) ∧ (¬ x3 = 283 → ((x3 = 272 → (Q (.returned (some (.int 1))) h1)) ∧ (¬ x3 = 272 → ((x3 = 273 → (Q (.returned (some (.int 1))) h1)) ∧ (¬ x3 = 273 → ((x3 = 33 → (Q (.returned (some (.int 1))) h1)) ∧ (¬ x3 = 33 → ((x3 = 126 → (Q (.returned (some (.int 1))) h1)) ∧ (¬ x3 = 126 → ((x3 = 40 → (Q (.returned (some (.int 1))) h1)) ∧ (¬ x3 = 40 → ((x3 = 91 → (Q (.returned (some (.int 1))) h1)) ∧ (¬ x3 = 91 → ((x3 = 266 → (Q (.returned (some (.int 1))) h1)) ∧ (¬ x3 = 266 → (Q (.returned (some (.int 0))) h1))))))))))))))))))))))) : C G mX12_beginsExp (d + 1) [.ref (gW G 7)] h Q := by
  refine C.of_X (by decide +kernel) (Nat.le_of_ble_eq_true rfl) wX12_beginsExp ?_
  show X G mX12_beginsExp (d + 1) none [] 0 [(0, .ref (gW G 7))] [] h Q
  refine x_aload_n (pc' := 1) 0 (dX12_beginsExp 0 rfl rfl) rfl rfl rfl ?_
  refine x_inv (pc' := 4) (ν := mX12_kind) (av := [_]) (st := []) rfl rfl (dX12_beginsExp 1 rfl rfl) (Nat.le_of_ble_eq_true rfl) wX12_kind q226 (inv_V (k := 10) (dX12_beginsExp 1 rfl rfl) q1281 q1283 qs12 wX12_kind (by decide) lX12_kind (by decide) s7.1) (exN (by decide)) rfl ?_
  refine C.mono hf (fun _ _ => KI.g (fun x3 h1 hf le2 => ?_))
  replace s7 := s7.le sc7 (le2)
  refine x_istore_n (pc' := 5) (dX12_beginsExp 2 rfl rfl) rfl (by decide) rfl rfl ?_
  refine x_iload_n (pc' := 6) 0 (dX12_beginsExp 3 rfl rfl) rfl rfl rfl ?_
  refine x_sipush (pc' := 9) (v := 280) (dX12_beginsExp 4 rfl rfl) (by decide) rfl ?_
  refine x_icmp_eq (pc' := 12) (tgt := 71) (dX12_beginsExp 5 rfl rfl) (by decide) rfl (fun c4 => ?_) (fun c4 => ?_)
  · replace hf := hf.1 c4
    refine x_iconst (pc' := 72) (v := 1) (dX12_beginsExp 33 rfl rfl) (by decide) rfl ?_
    refine x_goto (tgt := 76) (dX12_beginsExp 34 rfl rfl) (by decide) ?_
    exact x_zret (ty := .boolean) (dX12_beginsExp 36 rfl rfl) rfl (by decide) hf
  · replace hf := hf.2 c4
    refine x_iload_n (pc' := 13) 0 (dX12_beginsExp 6 rfl rfl) rfl rfl rfl ?_
    refine x_sipush (pc' := 16) (v := 281) (dX12_beginsExp 7 rfl rfl) (by decide) rfl ?_
    refine x_icmp_eq (pc' := 19) (tgt := 71) (dX12_beginsExp 8 rfl rfl) (by decide) rfl (fun c5 => ?_) (fun c5 => ?_)
    · replace hf := hf.1 c5
      refine x_iconst (pc' := 72) (v := 1) (dX12_beginsExp 33 rfl rfl) (by decide) rfl ?_
      refine x_goto (tgt := 76) (dX12_beginsExp 34 rfl rfl) (by decide) ?_
      exact x_zret (ty := .boolean) (dX12_beginsExp 36 rfl rfl) rfl (by decide) hf
    · replace hf := hf.2 c5
      refine x_iload_n (pc' := 20) 0 (dX12_beginsExp 9 rfl rfl) rfl rfl rfl ?_
      refine x_sipush (pc' := 23) (v := 283) (dX12_beginsExp 10 rfl rfl) (by decide) rfl ?_
      refine x_icmp_eq (pc' := 26) (tgt := 71) (dX12_beginsExp 11 rfl rfl) (by decide) rfl (fun c6 => ?_) (fun c6 => ?_)
      · replace hf := hf.1 c6
        refine x_iconst (pc' := 72) (v := 1) (dX12_beginsExp 33 rfl rfl) (by decide) rfl ?_
        refine x_goto (tgt := 76) (dX12_beginsExp 34 rfl rfl) (by decide) ?_
        exact x_zret (ty := .boolean) (dX12_beginsExp 36 rfl rfl) rfl (by decide) hf
      · replace hf := hf.2 c6
        refine x_iload_n (pc' := 27) 0 (dX12_beginsExp 12 rfl rfl) rfl rfl rfl ?_
        refine x_sipush (pc' := 30) (v := 272) (dX12_beginsExp 13 rfl rfl) (by decide) rfl ?_
        refine x_icmp_eq (pc' := 33) (tgt := 71) (dX12_beginsExp 14 rfl rfl) (by decide) rfl (fun c7 => ?_) (fun c7 => ?_)
        · replace hf := hf.1 c7
          refine x_iconst (pc' := 72) (v := 1) (dX12_beginsExp 33 rfl rfl) (by decide) rfl ?_
          refine x_goto (tgt := 76) (dX12_beginsExp 34 rfl rfl) (by decide) ?_
          exact x_zret (ty := .boolean) (dX12_beginsExp 36 rfl rfl) rfl (by decide) hf
        · replace hf := hf.2 c7
          refine x_iload_n (pc' := 34) 0 (dX12_beginsExp 15 rfl rfl) rfl rfl rfl ?_
          refine x_sipush (pc' := 37) (v := 273) (dX12_beginsExp 16 rfl rfl) (by decide) rfl ?_
          refine x_icmp_eq (pc' := 40) (tgt := 71) (dX12_beginsExp 17 rfl rfl) (by decide) rfl (fun c8 => ?_) (fun c8 => ?_)
          · replace hf := hf.1 c8
            refine x_iconst (pc' := 72) (v := 1) (dX12_beginsExp 33 rfl rfl) (by decide) rfl ?_
            refine x_goto (tgt := 76) (dX12_beginsExp 34 rfl rfl) (by decide) ?_
            exact x_zret (ty := .boolean) (dX12_beginsExp 36 rfl rfl) rfl (by decide) hf
          · replace hf := hf.2 c8
            refine x_iload_n (pc' := 41) 0 (dX12_beginsExp 18 rfl rfl) rfl rfl rfl ?_
            refine x_bipush (pc' := 43) (v := 33) (dX12_beginsExp 19 rfl rfl) (by decide) rfl ?_
            refine x_icmp_eq (pc' := 46) (tgt := 71) (dX12_beginsExp 20 rfl rfl) (by decide) rfl (fun c9 => ?_) (fun c9 => ?_)
            · replace hf := hf.1 c9
              refine x_iconst (pc' := 72) (v := 1) (dX12_beginsExp 33 rfl rfl) (by decide) rfl ?_
              refine x_goto (tgt := 76) (dX12_beginsExp 34 rfl rfl) (by decide) ?_
              exact x_zret (ty := .boolean) (dX12_beginsExp 36 rfl rfl) rfl (by decide) hf
            · replace hf := hf.2 c9
              refine x_iload_n (pc' := 47) 0 (dX12_beginsExp 21 rfl rfl) rfl rfl rfl ?_
              refine x_bipush (pc' := 49) (v := 126) (dX12_beginsExp 22 rfl rfl) (by decide) rfl ?_
              refine x_icmp_eq (pc' := 52) (tgt := 71) (dX12_beginsExp 23 rfl rfl) (by decide) rfl (fun c10 => ?_) (fun c10 => ?_)
              · replace hf := hf.1 c10
                refine x_iconst (pc' := 72) (v := 1) (dX12_beginsExp 33 rfl rfl) (by decide) rfl ?_
                refine x_goto (tgt := 76) (dX12_beginsExp 34 rfl rfl) (by decide) ?_
                exact x_zret (ty := .boolean) (dX12_beginsExp 36 rfl rfl) rfl (by decide) hf
              · replace hf := hf.2 c10
                refine x_iload_n (pc' := 53) 0 (dX12_beginsExp 24 rfl rfl) rfl rfl rfl ?_
                refine x_bipush (pc' := 55) (v := 40) (dX12_beginsExp 25 rfl rfl) (by decide) rfl ?_
                refine x_icmp_eq (pc' := 58) (tgt := 71) (dX12_beginsExp 26 rfl rfl) (by decide) rfl (fun c11 => ?_) (fun c11 => ?_)
                · replace hf := hf.1 c11
                  refine x_iconst (pc' := 72) (v := 1) (dX12_beginsExp 33 rfl rfl) (by decide) rfl ?_
                  refine x_goto (tgt := 76) (dX12_beginsExp 34 rfl rfl) (by decide) ?_
                  exact x_zret (ty := .boolean) (dX12_beginsExp 36 rfl rfl) rfl (by decide) hf
                · replace hf := hf.2 c11
                  refine x_iload_n (pc' := 59) 0 (dX12_beginsExp 27 rfl rfl) rfl rfl rfl ?_
                  refine x_bipush (pc' := 61) (v := 91) (dX12_beginsExp 28 rfl rfl) (by decide) rfl ?_
                  refine x_icmp_eq (pc' := 64) (tgt := 71) (dX12_beginsExp 29 rfl rfl) (by decide) rfl (fun c12 => ?_) (fun c12 => ?_)
                  · replace hf := hf.1 c12
                    refine x_iconst (pc' := 72) (v := 1) (dX12_beginsExp 33 rfl rfl) (by decide) rfl ?_
                    refine x_goto (tgt := 76) (dX12_beginsExp 34 rfl rfl) (by decide) ?_
                    exact x_zret (ty := .boolean) (dX12_beginsExp 36 rfl rfl) rfl (by decide) hf
                  · replace hf := hf.2 c12
                    refine x_iload_n (pc' := 65) 0 (dX12_beginsExp 30 rfl rfl) rfl rfl rfl ?_
                    refine x_sipush (pc' := 68) (v := 266) (dX12_beginsExp 31 rfl rfl) (by decide) rfl ?_
                    refine x_icmp_ne (pc' := 71) (tgt := 75) (dX12_beginsExp 32 rfl rfl) (by decide) rfl (fun c13 => ?_) (fun c13 => ?_)
                    · replace hf := hf.2 c13
                      refine x_iconst (pc' := 76) (v := 0) (dX12_beginsExp 35 rfl rfl) (by decide) rfl ?_
                      exact x_zret (ty := .boolean) (dX12_beginsExp 36 rfl rfl) rfl (by decide) hf
                    · replace hf := hf.1 (Classical.not_not.mp c13)
                      replace c13 := Classical.not_not.mp c13
                      refine x_iconst (pc' := 72) (v := 1) (dX12_beginsExp 33 rfl rfl) (by decide) rfl ?_
                      refine x_goto (tgt := 76) (dX12_beginsExp 34 rfl rfl) (by decide) ?_
                      exact x_zret (ty := .boolean) (dX12_beginsExp 36 rfl rfl) rfl (by decide) hf
theorem bX12_levelOf (G : Gh) (d : Nat) (h : AH) (Q : Outcome → AH → Prop) (p0 : Int32) (hf : (p0 = 42 → (Q (.returned (some (.int 7))) h)) ∧ (p0 = 43 → (Q (.returned (some (.int 6))) h)) ∧ (p0 = 45 → (Q (.returned (some (.int 6))) h)) ∧ (p0 = 60 → (Q (.returned (some (.int 4))) h)) ∧ (p0 = 61 → (Q (.returned (some (.int 4))) h)) ∧ (p0 = 62 → (Q (.returned (some (.int 4))) h)) ∧ (p0 = 64 → (Q (.returned (some (.int 5))) h)) ∧ (p0 = 259 → (Q (.returned (some (.int 7))) h)) ∧ (p0 = 267 → (Q (.returned (some (.int 7))) h)) ∧ (p0 = 269 → (Q (.returned (some (.int 2))) h)) ∧ (p0 = 270 → (Q (.returned (some (.int 3))) h)) ∧ (p0 = 286 → (Q (.returned (some (.int 5))) h)) ∧ (p0 = 287 → (Q (.returned (some (.int 1))) h)) ∧ (p0 = 288 → (Q (.returned (some (.int 4))) h)) ∧ (p0 = 289 → (Q (.returned (some (.int 4))) h)) ∧ (p0 = 290 → (Q (.returned (some (.int 4))) h)) ∧ (¬ p0 = 42 ∧ ¬ p0 = 43 ∧ ¬ p0 = 45 ∧ ¬ p0 = 60 ∧ ¬ p0 = 61 ∧ ¬ p0 = 62 ∧ ¬ p0 = 64 ∧ ¬ p0 = 259 ∧ ¬ p0 = 267 ∧ ¬ p0 = 269 ∧ ¬ p0 = 270 ∧ ¬ p0 = 286 ∧ ¬ p0 = 287 ∧ ¬ p0 = 288 ∧ ¬ p0 = 289 ∧ ¬ p0 = 290 → (Q (.returned (some (.int 0))) h))) : C G mX12_levelOf d [.int (p0)] h Q := by
  refine C.of_X (by decide +kernel) (Nat.le_of_ble_eq_true rfl) wX12_levelOf ?_
  show X G mX12_levelOf d none [] 0 [(0, .int (p0))] [] h Q
  refine x_iload_n (pc' := 1) 0 (dX12_levelOf 0 rfl rfl) rfl rfl rfl ?_
  by_cases c10 : p0 = 42
  · replace hf := hf.1 c10
    refine x_ls (v := 42) (tgt := 153) (swX12_levelOf_1) (by decide) (by rw [c10]; decide) (by decide) ?_
    refine x_bipush (pc' := 155) (v := 7) (dX12_levelOf 14 rfl rfl) (by decide) rfl ?_
    exact x_iret (dX12_levelOf 15 rfl rfl) rfl hf
  by_cases c11 : p0 = 43
  · replace hf := hf.2.1 c11
    refine x_ls (v := 43) (tgt := 150) (swX12_levelOf_1) (by decide) (by rw [c11]; decide) (by decide) ?_
    refine x_bipush (pc' := 152) (v := 6) (dX12_levelOf 12 rfl rfl) (by decide) rfl ?_
    exact x_iret (dX12_levelOf 13 rfl rfl) rfl hf
  by_cases c12 : p0 = 45
  · replace hf := hf.2.2.1 c12
    refine x_ls (v := 45) (tgt := 150) (swX12_levelOf_1) (by decide) (by rw [c12]; decide) (by decide) ?_
    refine x_bipush (pc' := 152) (v := 6) (dX12_levelOf 12 rfl rfl) (by decide) rfl ?_
    exact x_iret (dX12_levelOf 13 rfl rfl) rfl hf
  by_cases c13 : p0 = 60
  · replace hf := hf.2.2.2.1 c13
    refine x_ls (v := 60) (tgt := 146) (swX12_levelOf_1) (by decide) (by rw [c13]; decide) (by decide) ?_
    refine x_iconst (pc' := 147) (v := 4) (dX12_levelOf 8 rfl rfl) (by decide) rfl ?_
    exact x_iret (dX12_levelOf 9 rfl rfl) rfl hf
  by_cases c14 : p0 = 61
  · replace hf := hf.2.2.2.2.1 c14
    refine x_ls (v := 61) (tgt := 146) (swX12_levelOf_1) (by decide) (by rw [c14]; decide) (by decide) ?_
    refine x_iconst (pc' := 147) (v := 4) (dX12_levelOf 8 rfl rfl) (by decide) rfl ?_
    exact x_iret (dX12_levelOf 9 rfl rfl) rfl hf
  by_cases c15 : p0 = 62
  · replace hf := hf.2.2.2.2.2.1 c15
    refine x_ls (v := 62) (tgt := 146) (swX12_levelOf_1) (by decide) (by rw [c15]; decide) (by decide) ?_
    refine x_iconst (pc' := 147) (v := 4) (dX12_levelOf 8 rfl rfl) (by decide) rfl ?_
    exact x_iret (dX12_levelOf 9 rfl rfl) rfl hf
  by_cases c16 : p0 = 64
  · replace hf := hf.2.2.2.2.2.2.1 c16
    refine x_ls (v := 64) (tgt := 148) (swX12_levelOf_1) (by decide) (by rw [c16]; decide) (by decide) ?_
    refine x_iconst (pc' := 149) (v := 5) (dX12_levelOf 10 rfl rfl) (by decide) rfl ?_
    exact x_iret (dX12_levelOf 11 rfl rfl) rfl hf
  by_cases c17 : p0 = 259
  · replace hf := hf.2.2.2.2.2.2.2.1 c17
    refine x_ls (v := 259) (tgt := 153) (swX12_levelOf_1) (by decide) (by rw [c17]; decide) (by decide) ?_
    refine x_bipush (pc' := 155) (v := 7) (dX12_levelOf 14 rfl rfl) (by decide) rfl ?_
    exact x_iret (dX12_levelOf 15 rfl rfl) rfl hf
  by_cases c18 : p0 = 267
  · replace hf := hf.2.2.2.2.2.2.2.2.1 c18
    refine x_ls (v := 267) (tgt := 153) (swX12_levelOf_1) (by decide) (by rw [c18]; decide) (by decide) ?_
    refine x_bipush (pc' := 155) (v := 7) (dX12_levelOf 14 rfl rfl) (by decide) rfl ?_
    exact x_iret (dX12_levelOf 15 rfl rfl) rfl hf
  by_cases c19 : p0 = 269
  · replace hf := hf.2.2.2.2.2.2.2.2.2.1 c19
    refine x_ls (v := 269) (tgt := 142) (swX12_levelOf_1) (by decide) (by rw [c19]; decide) (by decide) ?_
    refine x_iconst (pc' := 143) (v := 2) (dX12_levelOf 4 rfl rfl) (by decide) rfl ?_
    exact x_iret (dX12_levelOf 5 rfl rfl) rfl hf
  by_cases c110 : p0 = 270
  · replace hf := hf.2.2.2.2.2.2.2.2.2.2.1 c110
    refine x_ls (v := 270) (tgt := 144) (swX12_levelOf_1) (by decide) (by rw [c110]; decide) (by decide) ?_
    refine x_iconst (pc' := 145) (v := 3) (dX12_levelOf 6 rfl rfl) (by decide) rfl ?_
    exact x_iret (dX12_levelOf 7 rfl rfl) rfl hf
  by_cases c111 : p0 = 286
  · replace hf := hf.2.2.2.2.2.2.2.2.2.2.2.1 c111
    refine x_ls (v := 286) (tgt := 148) (swX12_levelOf_1) (by decide) (by rw [c111]; decide) (by decide) ?_
    refine x_iconst (pc' := 149) (v := 5) (dX12_levelOf 10 rfl rfl) (by decide) rfl ?_
    exact x_iret (dX12_levelOf 11 rfl rfl) rfl hf
  by_cases c112 : p0 = 287
  · replace hf := hf.2.2.2.2.2.2.2.2.2.2.2.2.1 c112
    refine x_ls (v := 287) (tgt := 140) (swX12_levelOf_1) (by decide) (by rw [c112]; decide) (by decide) ?_
    refine x_iconst (pc' := 141) (v := 1) (dX12_levelOf 2 rfl rfl) (by decide) rfl ?_
    exact x_iret (dX12_levelOf 3 rfl rfl) rfl hf
  by_cases c113 : p0 = 288
  · replace hf := hf.2.2.2.2.2.2.2.2.2.2.2.2.2.1 c113
    refine x_ls (v := 288) (tgt := 146) (swX12_levelOf_1) (by decide) (by rw [c113]; decide) (by decide) ?_
    refine x_iconst (pc' := 147) (v := 4) (dX12_levelOf 8 rfl rfl) (by decide) rfl ?_
    exact x_iret (dX12_levelOf 9 rfl rfl) rfl hf
  by_cases c114 : p0 = 289
  · replace hf := hf.2.2.2.2.2.2.2.2.2.2.2.2.2.2.1 c114
    refine x_ls (v := 289) (tgt := 146) (swX12_levelOf_1) (by decide) (by rw [c114]; decide) (by decide) ?_
    refine x_iconst (pc' := 147) (v := 4) (dX12_levelOf 8 rfl rfl) (by decide) rfl ?_
    exact x_iret (dX12_levelOf 9 rfl rfl) rfl hf
  by_cases c115 : p0 = 290
  · replace hf := hf.2.2.2.2.2.2.2.2.2.2.2.2.2.2.2.1 c115
    refine x_ls (v := 290) (tgt := 146) (swX12_levelOf_1) (by decide) (by rw [c115]; decide) (by decide) ?_
    refine x_iconst (pc' := 147) (v := 4) (dX12_levelOf 8 rfl rfl) (by decide) rfl ?_
    exact x_iret (dX12_levelOf 9 rfl rfl) rfl hf
  replace hf := hf.2.2.2.2.2.2.2.2.2.2.2.2.2.2.2.2 ⟨c10, c11, c12, c13, c14, c15, c16, c17, c18, c19, c110, c111, c112, c113, c114, c115⟩
  refine x_ld (vs := [42, 43, 45, 60, 61, 62, 64, 259, 267, 269, 270, 286, 287, 288, 289, 290]) (tgt := 156) (swX12_levelOf_1) (by decide) ?_ (by decide) (by decide) ?_
  · intro v hv
    simp only [List.mem_cons, List.not_mem_nil, or_false] at hv
    rcases hv with rfl | rfl | rfl | rfl | rfl | rfl | rfl | rfl | rfl | rfl | rfl | rfl | rfl | rfl | rfl | rfl
    · exact i32_ne (by decide) c10
    · exact i32_ne (by decide) c11
    · exact i32_ne (by decide) c12
    · exact i32_ne (by decide) c13
    · exact i32_ne (by decide) c14
    · exact i32_ne (by decide) c15
    · exact i32_ne (by decide) c16
    · exact i32_ne (by decide) c17
    · exact i32_ne (by decide) c18
    · exact i32_ne (by decide) c19
    · exact i32_ne (by decide) c110
    · exact i32_ne (by decide) c111
    · exact i32_ne (by decide) c112
    · exact i32_ne (by decide) c113
    · exact i32_ne (by decide) c114
    · exact i32_ne (by decide) c115
  · refine x_iconst (pc' := 157) (v := 0) (dX12_levelOf 16 rfl rfl) (by decide) rfl ?_
    exact x_iret (dX12_levelOf 17 rfl rfl) rfl hf
theorem bX12_fun (G : Gh) (d : Nat) (h : AH) (Q : Outcome → AH → Prop)  (s7 : So 7 (gW G) h) (hf : (hc h + 1 ≤ MC) ∧ (hs h + 4 ≤ MS) ∧ ∀ q1, hK h q1 = 0 → ∀ h3, h3 = nO h q1 44 → (C G mX48_init d [.ref (q1), .int (fI h3 (gW G 7) 115)] h3 (KV Q (fun h6 => X G mX12_fun (d + 1) none [] 12 [(0, .ref (gW G 7)), (1, .ref (q1))] [] h6 Q)))) : C G mX12_fun (d + 1) [.ref (gW G 7)] h Q := by
  refine C.of_X (by decide +kernel) (Nat.le_of_ble_eq_true rfl) wX12_fun ?_
  show X G mX12_fun (d + 1) none [] 0 [(0, .ref (gW G 7))] [] h Q
  obtain ⟨n1, n2, hf⟩ := hf
  refine x_new (pc' := 3) (k := 44) (dX12_fun 0 rfl rfl) q1845 (by decide) rfl (by decide) n1 n2 (fun q1 h3 k2 e4 => ?_)
  replace hf := hf q1 k2 h3 e4
  replace s7 : So 7 (gW G) h3 := by rw [e4]; exact s7.le sc7 (nO_le k2)
  have k5 : hK h3 q1 = 45 := by rw [e4]; exact kNOs
  refine x_dup (pc' := 4) (dX12_fun 1 rfl rfl) rfl rfl ?_
  refine x_aload_n (pc' := 5) 0 (dX12_fun 2 rfl rfl) rfl rfl rfl ?_
  refine x_getI (pc' := 8) (dX12_fun 3 rfl rfl) g115 q859 (Or.inl rfl) rfl (hf_of 10 s7.1 rfl (by decide) m10_115) ?_
  refine x_inv (pc' := 11) (ν := mX48_init) (av := [_, _]) (st := [_]) rfl rfl (dX12_fun 4 rfl rfl) (Nat.le_of_ble_eq_true rfl) wX48_init q269 (inv_I (dX12_fun 4 rfl rfl) q1847 q1848 q1849 rfl (by decide) lX48_init) (fun b hb => by exact Or.inl (by have e : some _ = some b := hb; cases e; simp)) rfl ?_
  refine C.mono hf (fun _ _ => KV.g (fun h6 hf le7 => ?_))
  replace s7 := s7.leX sc7 le7 k5 (by decide)
  have k5 := leK le7 k5 (by decide)
  refine x_astore_n (pc' := 12) (dX12_fun 5 rfl rfl) rfl (by decide) rfl rfl ?_
  exact X.sub [1, 0] rfl (by simp) hf
theorem bX12_fun_12 (G : Gh) (d : Nat) (h : AH) (Q : Outcome → AH → Prop) (l1 : Nat) (s7 : So 7 (gW G) h) (hf : hK h l1 = 45 ∧ (∃ b2, fR h l1 345 = some b2 ∧ (hK h b2 = 6 ∧ (((fI h b2 78) = 8 → (∀ h23, h23 = pI h (gW G 7) 115 ((fI h (gW G 7) 115) - 1) → (C G mX12_wrong d [.ref (gW G 7)] h23 (KR Q (fun b26 h24 => Q (.threw b26) h24))))) ∧ (¬ ((fI h b2 78) = 8) → (C G mX12_expect d [.ref (gW G 7), .int (280)] h (KI Q (fun x8 h6 => ∀ h9, h9 = pI h6 (gW G 7) 118 0 → ((hc h9 + 1 ≤ MC) ∧ (hs h9 + 2 ≤ MS) ∧ ∀ q10, hK h9 q10 = 0 → ∀ h12, h12 = nO h9 q10 5 → (C G mX7_init d [.ref (q10)] h12 (KV Q (fun h15 => C G mX12_atPat d [.ref (gW G 7)] h15 (KR Q (fun b19 h17 => C G mX7_add d [.ref (q10), .ref (b19)] h17 (KV Q (fun h20 => X G mX12_fun (d + 1) none [] 68 [(0, .ref (gW G 7)), (1, .ref (l1)), (2, .int (x8)), (3, .ref (q10))] [] h20 Q)))))))))))))))) : X G mX12_fun (d + 1) none [] 12 [(0, .ref (gW G 7)), (1, .ref (l1))] [] h Q := by
  refine x_aload_n (pc' := 13) 1 (dX12_fun 6 rfl rfl) rfl rfl rfl ?_
  obtain ⟨k1, hf⟩ := hf
  obtain ⟨b2, e3, hf⟩ := hf
  refine x_getR (pc' := 16) (dX12_fun 7 rfl rfl) g345 q1857 (Or.inl rfl) rfl (hf_of 44 k1 rfl (by decide) m44_345) e3 ?_
  obtain ⟨k4, hf⟩ := hf
  refine x_getI (pc' := 19) (dX12_fun 8 rfl rfl) g78 q578 (Or.inl rfl) rfl (hf_of 5 k4 rfl (by decide) m5_78) ?_
  refine x_bipush (pc' := 21) (v := 8) (dX12_fun 9 rfl rfl) (by decide) rfl ?_
  refine x_icmp_ne (pc' := 24) (tgt := 39) (dX12_fun 10 rfl rfl) (by decide) rfl (fun c5 => ?_) (fun c5 => ?_)
  · replace hf := hf.2 c5
    refine x_aload_n (pc' := 40) 0 (dX12_fun 20 rfl rfl) rfl rfl rfl ?_
    refine x_sipush (pc' := 43) (v := 280) (dX12_fun 21 rfl rfl) (by decide) rfl ?_
    refine x_inv (pc' := 46) (ν := mX12_expect) (av := [_, _]) (st := []) rfl rfl (dX12_fun 22 rfl rfl) (Nat.le_of_ble_eq_true rfl) wX12_expect q226 (inv_V (k := 10) (dX12_fun 22 rfl rfl) q1471 q1473 qs21 wX12_expect (by decide) lX12_expect (by decide) s7.1) (exN (by decide)) rfl ?_
    refine C.mono hf (fun _ _ => KI.g (fun x8 h6 hf le7 => ?_))
    have k1 := leK le7 k1 (by decide)
    have k4 := leK le7 k4 (by decide)
    replace s7 := s7.le sc7 (le7)
    refine x_istore_n (pc' := 47) (dX12_fun 23 rfl rfl) rfl (by decide) rfl rfl ?_
    refine x_aload_n (pc' := 48) 1 (dX12_fun 24 rfl rfl) rfl rfl rfl ?_
    refine x_iconst (pc' := 49) (v := 0) (dX12_fun 25 rfl rfl) (by decide) rfl ?_
    refine x_putI (pc' := 52) (dX12_fun 26 rfl rfl) g118 q862 (Or.inl rfl) (Or.inl rfl) (Or.inl (by decide)) rfl (hf_of 10 s7.1 rfl (by decide) m10_118) (fun h9 e22 => ?_)
    replace hf := hf h9 e22
    replace k1 : hK h9 l1 = 45 := by rw [e22]; exact k1
    replace k4 : hK h9 b2 = 6 := by rw [e22]; exact k4
    replace s7 : So 7 (gW G) h9 := by rw [e22]; exact s7.le sc7 (pI_le (Or.inl rfl))
    obtain ⟨n1, n2, hf⟩ := hf
    refine x_new (pc' := 55) (k := 5) (dX12_fun 27 rfl rfl) q1275 (by decide) rfl (by decide) n1 n2 (fun q10 h12 k11 e13 => ?_)
    replace hf := hf q10 k11 h12 e13
    replace k1 : hK h12 l1 = 45 := by rw [e13]; exact kNO k1 (by decide) k11
    replace k4 : hK h12 b2 = 6 := by rw [e13]; exact kNO k4 (by decide) k11
    replace s7 : So 7 (gW G) h12 := by rw [e13]; exact s7.le sc7 (nO_le k11)
    have k14 : hK h12 q10 = 6 := by rw [e13]; exact kNOs
    refine x_dup (pc' := 56) (dX12_fun 28 rfl rfl) rfl rfl ?_
    refine x_inv (pc' := 59) (ν := mX7_init) (av := [_]) (st := [_]) rfl rfl (dX12_fun 29 rfl rfl) (Nat.le_of_ble_eq_true rfl) wX7_init q221 (inv_N (host := "LetMill") (dX12_fun 29 rfl rfl) (by decide) q560 q561 rfl (by decide) lX7_init) (fun b hb => by exact Or.inl (by have e : some _ = some b := hb; cases e; simp)) rfl ?_
    refine C.mono hf (fun _ _ => KV.g (fun h15 hf le16 => ?_))
    replace s7 := s7.leX sc7 le16 k14 (by decide)
    have k1 := leK le16 k1 (by decide)
    have k4 := leK le16 k4 (by decide)
    have k14 := leK le16 k14 (by decide)
    refine x_astore_n (pc' := 60) (dX12_fun 30 rfl rfl) rfl (by decide) rfl rfl ?_
    refine x_aload_n (pc' := 61) 0 (dX12_fun 31 rfl rfl) rfl rfl rfl ?_
    refine x_aload_n (pc' := 62) 2 (dX12_fun 32 rfl rfl) rfl rfl rfl ?_
    refine x_inv (pc' := 65) (ν := mX12_atPat) (av := [_]) (st := [_]) rfl rfl (dX12_fun 33 rfl rfl) (Nat.le_of_ble_eq_true rfl) wX12_atPat q226 (inv_V (k := 10) (dX12_fun 33 rfl rfl) q1334 q1336 qs19 wX12_atPat (by decide) lX12_atPat (by decide) s7.1) (exN (by decide)) rfl ?_
    refine C.mono hf (fun _ _ => KR.g (fun b19 h17 hf le18 => ?_))
    have k1 := leK le18 k1 (by decide)
    have k4 := leK le18 k4 (by decide)
    have k14 := leK le18 k14 (by decide)
    replace s7 := s7.le sc7 (le18)
    refine x_inv (pc' := 68) (ν := mX7_add) (av := [_, _]) (st := []) rfl rfl (dX12_fun 34 rfl rfl) (Nat.le_of_ble_eq_true rfl) wX7_add q221 (inv_V (k := 5) (dX12_fun 34 rfl rfl) q1401 q590 q591 wX7_add (by decide) lX7_add (by decide) k14) (exN (by decide)) rfl ?_
    refine C.mono hf (fun _ _ => KV.g (fun h20 hf le21 => ?_))
    have k1 := leK le21 k1 (by decide)
    have k4 := leK le21 k4 (by decide)
    have k14 := leK le21 k14 (by decide)
    replace s7 := s7.le sc7 (le21)
    exact X.sub [2, 3, 1, 0] rfl (by simp) hf
  · replace hf := hf.1 (Classical.not_not.mp c5)
    replace c5 := Classical.not_not.mp c5
    refine x_aload_n (pc' := 25) 0 (dX12_fun 11 rfl rfl) rfl rfl rfl ?_
    refine x_dup (pc' := 26) (dX12_fun 12 rfl rfl) rfl rfl ?_
    refine x_getI (pc' := 29) (dX12_fun 13 rfl rfl) g115 q859 (Or.inl rfl) rfl (hf_of 10 s7.1 rfl (by decide) m10_115) ?_
    refine x_iconst (pc' := 30) (v := 1) (dX12_fun 14 rfl rfl) (by decide) rfl ?_
    refine x_isub (pc' := 31) (dX12_fun 15 rfl rfl) rfl ?_
    refine x_putI (pc' := 34) (dX12_fun 16 rfl rfl) g115 q859 (Or.inl rfl) (Or.inl rfl) (Or.inl (by decide)) rfl (hf_of 10 s7.1 rfl (by decide) m10_115) (fun h23 e27 => ?_)
    replace hf := hf h23 e27
    replace k1 : hK h23 l1 = 45 := by rw [e27]; exact k1
    replace k4 : hK h23 b2 = 6 := by rw [e27]; exact k4
    replace s7 : So 7 (gW G) h23 := by rw [e27]; exact s7.le sc7 (pI_le (Or.inl rfl))
    refine x_aload_n (pc' := 35) 0 (dX12_fun 17 rfl rfl) rfl rfl rfl ?_
    refine x_inv (pc' := 38) (ν := mX12_wrong) (av := [_]) (st := []) rfl rfl (dX12_fun 18 rfl rfl) (Nat.le_of_ble_eq_true rfl) wX12_wrong q226 (inv_V (k := 10) (dX12_fun 18 rfl rfl) q1289 q1291 qs14 wX12_wrong (by decide) lX12_wrong (by decide) s7.1) (exN (by decide)) rfl ?_
    refine C.mono hf (fun _ _ => KR.g (fun b26 h24 hf le25 => ?_))
    have k1 := leK le25 k1 (by decide)
    have k4 := leK le25 k4 (by decide)
    replace s7 := s7.le sc7 (le25)
    exact x_athrow (dX12_fun 19 rfl rfl) rfl hf
theorem bX12_fun_68 (G : Gh) (d : Nat) (h : AH) (Q : Outcome → AH → Prop) (l1 : Nat) (l2 : Int32) (l3 : Nat) (s7 : So 7 (gW G) h) (hf : C G mX12_beginsPat d [.ref (gW G 7)] h (KI Q (fun x3 h1 => (x3 = 0 → (C G mX12_expect d [.ref (gW G 7), .int (61)] h1 (KI Q (fun x7 h5 => hK h5 l1 = 45 ∧ (∃ b9, fR h5 l1 345 = some b9 ∧ ((hc h5 + 1 ≤ MC) ∧ (hs h5 + 3 ≤ MS) ∧ ∀ q11, hK h5 q11 = 0 → ∀ h13, h13 = nO h5 q11 28 → (C G mX12_patsOf d [.ref (l3)] h13 (KR Q (fun b18 h16 => C G mX12_exp d [.ref (gW G 7)] h16 (KR Q (fun b21 h19 => C G mX31_init d [.ref (q11), .int (l2), .ref (b18), .ref (b21)] h19 (KV Q (fun h22 => hK h22 b9 = 6 ∧ (C G mX7_add d [.ref (b9), .ref (q11)] h22 (KV Q (fun h24 => C G mX12_skip d [.ref (gW G 7), .int (124)] h24 (KI Q (fun x29 h27 => (x29 = 0 → (Q (.returned (some (.ref (l1)))) h27)) ∧ (¬ x29 = 0 → (X G mX12_fun (d + 1) none [] 12 [(0, .ref (gW G 7)), (1, .ref (l1))] [] h27 Q)))))))))))))))))))) ∧ (¬ x3 = 0 → (C G mX12_atPat d [.ref (gW G 7)] h1 (KR Q (fun b33 h31 => hK h31 l3 = 6 ∧ (C G mX7_add d [.ref (l3), .ref (b33)] h31 (KV Q (fun h34 => X G mX12_fun (d + 1) none [] 68 [(0, .ref (gW G 7)), (1, .ref (l1)), (2, .int (l2)), (3, .ref (l3))] [] h34 Q)))))))))) : X G mX12_fun (d + 1) none [] 68 [(0, .ref (gW G 7)), (1, .ref (l1)), (2, .int (l2)), (3, .ref (l3))] [] h Q := by
  refine x_aload_n (pc' := 69) 0 (dX12_fun 35 rfl rfl) rfl rfl rfl ?_
  refine x_inv (pc' := 72) (ν := mX12_beginsPat) (av := [_]) (st := []) rfl rfl (dX12_fun 36 rfl rfl) (Nat.le_of_ble_eq_true rfl) wX12_beginsPat q226 (inv_V (k := 10) (dX12_fun 36 rfl rfl) q1330 q1332 qs18 wX12_beginsPat (by decide) lX12_beginsPat (by decide) s7.1) (exN (by decide)) rfl ?_
  refine C.mono hf (fun _ _ => KI.g (fun x3 h1 hf le2 => ?_))
  replace s7 := s7.le sc7 (le2)
  refine x_if_eq (pc' := 75) (tgt := 86) (dX12_fun 37 rfl rfl) (by decide) rfl (fun c4 => ?_) (fun c4 => ?_)
  · replace hf := hf.1 c4
    refine x_aload_n (pc' := 87) 0 (dX12_fun 43 rfl rfl) rfl rfl rfl ?_
    refine x_bipush (pc' := 89) (v := 61) (dX12_fun 44 rfl rfl) (by decide) rfl ?_
    refine x_inv (pc' := 92) (ν := mX12_expect) (av := [_, _]) (st := []) rfl rfl (dX12_fun 45 rfl rfl) (Nat.le_of_ble_eq_true rfl) wX12_expect q226 (inv_V (k := 10) (dX12_fun 45 rfl rfl) q1471 q1473 qs21 wX12_expect (by decide) lX12_expect (by decide) s7.1) (exN (by decide)) rfl ?_
    refine C.mono hf (fun _ _ => KI.g (fun x7 h5 hf le6 => ?_))
    replace s7 := s7.le sc7 (le6)
    refine x_istore (pc' := 94) (dX12_fun 46 rfl rfl) (by decide) rfl rfl ?_
    refine x_aload_n (pc' := 95) 2 (dX12_fun 47 rfl rfl) rfl rfl rfl ?_
    obtain ⟨k8, hf⟩ := hf
    obtain ⟨b9, e10, hf⟩ := hf
    refine x_getR (pc' := 98) (dX12_fun 48 rfl rfl) g345 q1857 (Or.inl rfl) rfl (hf_of 44 k8 rfl (by decide) m44_345) e10 ?_
    obtain ⟨n1, n2, hf⟩ := hf
    refine x_new (pc' := 101) (k := 28) (dX12_fun 49 rfl rfl) q1485 (by decide) rfl (by decide) n1 n2 (fun q11 h13 k12 e14 => ?_)
    replace hf := hf q11 k12 h13 e14
    replace k8 : hK h13 l1 = 45 := by rw [e14]; exact kNO k8 (by decide) k12
    replace s7 : So 7 (gW G) h13 := by rw [e14]; exact s7.le sc7 (nO_le k12)
    have k15 : hK h13 q11 = 29 := by rw [e14]; exact kNOs
    refine x_dup (pc' := 102) (dX12_fun 50 rfl rfl) rfl rfl ?_
    refine x_iload_n (pc' := 103) 3 (dX12_fun 51 rfl rfl) rfl rfl rfl ?_
    refine x_aload_n (pc' := 104) 4 (dX12_fun 52 rfl rfl) rfl rfl rfl ?_
    refine x_inv (pc' := 107) (ν := mX12_patsOf) (av := [_]) (st := [_, _, _, _]) rfl rfl (dX12_fun 53 rfl rfl) (Nat.le_of_ble_eq_true rfl) wX12_patsOf q226 (inv_S (dX12_fun 53 rfl rfl) q1404 q1405 q226 wX12_patsOf (by decide) lX12_patsOf) (exN (by decide)) rfl ?_
    refine C.mono hf (fun _ _ => KR.g (fun b18 h16 hf le17 => ?_))
    have k8 := leK le17 k8 (by decide)
    have k15 := leK le17 k15 (by decide)
    replace s7 := s7.le sc7 (le17)
    refine x_aload_n (pc' := 108) 1 (dX12_fun 54 rfl rfl) rfl rfl rfl ?_
    refine x_inv (pc' := 111) (ν := mX12_exp) (av := [_]) (st := [_, _, _, _, _]) rfl rfl (dX12_fun 55 rfl rfl) (Nat.le_of_ble_eq_true rfl) wX12_exp q226 (inv_V (k := 10) (dX12_fun 55 rfl rfl) q1477 q1479 qs22 wX12_exp (by decide) lX12_exp (by decide) s7.1) (exN (by decide)) rfl ?_
    refine C.mono hf (fun _ _ => KR.g (fun b21 h19 hf le20 => ?_))
    have k8 := leK le20 k8 (by decide)
    have k15 := leK le20 k15 (by decide)
    replace s7 := s7.le sc7 (le20)
    refine x_inv (pc' := 114) (ν := mX31_init) (av := [_, _, _, _]) (st := [_, _]) rfl rfl (dX12_fun 56 rfl rfl) (Nat.le_of_ble_eq_true rfl) wX31_init q252 (inv_I (dX12_fun 56 rfl rfl) q1487 q1488 q1489 rfl (by decide) lX31_init) (fun b hb => by exact Or.inl (by have e : some _ = some b := hb; cases e; simp)) rfl ?_
    refine C.mono hf (fun _ _ => KV.g (fun h22 hf le23 => ?_))
    replace s7 := s7.leX sc7 le23 k15 (by decide)
    have k8 := leK le23 k8 (by decide)
    have k15 := leK le23 k15 (by decide)
    obtain ⟨k26, hf⟩ := hf
    refine x_inv (pc' := 117) (ν := mX7_add) (av := [_, _]) (st := []) rfl rfl (dX12_fun 57 rfl rfl) (Nat.le_of_ble_eq_true rfl) wX7_add q221 (inv_V (k := 5) (dX12_fun 57 rfl rfl) q1401 q590 q591 wX7_add (by decide) lX7_add (by decide) k26) (exN (by decide)) rfl ?_
    refine C.mono hf (fun _ _ => KV.g (fun h24 hf le25 => ?_))
    have k8 := leK le25 k8 (by decide)
    have k15 := leK le25 k15 (by decide)
    have k26 := leK le25 k26 (by decide)
    replace s7 := s7.le sc7 (le25)
    refine x_aload_n (pc' := 118) 1 (dX12_fun 58 rfl rfl) rfl rfl rfl ?_
    refine x_bipush (pc' := 120) (v := 124) (dX12_fun 59 rfl rfl) (by decide) rfl ?_
    refine x_inv (pc' := 123) (ν := mX12_skip) (av := [_, _]) (st := []) rfl rfl (dX12_fun 60 rfl rfl) (Nat.le_of_ble_eq_true rfl) wX12_skip q226 (inv_V (k := 10) (dX12_fun 60 rfl rfl) q1511 q1513 qs24 wX12_skip (by decide) lX12_skip (by decide) s7.1) (exN (by decide)) rfl ?_
    refine C.mono hf (fun _ _ => KI.g (fun x29 h27 hf le28 => ?_))
    have k8 := leK le28 k8 (by decide)
    have k15 := leK le28 k15 (by decide)
    have k26 := leK le28 k26 (by decide)
    replace s7 := s7.le sc7 (le28)
    refine x_if_ne (pc' := 126) (tgt := 12) (dX12_fun 61 rfl rfl) (by decide) rfl (fun c30 => ?_) (fun c30 => ?_)
    · replace hf := hf.2 c30
      exact X.sub [1, 2] rfl (by simp) hf
    · replace hf := hf.1 (Classical.not_not.mp c30)
      replace c30 := Classical.not_not.mp c30
      refine x_aload_n (pc' := 127) 2 (dX12_fun 62 rfl rfl) rfl rfl rfl ?_
      exact x_aret (dX12_fun 63 rfl rfl) rfl (Or.inl ⟨_, rfl⟩) (Or.inr ⟨_, rfl⟩) hf
  · replace hf := hf.2 c4
    refine x_aload_n (pc' := 76) 3 (dX12_fun 38 rfl rfl) rfl rfl rfl ?_
    refine x_aload_n (pc' := 77) 0 (dX12_fun 39 rfl rfl) rfl rfl rfl ?_
    refine x_inv (pc' := 80) (ν := mX12_atPat) (av := [_]) (st := [_]) rfl rfl (dX12_fun 40 rfl rfl) (Nat.le_of_ble_eq_true rfl) wX12_atPat q226 (inv_V (k := 10) (dX12_fun 40 rfl rfl) q1334 q1336 qs19 wX12_atPat (by decide) lX12_atPat (by decide) s7.1) (exN (by decide)) rfl ?_
    refine C.mono hf (fun _ _ => KR.g (fun b33 h31 hf le32 => ?_))
    replace s7 := s7.le sc7 (le32)
    obtain ⟨k36, hf⟩ := hf
    refine x_inv (pc' := 83) (ν := mX7_add) (av := [_, _]) (st := []) rfl rfl (dX12_fun 41 rfl rfl) (Nat.le_of_ble_eq_true rfl) wX7_add q221 (inv_V (k := 5) (dX12_fun 41 rfl rfl) q1401 q590 q591 wX7_add (by decide) lX7_add (by decide) k36) (exN (by decide)) rfl ?_
    refine C.mono hf (fun _ _ => KV.g (fun h34 hf le35 => ?_))
    have k36 := leK le35 k36 (by decide)
    replace s7 := s7.le sc7 (le35)
    refine x_goto (tgt := 68) (dX12_fun 42 rfl rfl) (by decide) ?_
    exact X.sub [0, 1, 2, 3] rfl (by simp) hf
theorem bX12_data (G : Gh) (d : Nat) (h : AH) (Q : Outcome → AH → Prop)  (s7 : So 7 (gW G) h) (hf : (¬ (6 : Int32) < 0) ∧ (hc h + 1 ≤ MC) ∧ (hs h + (6 : Int32).toNatClampNeg ≤ MS) ∧ ∀ q1, hK h q1 = 0 → ∀ h3, h3 = nA h q1 0 (6 : Int32).toNatClampNeg → (C G mX12_kind d [.ref (gW G 7)] h3 (KI Q (fun x9 h7 => (x9 = 282 → (C G mX12_take d [.ref (gW G 7)] h7 (KI Q (fun x32 h30 => Ns (gW G) q1 ∧ vp_in 0 (hL h30 q1) ∧ ∀ h34, h34 = sI h30 q1 (0 : Int32).toNatClampNeg x32 → ((hc h34 + 1 ≤ MC) ∧ (hs h34 + 5 ≤ MS) ∧ ∀ q37, hK h34 q37 = 0 → ∀ h39, h39 = nO h34 q37 46 → (C G mX12_expect d [.ref (gW G 7), .int (280)] h39 (KI Q (fun x44 h42 => C G mX50_init d [.ref (q37), .int (x44), .ref (q1), .int (1)] h42 (KV Q (fun h45 => C G mX12_expect d [.ref (gW G 7), .int (61)] h45 (KI Q (fun x49 h47 => X G mX12_data (d + 1) none [] 133 [(0, .ref (gW G 7)), (3, .ref (q37))] [] h47 Q)))))))))))) ∧ (¬ x9 = 282 → (C G mX12_skip d [.ref (gW G 7), .int (40)] h7 (KI Q (fun x13 h11 => (x13 = 0 → ((hc h11 + 1 ≤ MC) ∧ (hs h11 + 5 ≤ MS) ∧ ∀ q15, hK h11 q15 = 0 → ∀ h17, h17 = nO h11 q15 46 → (C G mX12_expect d [.ref (gW G 7), .int (280)] h17 (KI Q (fun x22 h20 => C G mX50_init d [.ref (q15), .int (x22), .ref (q1), .int (0)] h20 (KV Q (fun h23 => C G mX12_expect d [.ref (gW G 7), .int (61)] h23 (KI Q (fun x27 h25 => X G mX12_data (d + 1) none [] 133 [(0, .ref (gW G 7)), (3, .ref (q15))] [] h25 Q))))))))) ∧ (¬ x13 = 0 → (∀ h28, h28 = pI h11 (gW G 7) 116 ((fI h11 (gW G 7) 116) + 1) → (X G mX12_data (d + 1) none [] 48 [(0, .ref (gW G 7)), (1, .ref (q1)), (2, .int (0))] [] h28 Q))))))))))) : C G mX12_data (d + 1) [.ref (gW G 7)] h Q := by
  refine C.of_X (by decide +kernel) (Nat.le_of_ble_eq_true rfl) wX12_data ?_
  show X G mX12_data (d + 1) none [] 0 [(0, .ref (gW G 7))] [] h Q
  refine x_bipush (pc' := 2) (v := 6) (dX12_data 0 rfl rfl) (by decide) rfl ?_
  obtain ⟨z5, n1, n2, hf⟩ := hf
  refine x_newa0 (pc' := 4) (dX12_data 1 rfl rfl) rfl z5 (by decide) n1 n2 (fun q1 h3 k2 e4 => ?_)
  replace hf := hf q1 k2 h3 e4
  replace s7 : So 7 (gW G) h3 := by rw [e4]; exact s7.le sc7 (nA_le k2)
  have k6 : hK h3 q1 = 1000 := by rw [e4]; exact kNAs
  refine x_astore_n (pc' := 5) (dX12_data 2 rfl rfl) rfl (by decide) rfl rfl ?_
  refine x_iconst (pc' := 6) (v := 0) (dX12_data 3 rfl rfl) (by decide) rfl ?_
  refine x_istore_n (pc' := 7) (dX12_data 4 rfl rfl) rfl (by decide) rfl rfl ?_
  refine x_aload_n (pc' := 8) 2 (dX12_data 5 rfl rfl) rfl rfl rfl ?_
  refine x_inv (pc' := 11) (ν := mX12_kind) (av := [_]) (st := []) rfl rfl (dX12_data 6 rfl rfl) (Nat.le_of_ble_eq_true rfl) wX12_kind q226 (inv_V (k := 10) (dX12_data 6 rfl rfl) q1281 q1283 qs12 wX12_kind (by decide) lX12_kind (by decide) s7.1) (exN (by decide)) rfl ?_
  refine C.mono hf (fun _ _ => KI.g (fun x9 h7 hf le8 => ?_))
  have k6 := leK le8 k6 (by decide)
  replace s7 := s7.le sc7 (le8)
  refine x_sipush (pc' := 14) (v := 282) (dX12_data 7 rfl rfl) (by decide) rfl ?_
  refine x_icmp_ne (pc' := 17) (tgt := 29) (dX12_data 8 rfl rfl) (by decide) rfl (fun c10 => ?_) (fun c10 => ?_)
  · replace hf := hf.2 c10
    refine x_aload_n (pc' := 30) 2 (dX12_data 17 rfl rfl) rfl rfl rfl ?_
    refine x_bipush (pc' := 32) (v := 40) (dX12_data 18 rfl rfl) (by decide) rfl ?_
    refine x_inv (pc' := 35) (ν := mX12_skip) (av := [_, _]) (st := []) rfl rfl (dX12_data 19 rfl rfl) (Nat.le_of_ble_eq_true rfl) wX12_skip q226 (inv_V (k := 10) (dX12_data 19 rfl rfl) q1511 q1513 qs24 wX12_skip (by decide) lX12_skip (by decide) s7.1) (exN (by decide)) rfl ?_
    refine C.mono hf (fun _ _ => KI.g (fun x13 h11 hf le12 => ?_))
    have k6 := leK le12 k6 (by decide)
    replace s7 := s7.le sc7 (le12)
    refine x_if_eq (pc' := 38) (tgt := 108) (dX12_data 20 rfl rfl) (by decide) rfl (fun c14 => ?_) (fun c14 => ?_)
    · replace hf := hf.1 c14
      obtain ⟨n1, n2, hf⟩ := hf
      refine x_new (pc' := 111) (k := 46) (dX12_data 60 rfl rfl) q1884 (by decide) rfl (by decide) n1 n2 (fun q15 h17 k16 e18 => ?_)
      replace hf := hf q15 k16 h17 e18
      replace k6 : hK h17 q1 = 1000 := by rw [e18]; exact kNO k6 (by decide) k16
      replace s7 : So 7 (gW G) h17 := by rw [e18]; exact s7.le sc7 (nO_le k16)
      have k19 : hK h17 q15 = 47 := by rw [e18]; exact kNOs
      refine x_dup (pc' := 112) (dX12_data 61 rfl rfl) rfl rfl ?_
      refine x_aload_n (pc' := 113) 2 (dX12_data 62 rfl rfl) rfl rfl rfl ?_
      refine x_sipush (pc' := 116) (v := 280) (dX12_data 63 rfl rfl) (by decide) rfl ?_
      refine x_inv (pc' := 119) (ν := mX12_expect) (av := [_, _]) (st := [_, _]) rfl rfl (dX12_data 64 rfl rfl) (Nat.le_of_ble_eq_true rfl) wX12_expect q226 (inv_V (k := 10) (dX12_data 64 rfl rfl) q1471 q1473 qs21 wX12_expect (by decide) lX12_expect (by decide) s7.1) (exN (by decide)) rfl ?_
      refine C.mono hf (fun _ _ => KI.g (fun x22 h20 hf le21 => ?_))
      have k6 := leK le21 k6 (by decide)
      have k19 := leK le21 k19 (by decide)
      replace s7 := s7.le sc7 (le21)
      refine x_aload_n (pc' := 120) 1 (dX12_data 65 rfl rfl) rfl rfl rfl ?_
      refine x_iload_n (pc' := 121) 0 (dX12_data 66 rfl rfl) rfl rfl rfl ?_
      refine x_inv (pc' := 124) (ν := mX50_init) (av := [_, _, _, _]) (st := [_]) rfl rfl (dX12_data 67 rfl rfl) (Nat.le_of_ble_eq_true rfl) wX50_init q271 (inv_I (dX12_data 67 rfl rfl) q1886 q1887 q1888 rfl (by decide) lX50_init) (fun b hb => by exact Or.inl (by have e : some _ = some b := hb; cases e; simp)) rfl ?_
      refine C.mono hf (fun _ _ => KV.g (fun h23 hf le24 => ?_))
      replace s7 := s7.leX sc7 le24 k19 (by decide)
      have k6 := leK le24 k6 (by decide)
      have k19 := leK le24 k19 (by decide)
      refine x_astore_n (pc' := 125) (dX12_data 68 rfl rfl) rfl (by decide) rfl rfl ?_
      refine x_aload_n (pc' := 126) 3 (dX12_data 69 rfl rfl) rfl rfl rfl ?_
      refine x_bipush (pc' := 128) (v := 61) (dX12_data 70 rfl rfl) (by decide) rfl ?_
      refine x_inv (pc' := 131) (ν := mX12_expect) (av := [_, _]) (st := []) rfl rfl (dX12_data 71 rfl rfl) (Nat.le_of_ble_eq_true rfl) wX12_expect q226 (inv_V (k := 10) (dX12_data 71 rfl rfl) q1471 q1473 qs21 wX12_expect (by decide) lX12_expect (by decide) s7.1) (exN (by decide)) rfl ?_
      refine C.mono hf (fun _ _ => KI.g (fun x27 h25 hf le26 => ?_))
      have k6 := leK le26 k6 (by decide)
      have k19 := leK le26 k19 (by decide)
      replace s7 := s7.le sc7 (le26)
      refine x_istore (pc' := 133) (dX12_data 72 rfl rfl) (by decide) rfl rfl ?_
      exact X.sub [4, 1] rfl (by simp) hf
    · replace hf := hf.2 c14
      refine x_aload_n (pc' := 39) 2 (dX12_data 21 rfl rfl) rfl rfl rfl ?_
      refine x_dup (pc' := 40) (dX12_data 22 rfl rfl) rfl rfl ?_
      refine x_getI (pc' := 43) (dX12_data 23 rfl rfl) g116 q860 (Or.inl rfl) rfl (hf_of 10 s7.1 rfl (by decide) m10_116) ?_
      refine x_iconst (pc' := 44) (v := 1) (dX12_data 24 rfl rfl) (by decide) rfl ?_
      refine x_iadd (pc' := 45) (dX12_data 25 rfl rfl) rfl ?_
      refine x_putI (pc' := 48) (dX12_data 26 rfl rfl) g116 q860 (Or.inl rfl) (Or.inl rfl) (Or.inl (by decide)) rfl (hf_of 10 s7.1 rfl (by decide) m10_116) (fun h28 e29 => ?_)
      replace hf := hf h28 e29
      replace k6 : hK h28 q1 = 1000 := by rw [e29]; exact k6
      replace s7 : So 7 (gW G) h28 := by rw [e29]; exact s7.le sc7 (pI_le (Or.inl rfl))
      exact X.sub [2, 1, 0] rfl (by simp) hf
  · replace hf := hf.1 (Classical.not_not.mp c10)
    replace c10 := Classical.not_not.mp c10
    refine x_aload_n (pc' := 18) 1 (dX12_data 9 rfl rfl) rfl rfl rfl ?_
    refine x_iconst (pc' := 19) (v := 0) (dX12_data 10 rfl rfl) (by decide) rfl ?_
    refine x_aload_n (pc' := 20) 2 (dX12_data 11 rfl rfl) rfl rfl rfl ?_
    refine x_inv (pc' := 23) (ν := mX12_take) (av := [_]) (st := [_, _]) rfl rfl (dX12_data 12 rfl rfl) (Nat.le_of_ble_eq_true rfl) wX12_take q226 (inv_V (k := 10) (dX12_data 12 rfl rfl) q1316 q1318 qs15 wX12_take (by decide) lX12_take (by decide) s7.1) (exN (by decide)) rfl ?_
    refine C.mono hf (fun _ _ => KI.g (fun x32 h30 hf le31 => ?_))
    have k6 := leK le31 k6 (by decide)
    replace s7 := s7.le sc7 (le31)
    obtain ⟨n36, hf⟩ := hf
    obtain ⟨i33, hf⟩ := hf
    refine x_iast (pc' := 24) (dX12_data 13 rfl rfl) rfl k6 (Or.inr ⟨n36, by decide⟩) i33 (fun h34 e35 => ?_)
    replace hf := hf h34 e35
    replace k6 : hK h34 q1 = 1000 := by rw [e35]; exact k6
    replace s7 : So 7 (gW G) h34 := by rw [e35]; exact s7.le sc7 (sI_le )
    refine x_iconst (pc' := 25) (v := 1) (dX12_data 14 rfl rfl) (by decide) rfl ?_
    refine x_istore_n (pc' := 26) (dX12_data 15 rfl rfl) rfl (by decide) rfl rfl ?_
    refine x_goto (tgt := 108) (dX12_data 16 rfl rfl) (by decide) ?_
    obtain ⟨n1, n2, hf⟩ := hf
    refine x_new (pc' := 111) (k := 46) (dX12_data 60 rfl rfl) q1884 (by decide) rfl (by decide) n1 n2 (fun q37 h39 k38 e40 => ?_)
    replace hf := hf q37 k38 h39 e40
    replace k6 : hK h39 q1 = 1000 := by rw [e40]; exact kNO k6 (by decide) k38
    replace s7 : So 7 (gW G) h39 := by rw [e40]; exact s7.le sc7 (nO_le k38)
    have k41 : hK h39 q37 = 47 := by rw [e40]; exact kNOs
    refine x_dup (pc' := 112) (dX12_data 61 rfl rfl) rfl rfl ?_
    refine x_aload_n (pc' := 113) 2 (dX12_data 62 rfl rfl) rfl rfl rfl ?_
    refine x_sipush (pc' := 116) (v := 280) (dX12_data 63 rfl rfl) (by decide) rfl ?_
    refine x_inv (pc' := 119) (ν := mX12_expect) (av := [_, _]) (st := [_, _]) rfl rfl (dX12_data 64 rfl rfl) (Nat.le_of_ble_eq_true rfl) wX12_expect q226 (inv_V (k := 10) (dX12_data 64 rfl rfl) q1471 q1473 qs21 wX12_expect (by decide) lX12_expect (by decide) s7.1) (exN (by decide)) rfl ?_
    refine C.mono hf (fun _ _ => KI.g (fun x44 h42 hf le43 => ?_))
    have k6 := leK le43 k6 (by decide)
    have k41 := leK le43 k41 (by decide)
    replace s7 := s7.le sc7 (le43)
    refine x_aload_n (pc' := 120) 1 (dX12_data 65 rfl rfl) rfl rfl rfl ?_
    refine x_iload_n (pc' := 121) 0 (dX12_data 66 rfl rfl) rfl rfl rfl ?_
    refine x_inv (pc' := 124) (ν := mX50_init) (av := [_, _, _, _]) (st := [_]) rfl rfl (dX12_data 67 rfl rfl) (Nat.le_of_ble_eq_true rfl) wX50_init q271 (inv_I (dX12_data 67 rfl rfl) q1886 q1887 q1888 rfl (by decide) lX50_init) (fun b hb => by exact Or.inl (by have e : some _ = some b := hb; cases e; simp)) rfl ?_
    refine C.mono hf (fun _ _ => KV.g (fun h45 hf le46 => ?_))
    replace s7 := s7.leX sc7 le46 k41 (by decide)
    have k6 := leK le46 k6 (by decide)
    have k41 := leK le46 k41 (by decide)
    refine x_astore_n (pc' := 125) (dX12_data 68 rfl rfl) rfl (by decide) rfl rfl ?_
    refine x_aload_n (pc' := 126) 3 (dX12_data 69 rfl rfl) rfl rfl rfl ?_
    refine x_bipush (pc' := 128) (v := 61) (dX12_data 70 rfl rfl) (by decide) rfl ?_
    refine x_inv (pc' := 131) (ν := mX12_expect) (av := [_, _]) (st := []) rfl rfl (dX12_data 71 rfl rfl) (Nat.le_of_ble_eq_true rfl) wX12_expect q226 (inv_V (k := 10) (dX12_data 71 rfl rfl) q1471 q1473 qs21 wX12_expect (by decide) lX12_expect (by decide) s7.1) (exN (by decide)) rfl ?_
    refine C.mono hf (fun _ _ => KI.g (fun x49 h47 hf le48 => ?_))
    have k6 := leK le48 k6 (by decide)
    have k41 := leK le48 k41 (by decide)
    replace s7 := s7.le sc7 (le48)
    refine x_istore (pc' := 133) (dX12_data 72 rfl rfl) (by decide) rfl rfl ?_
    exact X.sub [4, 1] rfl (by simp) hf
theorem bX12_data_48 (G : Gh) (d : Nat) (h : AH) (Q : Outcome → AH → Prop) (l1 : Nat) (l2 : Int32) (s7 : So 7 (gW G) h) (hf : (l2 = 6 → (∀ h33, h33 = pI h (gW G 7) 115 ((fI h (gW G 7) 115) - 1) → (C G mX12_wrong d [.ref (gW G 7)] h33 (KR Q (fun b36 h34 => Q (.threw b36) h34))))) ∧ (¬ l2 = 6 → (C G mX12_expect d [.ref (gW G 7), .int (282)] h (KI Q (fun x4 h2 => hK h2 l1 = 1000 ∧ Ns (gW G) l1 ∧ vp_in l2 (hL h2 l1) ∧ ∀ h7, h7 = sI h2 l1 l2.toNatClampNeg x4 → (∀ x10 : Int32, x10 = l2 + 1 → (C G mX12_skip d [.ref (gW G 7), .int (44)] h7 (KI Q (fun x13 h11 => (x13 = 0 → (∀ h15, h15 = pI h11 (gW G 7) 116 ((fI h11 (gW G 7) 116) - 1) → (C G mX12_expect d [.ref (gW G 7), .int (41)] h15 (KI Q (fun x18 h16 => (hc h16 + 1 ≤ MC) ∧ (hs h16 + 5 ≤ MS) ∧ ∀ q19, hK h16 q19 = 0 → ∀ h21, h21 = nO h16 q19 46 → (C G mX12_expect d [.ref (gW G 7), .int (280)] h21 (KI Q (fun x26 h24 => C G mX50_init d [.ref (q19), .int (x26), .ref (l1), .int (x10)] h24 (KV Q (fun h27 => C G mX12_expect d [.ref (gW G 7), .int (61)] h27 (KI Q (fun x31 h29 => X G mX12_data (d + 1) none [] 133 [(0, .ref (gW G 7)), (3, .ref (q19))] [] h29 Q)))))))))))) ∧ (¬ x13 = 0 → (X G mX12_data (d + 1) none [] 48 [(0, .ref (gW G 7)), (1, .ref (l1)), (2, .int (x10))] [] h11 Q))))))))))) : X G mX12_data (d + 1) none [] 48 [(0, .ref (gW G 7)), (1, .ref (l1)), (2, .int (l2))] [] h Q := by
  refine x_iload_n (pc' := 49) 2 (dX12_data 27 rfl rfl) rfl rfl rfl ?_
  refine x_bipush (pc' := 51) (v := 6) (dX12_data 28 rfl rfl) (by decide) rfl ?_
  refine x_icmp_ne (pc' := 54) (tgt := 69) (dX12_data 29 rfl rfl) (by decide) rfl (fun c1 => ?_) (fun c1 => ?_)
  · replace hf := hf.2 c1
    refine x_aload_n (pc' := 70) 1 (dX12_data 39 rfl rfl) rfl rfl rfl ?_
    refine x_iload_n (pc' := 71) 2 (dX12_data 40 rfl rfl) rfl rfl rfl ?_
    refine x_aload_n (pc' := 72) 0 (dX12_data 41 rfl rfl) rfl rfl rfl ?_
    refine x_sipush (pc' := 75) (v := 282) (dX12_data 42 rfl rfl) (by decide) rfl ?_
    refine x_inv (pc' := 78) (ν := mX12_expect) (av := [_, _]) (st := [_, _]) rfl rfl (dX12_data 43 rfl rfl) (Nat.le_of_ble_eq_true rfl) wX12_expect q226 (inv_V (k := 10) (dX12_data 43 rfl rfl) q1471 q1473 qs21 wX12_expect (by decide) lX12_expect (by decide) s7.1) (exN (by decide)) rfl ?_
    refine C.mono hf (fun _ _ => KI.g (fun x4 h2 hf le3 => ?_))
    replace s7 := s7.le sc7 (le3)
    obtain ⟨k5, hf⟩ := hf
    obtain ⟨n9, hf⟩ := hf
    obtain ⟨i6, hf⟩ := hf
    refine x_iast (pc' := 79) (dX12_data 44 rfl rfl) rfl k5 (Or.inr ⟨n9, by decide⟩) i6 (fun h7 e8 => ?_)
    replace hf := hf h7 e8
    replace k5 : hK h7 l1 = 1000 := by rw [e8]; exact k5
    replace s7 : So 7 (gW G) h7 := by rw [e8]; exact s7.le sc7 (sI_le )
    replace hf := hf _ rfl
    refine x_iinc (pc' := 82) 2 (dX12_data 45 rfl rfl) rfl (by rfl) (by decide) rfl rfl ?_
    refine x_aload_n (pc' := 83) 1 (dX12_data 46 rfl rfl) rfl rfl rfl ?_
    refine x_bipush (pc' := 85) (v := 44) (dX12_data 47 rfl rfl) (by decide) rfl ?_
    refine x_inv (pc' := 88) (ν := mX12_skip) (av := [_, _]) (st := []) rfl rfl (dX12_data 48 rfl rfl) (Nat.le_of_ble_eq_true rfl) wX12_skip q226 (inv_V (k := 10) (dX12_data 48 rfl rfl) q1511 q1513 qs24 wX12_skip (by decide) lX12_skip (by decide) s7.1) (exN (by decide)) rfl ?_
    refine C.mono hf (fun _ _ => KI.g (fun x13 h11 hf le12 => ?_))
    have k5 := leK le12 k5 (by decide)
    replace s7 := s7.le sc7 (le12)
    refine x_if_ne (pc' := 91) (tgt := 48) (dX12_data 49 rfl rfl) (by decide) rfl (fun c14 => ?_) (fun c14 => ?_)
    · replace hf := hf.2 c14
      exact X.sub [1, 2, 0] rfl (by simp) hf
    · replace hf := hf.1 (Classical.not_not.mp c14)
      replace c14 := Classical.not_not.mp c14
      refine x_aload_n (pc' := 92) 1 (dX12_data 50 rfl rfl) rfl rfl rfl ?_
      refine x_dup (pc' := 93) (dX12_data 51 rfl rfl) rfl rfl ?_
      refine x_getI (pc' := 96) (dX12_data 52 rfl rfl) g116 q860 (Or.inl rfl) rfl (hf_of 10 s7.1 rfl (by decide) m10_116) ?_
      refine x_iconst (pc' := 97) (v := 1) (dX12_data 53 rfl rfl) (by decide) rfl ?_
      refine x_isub (pc' := 98) (dX12_data 54 rfl rfl) rfl ?_
      refine x_putI (pc' := 101) (dX12_data 55 rfl rfl) g116 q860 (Or.inl rfl) (Or.inl rfl) (Or.inl (by decide)) rfl (hf_of 10 s7.1 rfl (by decide) m10_116) (fun h15 e32 => ?_)
      replace hf := hf h15 e32
      replace k5 : hK h15 l1 = 1000 := by rw [e32]; exact k5
      replace s7 : So 7 (gW G) h15 := by rw [e32]; exact s7.le sc7 (pI_le (Or.inl rfl))
      refine x_aload_n (pc' := 102) 1 (dX12_data 56 rfl rfl) rfl rfl rfl ?_
      refine x_bipush (pc' := 104) (v := 41) (dX12_data 57 rfl rfl) (by decide) rfl ?_
      refine x_inv (pc' := 107) (ν := mX12_expect) (av := [_, _]) (st := []) rfl rfl (dX12_data 58 rfl rfl) (Nat.le_of_ble_eq_true rfl) wX12_expect q226 (inv_V (k := 10) (dX12_data 58 rfl rfl) q1471 q1473 qs21 wX12_expect (by decide) lX12_expect (by decide) s7.1) (exN (by decide)) rfl ?_
      refine C.mono hf (fun _ _ => KI.g (fun x18 h16 hf le17 => ?_))
      have k5 := leK le17 k5 (by decide)
      replace s7 := s7.le sc7 (le17)
      refine x_istore_n (pc' := 108) (dX12_data 59 rfl rfl) rfl (by decide) rfl rfl ?_
      obtain ⟨n1, n2, hf⟩ := hf
      refine x_new (pc' := 111) (k := 46) (dX12_data 60 rfl rfl) q1884 (by decide) rfl (by decide) n1 n2 (fun q19 h21 k20 e22 => ?_)
      replace hf := hf q19 k20 h21 e22
      replace k5 : hK h21 l1 = 1000 := by rw [e22]; exact kNO k5 (by decide) k20
      replace s7 : So 7 (gW G) h21 := by rw [e22]; exact s7.le sc7 (nO_le k20)
      have k23 : hK h21 q19 = 47 := by rw [e22]; exact kNOs
      refine x_dup (pc' := 112) (dX12_data 61 rfl rfl) rfl rfl ?_
      refine x_aload_n (pc' := 113) 2 (dX12_data 62 rfl rfl) rfl rfl rfl ?_
      refine x_sipush (pc' := 116) (v := 280) (dX12_data 63 rfl rfl) (by decide) rfl ?_
      refine x_inv (pc' := 119) (ν := mX12_expect) (av := [_, _]) (st := [_, _]) rfl rfl (dX12_data 64 rfl rfl) (Nat.le_of_ble_eq_true rfl) wX12_expect q226 (inv_V (k := 10) (dX12_data 64 rfl rfl) q1471 q1473 qs21 wX12_expect (by decide) lX12_expect (by decide) s7.1) (exN (by decide)) rfl ?_
      refine C.mono hf (fun _ _ => KI.g (fun x26 h24 hf le25 => ?_))
      have k5 := leK le25 k5 (by decide)
      have k23 := leK le25 k23 (by decide)
      replace s7 := s7.le sc7 (le25)
      refine x_aload_n (pc' := 120) 3 (dX12_data 65 rfl rfl) rfl rfl rfl ?_
      refine x_iload_n (pc' := 121) 1 (dX12_data 66 rfl rfl) rfl rfl rfl ?_
      refine x_inv (pc' := 124) (ν := mX50_init) (av := [_, _, _, _]) (st := [_]) rfl rfl (dX12_data 67 rfl rfl) (Nat.le_of_ble_eq_true rfl) wX50_init q271 (inv_I (dX12_data 67 rfl rfl) q1886 q1887 q1888 rfl (by decide) lX50_init) (fun b hb => by exact Or.inl (by have e : some _ = some b := hb; cases e; simp)) rfl ?_
      refine C.mono hf (fun _ _ => KV.g (fun h27 hf le28 => ?_))
      replace s7 := s7.leX sc7 le28 k23 (by decide)
      have k5 := leK le28 k5 (by decide)
      have k23 := leK le28 k23 (by decide)
      refine x_astore_n (pc' := 125) (dX12_data 68 rfl rfl) rfl (by decide) rfl rfl ?_
      refine x_aload_n (pc' := 126) 2 (dX12_data 69 rfl rfl) rfl rfl rfl ?_
      refine x_bipush (pc' := 128) (v := 61) (dX12_data 70 rfl rfl) (by decide) rfl ?_
      refine x_inv (pc' := 131) (ν := mX12_expect) (av := [_, _]) (st := []) rfl rfl (dX12_data 71 rfl rfl) (Nat.le_of_ble_eq_true rfl) wX12_expect q226 (inv_V (k := 10) (dX12_data 71 rfl rfl) q1471 q1473 qs21 wX12_expect (by decide) lX12_expect (by decide) s7.1) (exN (by decide)) rfl ?_
      refine C.mono hf (fun _ _ => KI.g (fun x31 h29 hf le30 => ?_))
      have k5 := leK le30 k5 (by decide)
      have k23 := leK le30 k23 (by decide)
      replace s7 := s7.le sc7 (le30)
      refine x_istore (pc' := 133) (dX12_data 72 rfl rfl) (by decide) rfl rfl ?_
      exact X.sub [3, 1] rfl (by simp) hf
  · replace hf := hf.1 (Classical.not_not.mp c1)
    replace c1 := Classical.not_not.mp c1
    refine x_aload_n (pc' := 55) 0 (dX12_data 30 rfl rfl) rfl rfl rfl ?_
    refine x_dup (pc' := 56) (dX12_data 31 rfl rfl) rfl rfl ?_
    refine x_getI (pc' := 59) (dX12_data 32 rfl rfl) g115 q859 (Or.inl rfl) rfl (hf_of 10 s7.1 rfl (by decide) m10_115) ?_
    refine x_iconst (pc' := 60) (v := 1) (dX12_data 33 rfl rfl) (by decide) rfl ?_
    refine x_isub (pc' := 61) (dX12_data 34 rfl rfl) rfl ?_
    refine x_putI (pc' := 64) (dX12_data 35 rfl rfl) g115 q859 (Or.inl rfl) (Or.inl rfl) (Or.inl (by decide)) rfl (hf_of 10 s7.1 rfl (by decide) m10_115) (fun h33 e37 => ?_)
    replace hf := hf h33 e37
    replace s7 : So 7 (gW G) h33 := by rw [e37]; exact s7.le sc7 (pI_le (Or.inl rfl))
    refine x_aload_n (pc' := 65) 0 (dX12_data 36 rfl rfl) rfl rfl rfl ?_
    refine x_inv (pc' := 68) (ν := mX12_wrong) (av := [_]) (st := []) rfl rfl (dX12_data 37 rfl rfl) (Nat.le_of_ble_eq_true rfl) wX12_wrong q226 (inv_V (k := 10) (dX12_data 37 rfl rfl) q1289 q1291 qs14 wX12_wrong (by decide) lX12_wrong (by decide) s7.1) (exN (by decide)) rfl ?_
    refine C.mono hf (fun _ _ => KR.g (fun b36 h34 hf le35 => ?_))
    replace s7 := s7.le sc7 (le35)
    exact x_athrow (dX12_data 38 rfl rfl) rfl hf
theorem bX12_data_133 (G : Gh) (d : Nat) (h : AH) (Q : Outcome → AH → Prop) (l3 : Nat) (s7 : So 7 (gW G) h) (hf : C G mX12_expect d [.ref (gW G 7), .int (281)] h (KI Q (fun x3 h1 => C G mX12_skip d [.ref (gW G 7), .int (268)] h1 (KI Q (fun x6 h4 => (x6 = 0 → (hK h4 l3 = 47 ∧ (∃ b9, fR h4 l3 352 = some b9 ∧ ((hc h4 + 1 ≤ MC) ∧ (hs h4 + 3 ≤ MS) ∧ ∀ q11, hK h4 q11 = 0 → ∀ h13, h13 = nO h4 q11 51 → (C G mX56_init d [.ref (q11), .int (x3), .null] h13 (KV Q (fun h16 => hK h16 b9 = 6 ∧ (C G mX7_add d [.ref (b9), .ref (q11)] h16 (KV Q (fun h18 => C G mX12_skip d [.ref (gW G 7), .int (124)] h18 (KI Q (fun x23 h21 => (x23 = 0 → (Q (.returned (some (.ref (l3)))) h21)) ∧ (¬ x23 = 0 → (X G mX12_data (d + 1) none [] 133 [(0, .ref (gW G 7)), (3, .ref (l3))] [] h21 Q)))))))))))))) ∧ (¬ x6 = 0 → (∀ h25, h25 = pI h4 (gW G 7) 116 ((fI h4 (gW G 7) 116) + 1) → (C G mX12_ty d [.ref (gW G 7)] h25 (KR Q (fun b28 h26 => ∀ h29, h29 = pI h26 (gW G 7) 116 ((fI h26 (gW G 7) 116) - 1) → (hK h29 l3 = 47 ∧ (∃ b31, fR h29 l3 352 = some b31 ∧ ((hc h29 + 1 ≤ MC) ∧ (hs h29 + 3 ≤ MS) ∧ ∀ q33, hK h29 q33 = 0 → ∀ h35, h35 = nO h29 q33 51 → (C G mX56_init d [.ref (q33), .int (x3), .ref (b28)] h35 (KV Q (fun h38 => hK h38 b31 = 6 ∧ (C G mX7_add d [.ref (b31), .ref (q33)] h38 (KV Q (fun h40 => C G mX12_skip d [.ref (gW G 7), .int (124)] h40 (KI Q (fun x45 h43 => (x45 = 0 → (Q (.returned (some (.ref (l3)))) h43)) ∧ (¬ x45 = 0 → (X G mX12_data (d + 1) none [] 133 [(0, .ref (gW G 7)), (3, .ref (l3))] [] h43 Q))))))))))))))))))))))) : X G mX12_data (d + 1) none [] 133 [(0, .ref (gW G 7)), (3, .ref (l3))] [] h Q := by
  refine x_aload_n (pc' := 134) 0 (dX12_data 73 rfl rfl) rfl rfl rfl ?_
  refine x_sipush (pc' := 137) (v := 281) (dX12_data 74 rfl rfl) (by decide) rfl ?_
  refine x_inv (pc' := 140) (ν := mX12_expect) (av := [_, _]) (st := []) rfl rfl (dX12_data 75 rfl rfl) (Nat.le_of_ble_eq_true rfl) wX12_expect q226 (inv_V (k := 10) (dX12_data 75 rfl rfl) q1471 q1473 qs21 wX12_expect (by decide) lX12_expect (by decide) s7.1) (exN (by decide)) rfl ?_
  refine C.mono hf (fun _ _ => KI.g (fun x3 h1 hf le2 => ?_))
  replace s7 := s7.le sc7 (le2)
  refine x_istore (pc' := 142) (dX12_data 76 rfl rfl) (by decide) rfl rfl ?_
  refine x_null (pc' := 143) (dX12_data 77 rfl rfl) rfl ?_
  refine x_astoreN (pc' := 145) (dX12_data 78 rfl rfl) (by decide) rfl rfl ?_
  refine x_aload_n (pc' := 146) 2 (dX12_data 79 rfl rfl) rfl rfl rfl ?_
  refine x_sipush (pc' := 149) (v := 268) (dX12_data 80 rfl rfl) (by decide) rfl ?_
  refine x_inv (pc' := 152) (ν := mX12_skip) (av := [_, _]) (st := []) rfl rfl (dX12_data 81 rfl rfl) (Nat.le_of_ble_eq_true rfl) wX12_skip q226 (inv_V (k := 10) (dX12_data 81 rfl rfl) q1511 q1513 qs24 wX12_skip (by decide) lX12_skip (by decide) s7.1) (exN (by decide)) rfl ?_
  refine C.mono hf (fun _ _ => KI.g (fun x6 h4 hf le5 => ?_))
  replace s7 := s7.le sc7 (le5)
  refine x_if_eq (pc' := 155) (tgt := 181) (dX12_data 82 rfl rfl) (by decide) rfl (fun c7 => ?_) (fun c7 => ?_)
  · replace hf := hf.1 c7
    refine x_aload_n (pc' := 182) 3 (dX12_data 98 rfl rfl) rfl rfl rfl ?_
    obtain ⟨k8, hf⟩ := hf
    obtain ⟨b9, e10, hf⟩ := hf
    refine x_getR (pc' := 185) (dX12_data 99 rfl rfl) g352 q1902 (Or.inl rfl) rfl (hf_of 46 k8 rfl (by decide) m46_352) e10 ?_
    obtain ⟨n1, n2, hf⟩ := hf
    refine x_new (pc' := 188) (k := 51) (dX12_data 100 rfl rfl) q1991 (by decide) rfl (by decide) n1 n2 (fun q11 h13 k12 e14 => ?_)
    replace hf := hf q11 k12 h13 e14
    replace k8 : hK h13 l3 = 47 := by rw [e14]; exact kNO k8 (by decide) k12
    replace s7 : So 7 (gW G) h13 := by rw [e14]; exact s7.le sc7 (nO_le k12)
    have k15 : hK h13 q11 = 52 := by rw [e14]; exact kNOs
    refine x_dup (pc' := 189) (dX12_data 101 rfl rfl) rfl rfl ?_
    refine x_iload (pc' := 191) 1 (dX12_data 102 rfl rfl) rfl rfl ?_
    refine x_aloadN (pc' := 193) 0 (dX12_data 103 rfl rfl) rfl rfl ?_
    refine x_inv (pc' := 196) (ν := mX56_init) (av := [_, _, _]) (st := [_, _]) rfl rfl (dX12_data 104 rfl rfl) (Nat.le_of_ble_eq_true rfl) wX56_init q277 (inv_I (dX12_data 104 rfl rfl) q1993 q1994 q1995 rfl (by decide) lX56_init) (fun b hb => by exact Or.inl (by have e : some _ = some b := hb; cases e; simp)) rfl ?_
    refine C.mono hf (fun _ _ => KV.g (fun h16 hf le17 => ?_))
    replace s7 := s7.leX sc7 le17 k15 (by decide)
    have k8 := leK le17 k8 (by decide)
    have k15 := leK le17 k15 (by decide)
    obtain ⟨k20, hf⟩ := hf
    refine x_inv (pc' := 199) (ν := mX7_add) (av := [_, _]) (st := []) rfl rfl (dX12_data 105 rfl rfl) (Nat.le_of_ble_eq_true rfl) wX7_add q221 (inv_V (k := 5) (dX12_data 105 rfl rfl) q1401 q590 q591 wX7_add (by decide) lX7_add (by decide) k20) (exN (by decide)) rfl ?_
    refine C.mono hf (fun _ _ => KV.g (fun h18 hf le19 => ?_))
    have k8 := leK le19 k8 (by decide)
    have k15 := leK le19 k15 (by decide)
    have k20 := leK le19 k20 (by decide)
    replace s7 := s7.le sc7 (le19)
    refine x_aload_n (pc' := 200) 2 (dX12_data 106 rfl rfl) rfl rfl rfl ?_
    refine x_bipush (pc' := 202) (v := 124) (dX12_data 107 rfl rfl) (by decide) rfl ?_
    refine x_inv (pc' := 205) (ν := mX12_skip) (av := [_, _]) (st := []) rfl rfl (dX12_data 108 rfl rfl) (Nat.le_of_ble_eq_true rfl) wX12_skip q226 (inv_V (k := 10) (dX12_data 108 rfl rfl) q1511 q1513 qs24 wX12_skip (by decide) lX12_skip (by decide) s7.1) (exN (by decide)) rfl ?_
    refine C.mono hf (fun _ _ => KI.g (fun x23 h21 hf le22 => ?_))
    have k8 := leK le22 k8 (by decide)
    have k15 := leK le22 k15 (by decide)
    have k20 := leK le22 k20 (by decide)
    replace s7 := s7.le sc7 (le22)
    refine x_if_ne (pc' := 208) (tgt := 133) (dX12_data 109 rfl rfl) (by decide) rfl (fun c24 => ?_) (fun c24 => ?_)
    · replace hf := hf.2 c24
      exact X.sub [2, 3] rfl (by simp) hf
    · replace hf := hf.1 (Classical.not_not.mp c24)
      replace c24 := Classical.not_not.mp c24
      refine x_aload_n (pc' := 209) 3 (dX12_data 110 rfl rfl) rfl rfl rfl ?_
      exact x_aret (dX12_data 111 rfl rfl) rfl (Or.inl ⟨_, rfl⟩) (Or.inr ⟨_, rfl⟩) hf
  · replace hf := hf.2 c7
    refine x_aload_n (pc' := 156) 2 (dX12_data 83 rfl rfl) rfl rfl rfl ?_
    refine x_dup (pc' := 157) (dX12_data 84 rfl rfl) rfl rfl ?_
    refine x_getI (pc' := 160) (dX12_data 85 rfl rfl) g116 q860 (Or.inl rfl) rfl (hf_of 10 s7.1 rfl (by decide) m10_116) ?_
    refine x_iconst (pc' := 161) (v := 1) (dX12_data 86 rfl rfl) (by decide) rfl ?_
    refine x_iadd (pc' := 162) (dX12_data 87 rfl rfl) rfl ?_
    refine x_putI (pc' := 165) (dX12_data 88 rfl rfl) g116 q860 (Or.inl rfl) (Or.inl rfl) (Or.inl (by decide)) rfl (hf_of 10 s7.1 rfl (by decide) m10_116) (fun h25 e48 => ?_)
    replace hf := hf h25 e48
    replace s7 : So 7 (gW G) h25 := by rw [e48]; exact s7.le sc7 (pI_le (Or.inl rfl))
    refine x_aload_n (pc' := 166) 2 (dX12_data 89 rfl rfl) rfl rfl rfl ?_
    refine x_inv (pc' := 169) (ν := mX12_ty) (av := [_]) (st := []) rfl rfl (dX12_data 90 rfl rfl) (Nat.le_of_ble_eq_true rfl) wX12_ty q226 (inv_V (k := 10) (dX12_data 90 rfl rfl) q1915 q1917 qs33 wX12_ty (by decide) lX12_ty (by decide) s7.1) (exN (by decide)) rfl ?_
    refine C.mono hf (fun _ _ => KR.g (fun b28 h26 hf le27 => ?_))
    replace s7 := s7.le sc7 (le27)
    refine x_astore (pc' := 171) (dX12_data 91 rfl rfl) (by decide) rfl rfl ?_
    refine x_aload_n (pc' := 172) 2 (dX12_data 92 rfl rfl) rfl rfl rfl ?_
    refine x_dup (pc' := 173) (dX12_data 93 rfl rfl) rfl rfl ?_
    refine x_getI (pc' := 176) (dX12_data 94 rfl rfl) g116 q860 (Or.inl rfl) rfl (hf_of 10 s7.1 rfl (by decide) m10_116) ?_
    refine x_iconst (pc' := 177) (v := 1) (dX12_data 95 rfl rfl) (by decide) rfl ?_
    refine x_isub (pc' := 178) (dX12_data 96 rfl rfl) rfl ?_
    refine x_putI (pc' := 181) (dX12_data 97 rfl rfl) g116 q860 (Or.inl rfl) (Or.inl rfl) (Or.inl (by decide)) rfl (hf_of 10 s7.1 rfl (by decide) m10_116) (fun h29 e47 => ?_)
    replace hf := hf h29 e47
    replace s7 : So 7 (gW G) h29 := by rw [e47]; exact s7.le sc7 (pI_le (Or.inl rfl))
    refine x_aload_n (pc' := 182) 3 (dX12_data 98 rfl rfl) rfl rfl rfl ?_
    obtain ⟨k30, hf⟩ := hf
    obtain ⟨b31, e32, hf⟩ := hf
    refine x_getR (pc' := 185) (dX12_data 99 rfl rfl) g352 q1902 (Or.inl rfl) rfl (hf_of 46 k30 rfl (by decide) m46_352) e32 ?_
    obtain ⟨n1, n2, hf⟩ := hf
    refine x_new (pc' := 188) (k := 51) (dX12_data 100 rfl rfl) q1991 (by decide) rfl (by decide) n1 n2 (fun q33 h35 k34 e36 => ?_)
    replace hf := hf q33 k34 h35 e36
    replace k30 : hK h35 l3 = 47 := by rw [e36]; exact kNO k30 (by decide) k34
    replace s7 : So 7 (gW G) h35 := by rw [e36]; exact s7.le sc7 (nO_le k34)
    have k37 : hK h35 q33 = 52 := by rw [e36]; exact kNOs
    refine x_dup (pc' := 189) (dX12_data 101 rfl rfl) rfl rfl ?_
    refine x_iload (pc' := 191) 1 (dX12_data 102 rfl rfl) rfl rfl ?_
    refine x_aload (pc' := 193) 0 (dX12_data 103 rfl rfl) rfl rfl ?_
    refine x_inv (pc' := 196) (ν := mX56_init) (av := [_, _, _]) (st := [_, _]) rfl rfl (dX12_data 104 rfl rfl) (Nat.le_of_ble_eq_true rfl) wX56_init q277 (inv_I (dX12_data 104 rfl rfl) q1993 q1994 q1995 rfl (by decide) lX56_init) (fun b hb => by exact Or.inl (by have e : some _ = some b := hb; cases e; simp)) rfl ?_
    refine C.mono hf (fun _ _ => KV.g (fun h38 hf le39 => ?_))
    replace s7 := s7.leX sc7 le39 k37 (by decide)
    have k30 := leK le39 k30 (by decide)
    have k37 := leK le39 k37 (by decide)
    obtain ⟨k42, hf⟩ := hf
    refine x_inv (pc' := 199) (ν := mX7_add) (av := [_, _]) (st := []) rfl rfl (dX12_data 105 rfl rfl) (Nat.le_of_ble_eq_true rfl) wX7_add q221 (inv_V (k := 5) (dX12_data 105 rfl rfl) q1401 q590 q591 wX7_add (by decide) lX7_add (by decide) k42) (exN (by decide)) rfl ?_
    refine C.mono hf (fun _ _ => KV.g (fun h40 hf le41 => ?_))
    have k30 := leK le41 k30 (by decide)
    have k37 := leK le41 k37 (by decide)
    have k42 := leK le41 k42 (by decide)
    replace s7 := s7.le sc7 (le41)
    refine x_aload_n (pc' := 200) 2 (dX12_data 106 rfl rfl) rfl rfl rfl ?_
    refine x_bipush (pc' := 202) (v := 124) (dX12_data 107 rfl rfl) (by decide) rfl ?_
    refine x_inv (pc' := 205) (ν := mX12_skip) (av := [_, _]) (st := []) rfl rfl (dX12_data 108 rfl rfl) (Nat.le_of_ble_eq_true rfl) wX12_skip q226 (inv_V (k := 10) (dX12_data 108 rfl rfl) q1511 q1513 qs24 wX12_skip (by decide) lX12_skip (by decide) s7.1) (exN (by decide)) rfl ?_
    refine C.mono hf (fun _ _ => KI.g (fun x45 h43 hf le44 => ?_))
    have k30 := leK le44 k30 (by decide)
    have k37 := leK le44 k37 (by decide)
    have k42 := leK le44 k42 (by decide)
    replace s7 := s7.le sc7 (le44)
    refine x_if_ne (pc' := 208) (tgt := 133) (dX12_data 109 rfl rfl) (by decide) rfl (fun c46 => ?_) (fun c46 => ?_)
    · replace hf := hf.2 c46
      exact X.sub [2, 3] rfl (by simp) hf
    · replace hf := hf.1 (Classical.not_not.mp c46)
      replace c46 := Classical.not_not.mp c46
      refine x_aload_n (pc' := 209) 3 (dX12_data 110 rfl rfl) rfl rfl rfl ?_
      exact x_aret (dX12_data 111 rfl rfl) rfl (Or.inl ⟨_, rfl⟩) (Or.inr ⟨_, rfl⟩) hf
theorem bX12_ty (G : Gh) (d : Nat) (h : AH) (Q : Outcome → AH → Prop)  (s7 : So 7 (gW G) h) (hf : ∀ x1 : Int32, x1 = fI h (gW G 7) 115 → (C G mX12_product d [.ref (gW G 7)] h (KR Q (fun b4 h2 => C G mX12_skip d [.ref (gW G 7), .int (285)] h2 (KI Q (fun x7 h5 => (x7 = 0 → (Q (.returned (some (.ref (b4)))) h5)) ∧ (¬ x7 = 0 → (∀ h9, h9 = pI h5 (gW G 7) 116 ((fI h5 (gW G 7) 116) + 1) → (C G mX12_ty d [.ref (gW G 7)] h9 (KR Q (fun b12 h10 => ∀ h13, h13 = pI h10 (gW G 7) 116 ((fI h10 (gW G 7) 116) - 1) → ((hc h13 + 1 ≤ MC) ∧ (hs h13 + 3 ≤ MS) ∧ ∀ q14, hK h13 q14 = 0 → ∀ h16, h16 = nO h13 q14 50 → (C G mX55_init d [.ref (q14), .int (x1), .ref (b4), .ref (b12)] h16 (KV Q (fun h19 => Q (.returned (some (.ref (q14)))) h19))))))))))))))) : C G mX12_ty (d + 1) [.ref (gW G 7)] h Q := by
  refine C.of_X (by decide +kernel) (Nat.le_of_ble_eq_true rfl) wX12_ty ?_
  show X G mX12_ty (d + 1) none [] 0 [(0, .ref (gW G 7))] [] h Q
  refine x_aload_n (pc' := 1) 0 (dX12_ty 0 rfl rfl) rfl rfl rfl ?_
  refine x_getI (pc' := 4) (dX12_ty 1 rfl rfl) g115 q859 (Or.inl rfl) rfl (hf_of 10 s7.1 rfl (by decide) m10_115) ?_
  replace hf := hf _ rfl
  refine x_istore_n (pc' := 5) (dX12_ty 2 rfl rfl) rfl (by decide) rfl rfl ?_
  refine x_aload_n (pc' := 6) 1 (dX12_ty 3 rfl rfl) rfl rfl rfl ?_
  refine x_inv (pc' := 9) (ν := mX12_product) (av := [_]) (st := []) rfl rfl (dX12_ty 4 rfl rfl) (Nat.le_of_ble_eq_true rfl) wX12_product q226 (inv_V (k := 10) (dX12_ty 4 rfl rfl) q1919 q1921 qs34 wX12_product (by decide) lX12_product (by decide) s7.1) (exN (by decide)) rfl ?_
  refine C.mono hf (fun _ _ => KR.g (fun b4 h2 hf le3 => ?_))
  replace s7 := s7.le sc7 (le3)
  refine x_astore_n (pc' := 10) (dX12_ty 5 rfl rfl) rfl (by decide) rfl rfl ?_
  refine x_aload_n (pc' := 11) 2 (dX12_ty 6 rfl rfl) rfl rfl rfl ?_
  refine x_sipush (pc' := 14) (v := 285) (dX12_ty 7 rfl rfl) (by decide) rfl ?_
  refine x_inv (pc' := 17) (ν := mX12_skip) (av := [_, _]) (st := []) rfl rfl (dX12_ty 8 rfl rfl) (Nat.le_of_ble_eq_true rfl) wX12_skip q226 (inv_V (k := 10) (dX12_ty 8 rfl rfl) q1511 q1513 qs24 wX12_skip (by decide) lX12_skip (by decide) s7.1) (exN (by decide)) rfl ?_
  refine C.mono hf (fun _ _ => KI.g (fun x7 h5 hf le6 => ?_))
  replace s7 := s7.le sc7 (le6)
  refine x_if_ne (pc' := 20) (tgt := 22) (dX12_ty 9 rfl rfl) (by decide) rfl (fun c8 => ?_) (fun c8 => ?_)
  · replace hf := hf.2 c8
    refine x_aload_n (pc' := 23) 2 (dX12_ty 12 rfl rfl) rfl rfl rfl ?_
    refine x_dup (pc' := 24) (dX12_ty 13 rfl rfl) rfl rfl ?_
    refine x_getI (pc' := 27) (dX12_ty 14 rfl rfl) g116 q860 (Or.inl rfl) rfl (hf_of 10 s7.1 rfl (by decide) m10_116) ?_
    refine x_iconst (pc' := 28) (v := 1) (dX12_ty 15 rfl rfl) (by decide) rfl ?_
    refine x_iadd (pc' := 29) (dX12_ty 16 rfl rfl) rfl ?_
    refine x_putI (pc' := 32) (dX12_ty 17 rfl rfl) g116 q860 (Or.inl rfl) (Or.inl rfl) (Or.inl (by decide)) rfl (hf_of 10 s7.1 rfl (by decide) m10_116) (fun h9 e22 => ?_)
    replace hf := hf h9 e22
    replace s7 : So 7 (gW G) h9 := by rw [e22]; exact s7.le sc7 (pI_le (Or.inl rfl))
    refine x_aload_n (pc' := 33) 2 (dX12_ty 18 rfl rfl) rfl rfl rfl ?_
    refine x_inv (pc' := 36) (ν := mX12_ty) (av := [_]) (st := []) rfl rfl (dX12_ty 19 rfl rfl) (Nat.le_of_ble_eq_true rfl) wX12_ty q226 (inv_V (k := 10) (dX12_ty 19 rfl rfl) q1915 q1917 qs33 wX12_ty (by decide) lX12_ty (by decide) s7.1) (exN (by decide)) rfl ?_
    refine C.mono hf (fun _ _ => KR.g (fun b12 h10 hf le11 => ?_))
    replace s7 := s7.le sc7 (le11)
    refine x_astore_n (pc' := 37) (dX12_ty 20 rfl rfl) rfl (by decide) rfl rfl ?_
    refine x_aload_n (pc' := 38) 3 (dX12_ty 21 rfl rfl) rfl rfl rfl ?_
    refine x_dup (pc' := 39) (dX12_ty 22 rfl rfl) rfl rfl ?_
    refine x_getI (pc' := 42) (dX12_ty 23 rfl rfl) g116 q860 (Or.inl rfl) rfl (hf_of 10 s7.1 rfl (by decide) m10_116) ?_
    refine x_iconst (pc' := 43) (v := 1) (dX12_ty 24 rfl rfl) (by decide) rfl ?_
    refine x_isub (pc' := 44) (dX12_ty 25 rfl rfl) rfl ?_
    refine x_putI (pc' := 47) (dX12_ty 26 rfl rfl) g116 q860 (Or.inl rfl) (Or.inl rfl) (Or.inl (by decide)) rfl (hf_of 10 s7.1 rfl (by decide) m10_116) (fun h13 e21 => ?_)
    replace hf := hf h13 e21
    replace s7 : So 7 (gW G) h13 := by rw [e21]; exact s7.le sc7 (pI_le (Or.inl rfl))
    obtain ⟨n1, n2, hf⟩ := hf
    refine x_new (pc' := 50) (k := 50) (dX12_ty 27 rfl rfl) q1977 (by decide) rfl (by decide) n1 n2 (fun q14 h16 k15 e17 => ?_)
    replace hf := hf q14 k15 h16 e17
    replace s7 : So 7 (gW G) h16 := by rw [e17]; exact s7.le sc7 (nO_le k15)
    have k18 : hK h16 q14 = 51 := by rw [e17]; exact kNOs
    refine x_dup (pc' := 51) (dX12_ty 28 rfl rfl) rfl rfl ?_
    refine x_iload_n (pc' := 52) 2 (dX12_ty 29 rfl rfl) rfl rfl rfl ?_
    refine x_aload_n (pc' := 53) 1 (dX12_ty 30 rfl rfl) rfl rfl rfl ?_
    refine x_aload_n (pc' := 54) 0 (dX12_ty 31 rfl rfl) rfl rfl rfl ?_
    refine x_inv (pc' := 57) (ν := mX55_init) (av := [_, _, _, _]) (st := [_]) rfl rfl (dX12_ty 32 rfl rfl) (Nat.le_of_ble_eq_true rfl) wX55_init q276 (inv_I (dX12_ty 32 rfl rfl) q1979 q1980 q1981 rfl (by decide) lX55_init) (fun b hb => by exact Or.inl (by have e : some _ = some b := hb; cases e; simp)) rfl ?_
    refine C.mono hf (fun _ _ => KV.g (fun h19 hf le20 => ?_))
    replace s7 := s7.leX sc7 le20 k18 (by decide)
    have k18 := leK le20 k18 (by decide)
    exact x_aret (dX12_ty 33 rfl rfl) rfl (Or.inl ⟨_, rfl⟩) (Or.inr ⟨_, rfl⟩) hf
  · replace hf := hf.1 (Classical.not_not.mp c8)
    replace c8 := Classical.not_not.mp c8
    refine x_aload_n (pc' := 21) 0 (dX12_ty 10 rfl rfl) rfl rfl rfl ?_
    exact x_aret (dX12_ty 11 rfl rfl) rfl (Or.inl ⟨_, rfl⟩) (Or.inr ⟨_, rfl⟩) hf
theorem bX12_product (G : Gh) (d : Nat) (h : AH) (Q : Outcome → AH → Prop)  (s7 : So 7 (gW G) h) (hf : ∀ x1 : Int32, x1 = fI h (gW G 7) 115 → (C G mX12_applied d [.ref (gW G 7)] h (KR Q (fun b4 h2 => C G mX12_kind d [.ref (gW G 7)] h2 (KI Q (fun x7 h5 => (x7 = 42 → ((hc h5 + 1 ≤ MC) ∧ (hs h5 + 2 ≤ MS) ∧ ∀ q9, hK h5 q9 = 0 → ∀ h11, h11 = nO h5 q9 5 → (C G mX7_init d [.ref (q9)] h11 (KV Q (fun h14 => C G mX7_add d [.ref (q9), .ref (b4)] h14 (KV Q (fun h16 => X G mX12_product (d + 1) none [] 34 [(0, .ref (gW G 7)), (1, .int (x1)), (3, .ref (q9))] [] h16 Q))))))) ∧ (¬ x7 = 42 → (Q (.returned (some (.ref (b4)))) h5)))))))) : C G mX12_product (d + 1) [.ref (gW G 7)] h Q := by
  refine C.of_X (by decide +kernel) (Nat.le_of_ble_eq_true rfl) wX12_product ?_
  show X G mX12_product (d + 1) none [] 0 [(0, .ref (gW G 7))] [] h Q
  refine x_aload_n (pc' := 1) 0 (dX12_product 0 rfl rfl) rfl rfl rfl ?_
  refine x_getI (pc' := 4) (dX12_product 1 rfl rfl) g115 q859 (Or.inl rfl) rfl (hf_of 10 s7.1 rfl (by decide) m10_115) ?_
  replace hf := hf _ rfl
  refine x_istore_n (pc' := 5) (dX12_product 2 rfl rfl) rfl (by decide) rfl rfl ?_
  refine x_aload_n (pc' := 6) 1 (dX12_product 3 rfl rfl) rfl rfl rfl ?_
  refine x_inv (pc' := 9) (ν := mX12_applied) (av := [_]) (st := []) rfl rfl (dX12_product 4 rfl rfl) (Nat.le_of_ble_eq_true rfl) wX12_applied q226 (inv_V (k := 10) (dX12_product 4 rfl rfl) q1923 q1925 qs35 wX12_applied (by decide) lX12_applied (by decide) s7.1) (exN (by decide)) rfl ?_
  refine C.mono hf (fun _ _ => KR.g (fun b4 h2 hf le3 => ?_))
  replace s7 := s7.le sc7 (le3)
  refine x_astore_n (pc' := 10) (dX12_product 5 rfl rfl) rfl (by decide) rfl rfl ?_
  refine x_aload_n (pc' := 11) 2 (dX12_product 6 rfl rfl) rfl rfl rfl ?_
  refine x_inv (pc' := 14) (ν := mX12_kind) (av := [_]) (st := []) rfl rfl (dX12_product 7 rfl rfl) (Nat.le_of_ble_eq_true rfl) wX12_kind q226 (inv_V (k := 10) (dX12_product 7 rfl rfl) q1281 q1283 qs12 wX12_kind (by decide) lX12_kind (by decide) s7.1) (exN (by decide)) rfl ?_
  refine C.mono hf (fun _ _ => KI.g (fun x7 h5 hf le6 => ?_))
  replace s7 := s7.le sc7 (le6)
  refine x_bipush (pc' := 16) (v := 42) (dX12_product 8 rfl rfl) (by decide) rfl ?_
  refine x_icmp_eq (pc' := 19) (tgt := 21) (dX12_product 9 rfl rfl) (by decide) rfl (fun c8 => ?_) (fun c8 => ?_)
  · replace hf := hf.1 c8
    obtain ⟨n1, n2, hf⟩ := hf
    refine x_new (pc' := 24) (k := 5) (dX12_product 12 rfl rfl) q1275 (by decide) rfl (by decide) n1 n2 (fun q9 h11 k10 e12 => ?_)
    replace hf := hf q9 k10 h11 e12
    replace s7 : So 7 (gW G) h11 := by rw [e12]; exact s7.le sc7 (nO_le k10)
    have k13 : hK h11 q9 = 6 := by rw [e12]; exact kNOs
    refine x_dup (pc' := 25) (dX12_product 13 rfl rfl) rfl rfl ?_
    refine x_inv (pc' := 28) (ν := mX7_init) (av := [_]) (st := [_]) rfl rfl (dX12_product 14 rfl rfl) (Nat.le_of_ble_eq_true rfl) wX7_init q221 (inv_N (host := "LetMill") (dX12_product 14 rfl rfl) (by decide) q560 q561 rfl (by decide) lX7_init) (fun b hb => by exact Or.inl (by have e : some _ = some b := hb; cases e; simp)) rfl ?_
    refine C.mono hf (fun _ _ => KV.g (fun h14 hf le15 => ?_))
    replace s7 := s7.leX sc7 le15 k13 (by decide)
    have k13 := leK le15 k13 (by decide)
    refine x_astore_n (pc' := 29) (dX12_product 15 rfl rfl) rfl (by decide) rfl rfl ?_
    refine x_aload_n (pc' := 30) 0 (dX12_product 16 rfl rfl) rfl rfl rfl ?_
    refine x_aload_n (pc' := 31) 1 (dX12_product 17 rfl rfl) rfl rfl rfl ?_
    refine x_inv (pc' := 34) (ν := mX7_add) (av := [_, _]) (st := []) rfl rfl (dX12_product 18 rfl rfl) (Nat.le_of_ble_eq_true rfl) wX7_add q221 (inv_V (k := 5) (dX12_product 18 rfl rfl) q1401 q590 q591 wX7_add (by decide) lX7_add (by decide) k13) (exN (by decide)) rfl ?_
    refine C.mono hf (fun _ _ => KV.g (fun h16 hf le17 => ?_))
    have k13 := leK le17 k13 (by decide)
    replace s7 := s7.le sc7 (le17)
    exact X.sub [3, 2, 0] rfl (by simp) hf
  · replace hf := hf.2 c8
    refine x_aload_n (pc' := 20) 0 (dX12_product 10 rfl rfl) rfl rfl rfl ?_
    exact x_aret (dX12_product 11 rfl rfl) rfl (Or.inl ⟨_, rfl⟩) (Or.inr ⟨_, rfl⟩) hf
theorem bX12_product_34 (G : Gh) (d : Nat) (h : AH) (Q : Outcome → AH → Prop) (l1 : Int32) (l3 : Nat) (s7 : So 7 (gW G) h) (hf : C G mX12_skip d [.ref (gW G 7), .int (42)] h (KI Q (fun x3 h1 => (x3 = 0 → ((hc h1 + 1 ≤ MC) ∧ (hs h1 + 2 ≤ MS) ∧ ∀ q5, hK h1 q5 = 0 → ∀ h7, h7 = nO h1 q5 49 → (C G mX54_init d [.ref (q5), .int (l1), .ref (l3)] h7 (KV Q (fun h10 => Q (.returned (some (.ref (q5)))) h10))))) ∧ (¬ x3 = 0 → (hK h1 l3 = 6 ∧ (((fI h1 l3 78) = 6 → (∀ h19, h19 = pI h1 (gW G 7) 115 ((fI h1 (gW G 7) 115) - 1) → (C G mX12_wrong d [.ref (gW G 7)] h19 (KR Q (fun b22 h20 => Q (.threw b22) h20))))) ∧ (¬ ((fI h1 l3 78) = 6) → (C G mX12_applied d [.ref (gW G 7)] h1 (KR Q (fun b16 h14 => C G mX7_add d [.ref (l3), .ref (b16)] h14 (KV Q (fun h17 => X G mX12_product (d + 1) none [] 34 [(0, .ref (gW G 7)), (1, .int (l1)), (3, .ref (l3))] [] h17 Q)))))))))))) : X G mX12_product (d + 1) none [] 34 [(0, .ref (gW G 7)), (1, .int (l1)), (3, .ref (l3))] [] h Q := by
  refine x_aload_n (pc' := 35) 0 (dX12_product 19 rfl rfl) rfl rfl rfl ?_
  refine x_bipush (pc' := 37) (v := 42) (dX12_product 20 rfl rfl) (by decide) rfl ?_
  refine x_inv (pc' := 40) (ν := mX12_skip) (av := [_, _]) (st := []) rfl rfl (dX12_product 21 rfl rfl) (Nat.le_of_ble_eq_true rfl) wX12_skip q226 (inv_V (k := 10) (dX12_product 21 rfl rfl) q1511 q1513 qs24 wX12_skip (by decide) lX12_skip (by decide) s7.1) (exN (by decide)) rfl ?_
  refine C.mono hf (fun _ _ => KI.g (fun x3 h1 hf le2 => ?_))
  replace s7 := s7.le sc7 (le2)
  refine x_if_eq (pc' := 43) (tgt := 78) (dX12_product 22 rfl rfl) (by decide) rfl (fun c4 => ?_) (fun c4 => ?_)
  · replace hf := hf.1 c4
    obtain ⟨n1, n2, hf⟩ := hf
    refine x_new (pc' := 81) (k := 49) (dX12_product 41 rfl rfl) q1966 (by decide) rfl (by decide) n1 n2 (fun q5 h7 k6 e8 => ?_)
    replace hf := hf q5 k6 h7 e8
    replace s7 : So 7 (gW G) h7 := by rw [e8]; exact s7.le sc7 (nO_le k6)
    have k9 : hK h7 q5 = 50 := by rw [e8]; exact kNOs
    refine x_dup (pc' := 82) (dX12_product 42 rfl rfl) rfl rfl ?_
    refine x_iload_n (pc' := 83) 1 (dX12_product 43 rfl rfl) rfl rfl rfl ?_
    refine x_aload_n (pc' := 84) 2 (dX12_product 44 rfl rfl) rfl rfl rfl ?_
    refine x_inv (pc' := 87) (ν := mX54_init) (av := [_, _, _]) (st := [_]) rfl rfl (dX12_product 45 rfl rfl) (Nat.le_of_ble_eq_true rfl) wX54_init q275 (inv_I (dX12_product 45 rfl rfl) q1968 q1969 q1970 rfl (by decide) lX54_init) (fun b hb => by exact Or.inl (by have e : some _ = some b := hb; cases e; simp)) rfl ?_
    refine C.mono hf (fun _ _ => KV.g (fun h10 hf le11 => ?_))
    replace s7 := s7.leX sc7 le11 k9 (by decide)
    have k9 := leK le11 k9 (by decide)
    exact x_aret (dX12_product 46 rfl rfl) rfl (Or.inl ⟨_, rfl⟩) (Or.inr ⟨_, rfl⟩) hf
  · replace hf := hf.2 c4
    refine x_aload_n (pc' := 44) 2 (dX12_product 23 rfl rfl) rfl rfl rfl ?_
    obtain ⟨k12, hf⟩ := hf
    refine x_getI (pc' := 47) (dX12_product 24 rfl rfl) g78 q578 (Or.inl rfl) rfl (hf_of 5 k12 rfl (by decide) m5_78) ?_
    refine x_bipush (pc' := 49) (v := 6) (dX12_product 25 rfl rfl) (by decide) rfl ?_
    refine x_icmp_ne (pc' := 52) (tgt := 67) (dX12_product 26 rfl rfl) (by decide) rfl (fun c13 => ?_) (fun c13 => ?_)
    · replace hf := hf.2 c13
      refine x_aload_n (pc' := 68) 2 (dX12_product 36 rfl rfl) rfl rfl rfl ?_
      refine x_aload_n (pc' := 69) 0 (dX12_product 37 rfl rfl) rfl rfl rfl ?_
      refine x_inv (pc' := 72) (ν := mX12_applied) (av := [_]) (st := [_]) rfl rfl (dX12_product 38 rfl rfl) (Nat.le_of_ble_eq_true rfl) wX12_applied q226 (inv_V (k := 10) (dX12_product 38 rfl rfl) q1923 q1925 qs35 wX12_applied (by decide) lX12_applied (by decide) s7.1) (exN (by decide)) rfl ?_
      refine C.mono hf (fun _ _ => KR.g (fun b16 h14 hf le15 => ?_))
      have k12 := leK le15 k12 (by decide)
      replace s7 := s7.le sc7 (le15)
      refine x_inv (pc' := 75) (ν := mX7_add) (av := [_, _]) (st := []) rfl rfl (dX12_product 39 rfl rfl) (Nat.le_of_ble_eq_true rfl) wX7_add q221 (inv_V (k := 5) (dX12_product 39 rfl rfl) q1401 q590 q591 wX7_add (by decide) lX7_add (by decide) k12) (exN (by decide)) rfl ?_
      refine C.mono hf (fun _ _ => KV.g (fun h17 hf le18 => ?_))
      have k12 := leK le18 k12 (by decide)
      replace s7 := s7.le sc7 (le18)
      refine x_goto (tgt := 34) (dX12_product 40 rfl rfl) (by decide) ?_
      exact X.sub [0, 1, 2] rfl (by simp) hf
    · replace hf := hf.1 (Classical.not_not.mp c13)
      replace c13 := Classical.not_not.mp c13
      refine x_aload_n (pc' := 53) 0 (dX12_product 27 rfl rfl) rfl rfl rfl ?_
      refine x_dup (pc' := 54) (dX12_product 28 rfl rfl) rfl rfl ?_
      refine x_getI (pc' := 57) (dX12_product 29 rfl rfl) g115 q859 (Or.inl rfl) rfl (hf_of 10 s7.1 rfl (by decide) m10_115) ?_
      refine x_iconst (pc' := 58) (v := 1) (dX12_product 30 rfl rfl) (by decide) rfl ?_
      refine x_isub (pc' := 59) (dX12_product 31 rfl rfl) rfl ?_
      refine x_putI (pc' := 62) (dX12_product 32 rfl rfl) g115 q859 (Or.inl rfl) (Or.inl rfl) (Or.inl (by decide)) rfl (hf_of 10 s7.1 rfl (by decide) m10_115) (fun h19 e23 => ?_)
      replace hf := hf h19 e23
      replace k12 : hK h19 l3 = 6 := by rw [e23]; exact k12
      replace s7 : So 7 (gW G) h19 := by rw [e23]; exact s7.le sc7 (pI_le (Or.inl rfl))
      refine x_aload_n (pc' := 63) 0 (dX12_product 33 rfl rfl) rfl rfl rfl ?_
      refine x_inv (pc' := 66) (ν := mX12_wrong) (av := [_]) (st := []) rfl rfl (dX12_product 34 rfl rfl) (Nat.le_of_ble_eq_true rfl) wX12_wrong q226 (inv_V (k := 10) (dX12_product 34 rfl rfl) q1289 q1291 qs14 wX12_wrong (by decide) lX12_wrong (by decide) s7.1) (exN (by decide)) rfl ?_
      refine C.mono hf (fun _ _ => KR.g (fun b22 h20 hf le21 => ?_))
      have k12 := leK le21 k12 (by decide)
      replace s7 := s7.le sc7 (le21)
      exact x_athrow (dX12_product 35 rfl rfl) rfl hf
theorem bX12_applied (G : Gh) (d : Nat) (h : AH) (Q : Outcome → AH → Prop)  (s7 : So 7 (gW G) h) (hf : C G mX12_kind d [.ref (gW G 7)] h (KI Q (fun x3 h1 => (x3 = 40 → (C G mX12_take d [.ref (gW G 7)] h1 (KI Q (fun x38 h36 => ∀ h39, h39 = pI h36 (gW G 7) 116 ((fI h36 (gW G 7) 116) + 1) → ((hc h39 + 1 ≤ MC) ∧ (hs h39 + 2 ≤ MS) ∧ ∀ q40, hK h39 q40 = 0 → ∀ h42, h42 = nO h39 q40 5 → (C G mX7_init d [.ref (q40)] h42 (KV Q (fun h45 => C G mX12_ty d [.ref (gW G 7)] h45 (KR Q (fun b49 h47 => C G mX7_add d [.ref (q40), .ref (b49)] h47 (KV Q (fun h50 => X G mX12_applied (d + 1) none [] 40 [(0, .ref (gW G 7)), (3, .ref (q40))] [] h50 Q)))))))))))) ∧ (¬ x3 = 40 → (C G mX12_kind d [.ref (gW G 7)] h1 (KI Q (fun x7 h5 => (x7 = 282 → ((hc h5 + 1 ≤ MC) ∧ (hs h5 + 2 ≤ MS) ∧ ∀ q26, hK h5 q26 = 0 → ∀ h28, h28 = nO h5 q26 48 → (C G mX12_take d [.ref (gW G 7)] h28 (KI Q (fun x33 h31 => C G mX53_init d [.ref (q26), .int (x33)] h31 (KV Q (fun h34 => X G mX12_applied (d + 1) none [] 185 [(0, .ref (gW G 7)), (1, .ref (q26)), (2, .int (0))] [] h34 Q))))))) ∧ (¬ x7 = 282 → ((hc h5 + 1 ≤ MC) ∧ (hs h5 + 3 ≤ MS) ∧ ∀ q9, hK h5 q9 = 0 → ∀ h11, h11 = nO h5 q9 47 → (C G mX12_expect d [.ref (gW G 7), .int (280)] h11 (KI Q (fun x16 h14 => (hc h14 + 1 ≤ MC) ∧ (hs h14 + 2 ≤ MS) ∧ ∀ q17, hK h14 q17 = 0 → ∀ h19, h19 = nO h14 q17 5 → (C G mX7_init d [.ref (q17)] h19 (KV Q (fun h22 => C G mX52_init d [.ref (q9), .int (x16), .ref (q17)] h22 (KV Q (fun h24 => X G mX12_applied (d + 1) none [] 185 [(0, .ref (gW G 7)), (1, .ref (q9)), (2, .int (0))] [] h24 Q))))))))))))))))) : C G mX12_applied (d + 1) [.ref (gW G 7)] h Q := by
  refine C.of_X (by decide +kernel) (Nat.le_of_ble_eq_true rfl) wX12_applied ?_
  show X G mX12_applied (d + 1) none [] 0 [(0, .ref (gW G 7))] [] h Q
  refine x_aload_n (pc' := 1) 0 (dX12_applied 0 rfl rfl) rfl rfl rfl ?_
  refine x_inv (pc' := 4) (ν := mX12_kind) (av := [_]) (st := []) rfl rfl (dX12_applied 1 rfl rfl) (Nat.le_of_ble_eq_true rfl) wX12_kind q226 (inv_V (k := 10) (dX12_applied 1 rfl rfl) q1281 q1283 qs12 wX12_kind (by decide) lX12_kind (by decide) s7.1) (exN (by decide)) rfl ?_
  refine C.mono hf (fun _ _ => KI.g (fun x3 h1 hf le2 => ?_))
  replace s7 := s7.le sc7 (le2)
  refine x_bipush (pc' := 6) (v := 40) (dX12_applied 2 rfl rfl) (by decide) rfl ?_
  refine x_icmp_ne (pc' := 9) (tgt := 136) (dX12_applied 3 rfl rfl) (by decide) rfl (fun c4 => ?_) (fun c4 => ?_)
  · replace hf := hf.2 c4
    refine x_aload_n (pc' := 137) 0 (dX12_applied 70 rfl rfl) rfl rfl rfl ?_
    refine x_inv (pc' := 140) (ν := mX12_kind) (av := [_]) (st := []) rfl rfl (dX12_applied 71 rfl rfl) (Nat.le_of_ble_eq_true rfl) wX12_kind q226 (inv_V (k := 10) (dX12_applied 71 rfl rfl) q1281 q1283 qs12 wX12_kind (by decide) lX12_kind (by decide) s7.1) (exN (by decide)) rfl ?_
    refine C.mono hf (fun _ _ => KI.g (fun x7 h5 hf le6 => ?_))
    replace s7 := s7.le sc7 (le6)
    refine x_sipush (pc' := 143) (v := 282) (dX12_applied 72 rfl rfl) (by decide) rfl ?_
    refine x_icmp_ne (pc' := 146) (tgt := 161) (dX12_applied 73 rfl rfl) (by decide) rfl (fun c8 => ?_) (fun c8 => ?_)
    · replace hf := hf.2 c8
      obtain ⟨n1, n2, hf⟩ := hf
      refine x_new (pc' := 164) (k := 47) (dX12_applied 81 rfl rfl) q1932 (by decide) rfl (by decide) n1 n2 (fun q9 h11 k10 e12 => ?_)
      replace hf := hf q9 k10 h11 e12
      replace s7 : So 7 (gW G) h11 := by rw [e12]; exact s7.le sc7 (nO_le k10)
      have k13 : hK h11 q9 = 48 := by rw [e12]; exact kNOs
      refine x_dup (pc' := 165) (dX12_applied 82 rfl rfl) rfl rfl ?_
      refine x_aload_n (pc' := 166) 0 (dX12_applied 83 rfl rfl) rfl rfl rfl ?_
      refine x_sipush (pc' := 169) (v := 280) (dX12_applied 84 rfl rfl) (by decide) rfl ?_
      refine x_inv (pc' := 172) (ν := mX12_expect) (av := [_, _]) (st := [_, _]) rfl rfl (dX12_applied 85 rfl rfl) (Nat.le_of_ble_eq_true rfl) wX12_expect q226 (inv_V (k := 10) (dX12_applied 85 rfl rfl) q1471 q1473 qs21 wX12_expect (by decide) lX12_expect (by decide) s7.1) (exN (by decide)) rfl ?_
      refine C.mono hf (fun _ _ => KI.g (fun x16 h14 hf le15 => ?_))
      have k13 := leK le15 k13 (by decide)
      replace s7 := s7.le sc7 (le15)
      obtain ⟨n1, n2, hf⟩ := hf
      refine x_new (pc' := 175) (k := 5) (dX12_applied 86 rfl rfl) q1275 (by decide) rfl (by decide) n1 n2 (fun q17 h19 k18 e20 => ?_)
      replace hf := hf q17 k18 h19 e20
      replace k13 : hK h19 q9 = 48 := by rw [e20]; exact kNO k13 (by decide) k18
      replace s7 : So 7 (gW G) h19 := by rw [e20]; exact s7.le sc7 (nO_le k18)
      have k21 : hK h19 q17 = 6 := by rw [e20]; exact kNOs
      refine x_dup (pc' := 176) (dX12_applied 87 rfl rfl) rfl rfl ?_
      refine x_inv (pc' := 179) (ν := mX7_init) (av := [_]) (st := [_, _, _, _]) rfl rfl (dX12_applied 88 rfl rfl) (Nat.le_of_ble_eq_true rfl) wX7_init q221 (inv_N (host := "LetMill") (dX12_applied 88 rfl rfl) (by decide) q560 q561 rfl (by decide) lX7_init) (fun b hb => by exact Or.inl (by have e : some _ = some b := hb; cases e; simp)) rfl ?_
      refine C.mono hf (fun _ _ => KV.g (fun h22 hf le23 => ?_))
      replace s7 := s7.leX sc7 le23 k21 (by decide)
      have k13 := leK le23 k13 (by decide)
      have k21 := leK le23 k21 (by decide)
      refine x_inv (pc' := 182) (ν := mX52_init) (av := [_, _, _]) (st := [_]) rfl rfl (dX12_applied 89 rfl rfl) (Nat.le_of_ble_eq_true rfl) wX52_init q273 (inv_I (dX12_applied 89 rfl rfl) q1934 q1935 q1936 rfl (by decide) lX52_init) (fun b hb => by exact Or.inl (by have e : some _ = some b := hb; cases e; simp)) rfl ?_
      refine C.mono hf (fun _ _ => KV.g (fun h24 hf le25 => ?_))
      replace s7 := s7.leX sc7 le25 k13 (by decide)
      have k13 := leK le25 k13 (by decide)
      have k21 := leK le25 k21 (by decide)
      refine x_astore_n (pc' := 183) (dX12_applied 90 rfl rfl) rfl (by decide) rfl rfl ?_
      refine x_iconst (pc' := 184) (v := 0) (dX12_applied 91 rfl rfl) (by decide) rfl ?_
      refine x_istore_n (pc' := 185) (dX12_applied 92 rfl rfl) rfl (by decide) rfl rfl ?_
      exact X.sub [2, 1, 0] rfl (by simp) hf
    · replace hf := hf.1 (Classical.not_not.mp c8)
      replace c8 := Classical.not_not.mp c8
      obtain ⟨n1, n2, hf⟩ := hf
      refine x_new (pc' := 149) (k := 48) (dX12_applied 74 rfl rfl) q1955 (by decide) rfl (by decide) n1 n2 (fun q26 h28 k27 e29 => ?_)
      replace hf := hf q26 k27 h28 e29
      replace s7 : So 7 (gW G) h28 := by rw [e29]; exact s7.le sc7 (nO_le k27)
      have k30 : hK h28 q26 = 49 := by rw [e29]; exact kNOs
      refine x_dup (pc' := 150) (dX12_applied 75 rfl rfl) rfl rfl ?_
      refine x_aload_n (pc' := 151) 0 (dX12_applied 76 rfl rfl) rfl rfl rfl ?_
      refine x_inv (pc' := 154) (ν := mX12_take) (av := [_]) (st := [_, _]) rfl rfl (dX12_applied 77 rfl rfl) (Nat.le_of_ble_eq_true rfl) wX12_take q226 (inv_V (k := 10) (dX12_applied 77 rfl rfl) q1316 q1318 qs15 wX12_take (by decide) lX12_take (by decide) s7.1) (exN (by decide)) rfl ?_
      refine C.mono hf (fun _ _ => KI.g (fun x33 h31 hf le32 => ?_))
      have k30 := leK le32 k30 (by decide)
      replace s7 := s7.le sc7 (le32)
      refine x_inv (pc' := 157) (ν := mX53_init) (av := [_, _]) (st := [_]) rfl rfl (dX12_applied 78 rfl rfl) (Nat.le_of_ble_eq_true rfl) wX53_init q274 (inv_I (dX12_applied 78 rfl rfl) q1957 q1958 q1959 rfl (by decide) lX53_init) (fun b hb => by exact Or.inl (by have e : some _ = some b := hb; cases e; simp)) rfl ?_
      refine C.mono hf (fun _ _ => KV.g (fun h34 hf le35 => ?_))
      replace s7 := s7.leX sc7 le35 k30 (by decide)
      have k30 := leK le35 k30 (by decide)
      refine x_astore_n (pc' := 158) (dX12_applied 79 rfl rfl) rfl (by decide) rfl rfl ?_
      refine x_goto (tgt := 183) (dX12_applied 80 rfl rfl) (by decide) ?_
      refine x_iconst (pc' := 184) (v := 0) (dX12_applied 91 rfl rfl) (by decide) rfl ?_
      refine x_istore_n (pc' := 185) (dX12_applied 92 rfl rfl) rfl (by decide) rfl rfl ?_
      exact X.sub [2, 1, 0] rfl (by simp) hf
  · replace hf := hf.1 (Classical.not_not.mp c4)
    replace c4 := Classical.not_not.mp c4
    refine x_aload_n (pc' := 10) 0 (dX12_applied 4 rfl rfl) rfl rfl rfl ?_
    refine x_inv (pc' := 13) (ν := mX12_take) (av := [_]) (st := []) rfl rfl (dX12_applied 5 rfl rfl) (Nat.le_of_ble_eq_true rfl) wX12_take q226 (inv_V (k := 10) (dX12_applied 5 rfl rfl) q1316 q1318 qs15 wX12_take (by decide) lX12_take (by decide) s7.1) (exN (by decide)) rfl ?_
    refine C.mono hf (fun _ _ => KI.g (fun x38 h36 hf le37 => ?_))
    replace s7 := s7.le sc7 (le37)
    refine x_istore_n (pc' := 14) (dX12_applied 6 rfl rfl) rfl (by decide) rfl rfl ?_
    refine x_aload_n (pc' := 15) 1 (dX12_applied 7 rfl rfl) rfl rfl rfl ?_
    refine x_dup (pc' := 16) (dX12_applied 8 rfl rfl) rfl rfl ?_
    refine x_getI (pc' := 19) (dX12_applied 9 rfl rfl) g116 q860 (Or.inl rfl) rfl (hf_of 10 s7.1 rfl (by decide) m10_116) ?_
    refine x_iconst (pc' := 20) (v := 1) (dX12_applied 10 rfl rfl) (by decide) rfl ?_
    refine x_iadd (pc' := 21) (dX12_applied 11 rfl rfl) rfl ?_
    refine x_putI (pc' := 24) (dX12_applied 12 rfl rfl) g116 q860 (Or.inl rfl) (Or.inl rfl) (Or.inl (by decide)) rfl (hf_of 10 s7.1 rfl (by decide) m10_116) (fun h39 e52 => ?_)
    replace hf := hf h39 e52
    replace s7 : So 7 (gW G) h39 := by rw [e52]; exact s7.le sc7 (pI_le (Or.inl rfl))
    obtain ⟨n1, n2, hf⟩ := hf
    refine x_new (pc' := 27) (k := 5) (dX12_applied 13 rfl rfl) q1275 (by decide) rfl (by decide) n1 n2 (fun q40 h42 k41 e43 => ?_)
    replace hf := hf q40 k41 h42 e43
    replace s7 : So 7 (gW G) h42 := by rw [e43]; exact s7.le sc7 (nO_le k41)
    have k44 : hK h42 q40 = 6 := by rw [e43]; exact kNOs
    refine x_dup (pc' := 28) (dX12_applied 14 rfl rfl) rfl rfl ?_
    refine x_inv (pc' := 31) (ν := mX7_init) (av := [_]) (st := [_]) rfl rfl (dX12_applied 15 rfl rfl) (Nat.le_of_ble_eq_true rfl) wX7_init q221 (inv_N (host := "LetMill") (dX12_applied 15 rfl rfl) (by decide) q560 q561 rfl (by decide) lX7_init) (fun b hb => by exact Or.inl (by have e : some _ = some b := hb; cases e; simp)) rfl ?_
    refine C.mono hf (fun _ _ => KV.g (fun h45 hf le46 => ?_))
    replace s7 := s7.leX sc7 le46 k44 (by decide)
    have k44 := leK le46 k44 (by decide)
    refine x_astore_n (pc' := 32) (dX12_applied 16 rfl rfl) rfl (by decide) rfl rfl ?_
    refine x_aload_n (pc' := 33) 0 (dX12_applied 17 rfl rfl) rfl rfl rfl ?_
    refine x_aload_n (pc' := 34) 2 (dX12_applied 18 rfl rfl) rfl rfl rfl ?_
    refine x_inv (pc' := 37) (ν := mX12_ty) (av := [_]) (st := [_]) rfl rfl (dX12_applied 19 rfl rfl) (Nat.le_of_ble_eq_true rfl) wX12_ty q226 (inv_V (k := 10) (dX12_applied 19 rfl rfl) q1915 q1917 qs33 wX12_ty (by decide) lX12_ty (by decide) s7.1) (exN (by decide)) rfl ?_
    refine C.mono hf (fun _ _ => KR.g (fun b49 h47 hf le48 => ?_))
    have k44 := leK le48 k44 (by decide)
    replace s7 := s7.le sc7 (le48)
    refine x_inv (pc' := 40) (ν := mX7_add) (av := [_, _]) (st := []) rfl rfl (dX12_applied 20 rfl rfl) (Nat.le_of_ble_eq_true rfl) wX7_add q221 (inv_V (k := 5) (dX12_applied 20 rfl rfl) q1401 q590 q591 wX7_add (by decide) lX7_add (by decide) k44) (exN (by decide)) rfl ?_
    refine C.mono hf (fun _ _ => KV.g (fun h50 hf le51 => ?_))
    have k44 := leK le51 k44 (by decide)
    replace s7 := s7.le sc7 (le51)
    exact X.sub [2, 0] rfl (by simp) hf
theorem bX12_applied_40 (G : Gh) (d : Nat) (h : AH) (Q : Outcome → AH → Prop) (l3 : Nat) (s7 : So 7 (gW G) h) (hf : C G mX12_skip d [.ref (gW G 7), .int (44)] h (KI Q (fun x3 h1 => (x3 = 0 → (∀ h5, h5 = pI h1 (gW G 7) 116 ((fI h1 (gW G 7) 116) - 1) → (C G mX12_expect d [.ref (gW G 7), .int (41)] h5 (KI Q (fun x8 h6 => hK h6 l3 = 6 ∧ (((fI h6 l3 78) = 1 → (C G mX7_ty d [.ref (l3), .int (0)] h6 (KR Q (fun b23 h21 => X G mX12_applied (d + 1) none [] 185 [(0, .ref (gW G 7)), (1, .ref (b23)), (2, .int (0))] [] h21 Q)))) ∧ (¬ ((fI h6 l3 78) = 1) → ((hc h6 + 1 ≤ MC) ∧ (hs h6 + 3 ≤ MS) ∧ ∀ q11, hK h6 q11 = 0 → ∀ h13, h13 = nO h6 q11 47 → (C G mX12_expect d [.ref (gW G 7), .int (280)] h13 (KI Q (fun x18 h16 => C G mX52_init d [.ref (q11), .int (x18), .ref (l3)] h16 (KV Q (fun h19 => X G mX12_applied (d + 1) none [] 185 [(0, .ref (gW G 7)), (1, .ref (q11)), (2, .int (0))] [] h19 Q))))))))))))) ∧ (¬ x3 = 0 → (hK h1 l3 = 6 ∧ (((fI h1 l3 78) = 6 → (∀ h32, h32 = pI h1 (gW G 7) 115 ((fI h1 (gW G 7) 115) - 1) → (C G mX12_wrong d [.ref (gW G 7)] h32 (KR Q (fun b35 h33 => Q (.threw b35) h33))))) ∧ (¬ ((fI h1 l3 78) = 6) → (C G mX12_ty d [.ref (gW G 7)] h1 (KR Q (fun b29 h27 => C G mX7_add d [.ref (l3), .ref (b29)] h27 (KV Q (fun h30 => X G mX12_applied (d + 1) none [] 40 [(0, .ref (gW G 7)), (3, .ref (l3))] [] h30 Q)))))))))))) : X G mX12_applied (d + 1) none [] 40 [(0, .ref (gW G 7)), (3, .ref (l3))] [] h Q := by
  refine x_aload_n (pc' := 41) 0 (dX12_applied 21 rfl rfl) rfl rfl rfl ?_
  refine x_bipush (pc' := 43) (v := 44) (dX12_applied 22 rfl rfl) (by decide) rfl ?_
  refine x_inv (pc' := 46) (ν := mX12_skip) (av := [_, _]) (st := []) rfl rfl (dX12_applied 23 rfl rfl) (Nat.le_of_ble_eq_true rfl) wX12_skip q226 (inv_V (k := 10) (dX12_applied 23 rfl rfl) q1511 q1513 qs24 wX12_skip (by decide) lX12_skip (by decide) s7.1) (exN (by decide)) rfl ?_
  refine C.mono hf (fun _ _ => KI.g (fun x3 h1 hf le2 => ?_))
  replace s7 := s7.le sc7 (le2)
  refine x_if_eq (pc' := 49) (tgt := 84) (dX12_applied 24 rfl rfl) (by decide) rfl (fun c4 => ?_) (fun c4 => ?_)
  · replace hf := hf.1 c4
    refine x_aload_n (pc' := 85) 0 (dX12_applied 43 rfl rfl) rfl rfl rfl ?_
    refine x_dup (pc' := 86) (dX12_applied 44 rfl rfl) rfl rfl ?_
    refine x_getI (pc' := 89) (dX12_applied 45 rfl rfl) g116 q860 (Or.inl rfl) rfl (hf_of 10 s7.1 rfl (by decide) m10_116) ?_
    refine x_iconst (pc' := 90) (v := 1) (dX12_applied 46 rfl rfl) (by decide) rfl ?_
    refine x_isub (pc' := 91) (dX12_applied 47 rfl rfl) rfl ?_
    refine x_putI (pc' := 94) (dX12_applied 48 rfl rfl) g116 q860 (Or.inl rfl) (Or.inl rfl) (Or.inl (by decide)) rfl (hf_of 10 s7.1 rfl (by decide) m10_116) (fun h5 e24 => ?_)
    replace hf := hf h5 e24
    replace s7 : So 7 (gW G) h5 := by rw [e24]; exact s7.le sc7 (pI_le (Or.inl rfl))
    refine x_aload_n (pc' := 95) 0 (dX12_applied 49 rfl rfl) rfl rfl rfl ?_
    refine x_bipush (pc' := 97) (v := 41) (dX12_applied 50 rfl rfl) (by decide) rfl ?_
    refine x_inv (pc' := 100) (ν := mX12_expect) (av := [_, _]) (st := []) rfl rfl (dX12_applied 51 rfl rfl) (Nat.le_of_ble_eq_true rfl) wX12_expect q226 (inv_V (k := 10) (dX12_applied 51 rfl rfl) q1471 q1473 qs21 wX12_expect (by decide) lX12_expect (by decide) s7.1) (exN (by decide)) rfl ?_
    refine C.mono hf (fun _ _ => KI.g (fun x8 h6 hf le7 => ?_))
    replace s7 := s7.le sc7 (le7)
    refine x_istore_n (pc' := 101) (dX12_applied 52 rfl rfl) rfl (by decide) rfl rfl ?_
    refine x_aload_n (pc' := 102) 2 (dX12_applied 53 rfl rfl) rfl rfl rfl ?_
    obtain ⟨k9, hf⟩ := hf
    refine x_getI (pc' := 105) (dX12_applied 54 rfl rfl) g78 q578 (Or.inl rfl) rfl (hf_of 5 k9 rfl (by decide) m5_78) ?_
    refine x_iconst (pc' := 106) (v := 1) (dX12_applied 55 rfl rfl) (by decide) rfl ?_
    refine x_icmp_ne (pc' := 109) (tgt := 117) (dX12_applied 56 rfl rfl) (by decide) rfl (fun c10 => ?_) (fun c10 => ?_)
    · replace hf := hf.2 c10
      obtain ⟨n1, n2, hf⟩ := hf
      refine x_new (pc' := 120) (k := 47) (dX12_applied 61 rfl rfl) q1932 (by decide) rfl (by decide) n1 n2 (fun q11 h13 k12 e14 => ?_)
      replace hf := hf q11 k12 h13 e14
      replace k9 : hK h13 l3 = 6 := by rw [e14]; exact kNO k9 (by decide) k12
      replace s7 : So 7 (gW G) h13 := by rw [e14]; exact s7.le sc7 (nO_le k12)
      have k15 : hK h13 q11 = 48 := by rw [e14]; exact kNOs
      refine x_dup (pc' := 121) (dX12_applied 62 rfl rfl) rfl rfl ?_
      refine x_aload_n (pc' := 122) 1 (dX12_applied 63 rfl rfl) rfl rfl rfl ?_
      refine x_sipush (pc' := 125) (v := 280) (dX12_applied 64 rfl rfl) (by decide) rfl ?_
      refine x_inv (pc' := 128) (ν := mX12_expect) (av := [_, _]) (st := [_, _]) rfl rfl (dX12_applied 65 rfl rfl) (Nat.le_of_ble_eq_true rfl) wX12_expect q226 (inv_V (k := 10) (dX12_applied 65 rfl rfl) q1471 q1473 qs21 wX12_expect (by decide) lX12_expect (by decide) s7.1) (exN (by decide)) rfl ?_
      refine C.mono hf (fun _ _ => KI.g (fun x18 h16 hf le17 => ?_))
      have k9 := leK le17 k9 (by decide)
      have k15 := leK le17 k15 (by decide)
      replace s7 := s7.le sc7 (le17)
      refine x_aload_n (pc' := 129) 2 (dX12_applied 66 rfl rfl) rfl rfl rfl ?_
      refine x_inv (pc' := 132) (ν := mX52_init) (av := [_, _, _]) (st := [_]) rfl rfl (dX12_applied 67 rfl rfl) (Nat.le_of_ble_eq_true rfl) wX52_init q273 (inv_I (dX12_applied 67 rfl rfl) q1934 q1935 q1936 rfl (by decide) lX52_init) (fun b hb => by exact Or.inl (by have e : some _ = some b := hb; cases e; simp)) rfl ?_
      refine C.mono hf (fun _ _ => KV.g (fun h19 hf le20 => ?_))
      replace s7 := s7.leX sc7 le20 k15 (by decide)
      have k9 := leK le20 k9 (by decide)
      have k15 := leK le20 k15 (by decide)
      refine x_astore_n (pc' := 133) (dX12_applied 68 rfl rfl) rfl (by decide) rfl rfl ?_
      refine x_goto (tgt := 183) (dX12_applied 69 rfl rfl) (by decide) ?_
      refine x_iconst (pc' := 184) (v := 0) (dX12_applied 91 rfl rfl) (by decide) rfl ?_
      refine x_istore_n (pc' := 185) (dX12_applied 92 rfl rfl) rfl (by decide) rfl rfl ?_
      exact X.sub [2, 1, 0] rfl (by simp) hf
    · replace hf := hf.1 (Classical.not_not.mp c10)
      replace c10 := Classical.not_not.mp c10
      refine x_aload_n (pc' := 110) 2 (dX12_applied 57 rfl rfl) rfl rfl rfl ?_
      refine x_iconst (pc' := 111) (v := 0) (dX12_applied 58 rfl rfl) (by decide) rfl ?_
      refine x_inv (pc' := 114) (ν := mX7_ty) (av := [_, _]) (st := []) rfl rfl (dX12_applied 59 rfl rfl) (Nat.le_of_ble_eq_true rfl) wX7_ty q221 (inv_V (k := 5) (dX12_applied 59 rfl rfl) q1927 q1928 q1929 wX7_ty (by decide) lX7_ty (by decide) k9) (exN (by decide)) rfl ?_
      refine C.mono hf (fun _ _ => KR.g (fun b23 h21 hf le22 => ?_))
      have k9 := leK le22 k9 (by decide)
      replace s7 := s7.le sc7 (le22)
      refine x_goto (tgt := 132) (dX12_applied 60 rfl rfl) (by decide) ?_
      refine x_astore_n (pc' := 133) (dX12_applied 68 rfl rfl) rfl (by decide) rfl rfl ?_
      refine x_goto (tgt := 183) (dX12_applied 69 rfl rfl) (by decide) ?_
      refine x_iconst (pc' := 184) (v := 0) (dX12_applied 91 rfl rfl) (by decide) rfl ?_
      refine x_istore_n (pc' := 185) (dX12_applied 92 rfl rfl) rfl (by decide) rfl rfl ?_
      exact X.sub [2, 1, 0] rfl (by simp) hf
  · replace hf := hf.2 c4
    refine x_aload_n (pc' := 50) 1 (dX12_applied 25 rfl rfl) rfl rfl rfl ?_
    obtain ⟨k25, hf⟩ := hf
    refine x_getI (pc' := 53) (dX12_applied 26 rfl rfl) g78 q578 (Or.inl rfl) rfl (hf_of 5 k25 rfl (by decide) m5_78) ?_
    refine x_bipush (pc' := 55) (v := 6) (dX12_applied 27 rfl rfl) (by decide) rfl ?_
    refine x_icmp_ne (pc' := 58) (tgt := 73) (dX12_applied 28 rfl rfl) (by decide) rfl (fun c26 => ?_) (fun c26 => ?_)
    · replace hf := hf.2 c26
      refine x_aload_n (pc' := 74) 1 (dX12_applied 38 rfl rfl) rfl rfl rfl ?_
      refine x_aload_n (pc' := 75) 0 (dX12_applied 39 rfl rfl) rfl rfl rfl ?_
      refine x_inv (pc' := 78) (ν := mX12_ty) (av := [_]) (st := [_]) rfl rfl (dX12_applied 40 rfl rfl) (Nat.le_of_ble_eq_true rfl) wX12_ty q226 (inv_V (k := 10) (dX12_applied 40 rfl rfl) q1915 q1917 qs33 wX12_ty (by decide) lX12_ty (by decide) s7.1) (exN (by decide)) rfl ?_
      refine C.mono hf (fun _ _ => KR.g (fun b29 h27 hf le28 => ?_))
      have k25 := leK le28 k25 (by decide)
      replace s7 := s7.le sc7 (le28)
      refine x_inv (pc' := 81) (ν := mX7_add) (av := [_, _]) (st := []) rfl rfl (dX12_applied 41 rfl rfl) (Nat.le_of_ble_eq_true rfl) wX7_add q221 (inv_V (k := 5) (dX12_applied 41 rfl rfl) q1401 q590 q591 wX7_add (by decide) lX7_add (by decide) k25) (exN (by decide)) rfl ?_
      refine C.mono hf (fun _ _ => KV.g (fun h30 hf le31 => ?_))
      have k25 := leK le31 k25 (by decide)
      replace s7 := s7.le sc7 (le31)
      refine x_goto (tgt := 40) (dX12_applied 42 rfl rfl) (by decide) ?_
      exact X.sub [0, 1] rfl (by simp) hf
    · replace hf := hf.1 (Classical.not_not.mp c26)
      replace c26 := Classical.not_not.mp c26
      refine x_aload_n (pc' := 59) 0 (dX12_applied 29 rfl rfl) rfl rfl rfl ?_
      refine x_dup (pc' := 60) (dX12_applied 30 rfl rfl) rfl rfl ?_
      refine x_getI (pc' := 63) (dX12_applied 31 rfl rfl) g115 q859 (Or.inl rfl) rfl (hf_of 10 s7.1 rfl (by decide) m10_115) ?_
      refine x_iconst (pc' := 64) (v := 1) (dX12_applied 32 rfl rfl) (by decide) rfl ?_
      refine x_isub (pc' := 65) (dX12_applied 33 rfl rfl) rfl ?_
      refine x_putI (pc' := 68) (dX12_applied 34 rfl rfl) g115 q859 (Or.inl rfl) (Or.inl rfl) (Or.inl (by decide)) rfl (hf_of 10 s7.1 rfl (by decide) m10_115) (fun h32 e36 => ?_)
      replace hf := hf h32 e36
      replace k25 : hK h32 l3 = 6 := by rw [e36]; exact k25
      replace s7 : So 7 (gW G) h32 := by rw [e36]; exact s7.le sc7 (pI_le (Or.inl rfl))
      refine x_aload_n (pc' := 69) 0 (dX12_applied 35 rfl rfl) rfl rfl rfl ?_
      refine x_inv (pc' := 72) (ν := mX12_wrong) (av := [_]) (st := []) rfl rfl (dX12_applied 36 rfl rfl) (Nat.le_of_ble_eq_true rfl) wX12_wrong q226 (inv_V (k := 10) (dX12_applied 36 rfl rfl) q1289 q1291 qs14 wX12_wrong (by decide) lX12_wrong (by decide) s7.1) (exN (by decide)) rfl ?_
      refine C.mono hf (fun _ _ => KR.g (fun b35 h33 hf le34 => ?_))
      have k25 := leK le34 k25 (by decide)
      replace s7 := s7.le sc7 (le34)
      exact x_athrow (dX12_applied 37 rfl rfl) rfl hf
theorem bX12_applied_185 (G : Gh) (d : Nat) (h : AH) (Q : Outcome → AH → Prop) (l1 : Nat) (l2 : Int32) (s7 : So 7 (gW G) h) (hf : C G mX12_kind d [.ref (gW G 7)] h (KI Q (fun x3 h1 => (x3 = 280 → ((l2 = 20 → (C G mX12_wrong d [.ref (gW G 7)] h1 (KR Q (fun b28 h26 => Q (.threw b28) h26)))) ∧ (¬ l2 = 20 → ((hc h1 + 1 ≤ MC) ∧ (hs h1 + 2 ≤ MS) ∧ ∀ q6, hK h1 q6 = 0 → ∀ h8, h8 = nO h1 q6 5 → (C G mX7_init d [.ref (q6)] h8 (KV Q (fun h11 => C G mX7_add d [.ref (q6), .ref (l1)] h11 (KV Q (fun h13 => (hc h13 + 1 ≤ MC) ∧ (hs h13 + 3 ≤ MS) ∧ ∀ q15, hK h13 q15 = 0 → ∀ h17, h17 = nO h13 q15 47 → (C G mX12_take d [.ref (gW G 7)] h17 (KI Q (fun x22 h20 => C G mX52_init d [.ref (q15), .int (x22), .ref (q6)] h20 (KV Q (fun h23 => ∀ x25 : Int32, x25 = l2 + 1 → (X G mX12_applied (d + 1) none [] 185 [(0, .ref (gW G 7)), (1, .ref (q15)), (2, .int (x25))] [] h23 Q))))))))))))))) ∧ (¬ x3 = 280 → (Q (.returned (some (.ref (l1)))) h1))))) : X G mX12_applied (d + 1) none [] 185 [(0, .ref (gW G 7)), (1, .ref (l1)), (2, .int (l2))] [] h Q := by
  refine x_aload_n (pc' := 186) 0 (dX12_applied 93 rfl rfl) rfl rfl rfl ?_
  refine x_inv (pc' := 189) (ν := mX12_kind) (av := [_]) (st := []) rfl rfl (dX12_applied 94 rfl rfl) (Nat.le_of_ble_eq_true rfl) wX12_kind q226 (inv_V (k := 10) (dX12_applied 94 rfl rfl) q1281 q1283 qs12 wX12_kind (by decide) lX12_kind (by decide) s7.1) (exN (by decide)) rfl ?_
  refine C.mono hf (fun _ _ => KI.g (fun x3 h1 hf le2 => ?_))
  replace s7 := s7.le sc7 (le2)
  refine x_sipush (pc' := 192) (v := 280) (dX12_applied 95 rfl rfl) (by decide) rfl ?_
  refine x_icmp_ne (pc' := 195) (tgt := 238) (dX12_applied 96 rfl rfl) (by decide) rfl (fun c4 => ?_) (fun c4 => ?_)
  · replace hf := hf.2 c4
    refine x_aload_n (pc' := 239) 1 (dX12_applied 119 rfl rfl) rfl rfl rfl ?_
    exact x_aret (dX12_applied 120 rfl rfl) rfl (Or.inl ⟨_, rfl⟩) (Or.inr ⟨_, rfl⟩) hf
  · replace hf := hf.1 (Classical.not_not.mp c4)
    replace c4 := Classical.not_not.mp c4
    refine x_iload_n (pc' := 196) 2 (dX12_applied 97 rfl rfl) rfl rfl rfl ?_
    refine x_bipush (pc' := 198) (v := 20) (dX12_applied 98 rfl rfl) (by decide) rfl ?_
    refine x_icmp_ne (pc' := 201) (tgt := 206) (dX12_applied 99 rfl rfl) (by decide) rfl (fun c5 => ?_) (fun c5 => ?_)
    · replace hf := hf.2 c5
      obtain ⟨n1, n2, hf⟩ := hf
      refine x_new (pc' := 209) (k := 5) (dX12_applied 103 rfl rfl) q1275 (by decide) rfl (by decide) n1 n2 (fun q6 h8 k7 e9 => ?_)
      replace hf := hf q6 k7 h8 e9
      replace s7 : So 7 (gW G) h8 := by rw [e9]; exact s7.le sc7 (nO_le k7)
      have k10 : hK h8 q6 = 6 := by rw [e9]; exact kNOs
      refine x_dup (pc' := 210) (dX12_applied 104 rfl rfl) rfl rfl ?_
      refine x_inv (pc' := 213) (ν := mX7_init) (av := [_]) (st := [_]) rfl rfl (dX12_applied 105 rfl rfl) (Nat.le_of_ble_eq_true rfl) wX7_init q221 (inv_N (host := "LetMill") (dX12_applied 105 rfl rfl) (by decide) q560 q561 rfl (by decide) lX7_init) (fun b hb => by exact Or.inl (by have e : some _ = some b := hb; cases e; simp)) rfl ?_
      refine C.mono hf (fun _ _ => KV.g (fun h11 hf le12 => ?_))
      replace s7 := s7.leX sc7 le12 k10 (by decide)
      have k10 := leK le12 k10 (by decide)
      refine x_astore_n (pc' := 214) (dX12_applied 106 rfl rfl) rfl (by decide) rfl rfl ?_
      refine x_aload_n (pc' := 215) 0 (dX12_applied 107 rfl rfl) rfl rfl rfl ?_
      refine x_aload_n (pc' := 216) 2 (dX12_applied 108 rfl rfl) rfl rfl rfl ?_
      refine x_inv (pc' := 219) (ν := mX7_add) (av := [_, _]) (st := []) rfl rfl (dX12_applied 109 rfl rfl) (Nat.le_of_ble_eq_true rfl) wX7_add q221 (inv_V (k := 5) (dX12_applied 109 rfl rfl) q1401 q590 q591 wX7_add (by decide) lX7_add (by decide) k10) (exN (by decide)) rfl ?_
      refine C.mono hf (fun _ _ => KV.g (fun h13 hf le14 => ?_))
      have k10 := leK le14 k10 (by decide)
      replace s7 := s7.le sc7 (le14)
      obtain ⟨n1, n2, hf⟩ := hf
      refine x_new (pc' := 222) (k := 47) (dX12_applied 110 rfl rfl) q1932 (by decide) rfl (by decide) n1 n2 (fun q15 h17 k16 e18 => ?_)
      replace hf := hf q15 k16 h17 e18
      replace k10 : hK h17 q6 = 6 := by rw [e18]; exact kNO k10 (by decide) k16
      replace s7 : So 7 (gW G) h17 := by rw [e18]; exact s7.le sc7 (nO_le k16)
      have k19 : hK h17 q15 = 48 := by rw [e18]; exact kNOs
      refine x_dup (pc' := 223) (dX12_applied 111 rfl rfl) rfl rfl ?_
      refine x_aload_n (pc' := 224) 1 (dX12_applied 112 rfl rfl) rfl rfl rfl ?_
      refine x_inv (pc' := 227) (ν := mX12_take) (av := [_]) (st := [_, _]) rfl rfl (dX12_applied 113 rfl rfl) (Nat.le_of_ble_eq_true rfl) wX12_take q226 (inv_V (k := 10) (dX12_applied 113 rfl rfl) q1316 q1318 qs15 wX12_take (by decide) lX12_take (by decide) s7.1) (exN (by decide)) rfl ?_
      refine C.mono hf (fun _ _ => KI.g (fun x22 h20 hf le21 => ?_))
      have k10 := leK le21 k10 (by decide)
      have k19 := leK le21 k19 (by decide)
      replace s7 := s7.le sc7 (le21)
      refine x_aload_n (pc' := 228) 0 (dX12_applied 114 rfl rfl) rfl rfl rfl ?_
      refine x_inv (pc' := 231) (ν := mX52_init) (av := [_, _, _]) (st := [_]) rfl rfl (dX12_applied 115 rfl rfl) (Nat.le_of_ble_eq_true rfl) wX52_init q273 (inv_I (dX12_applied 115 rfl rfl) q1934 q1935 q1936 rfl (by decide) lX52_init) (fun b hb => by exact Or.inl (by have e : some _ = some b := hb; cases e; simp)) rfl ?_
      refine C.mono hf (fun _ _ => KV.g (fun h23 hf le24 => ?_))
      replace s7 := s7.leX sc7 le24 k19 (by decide)
      have k10 := leK le24 k10 (by decide)
      have k19 := leK le24 k19 (by decide)
      refine x_astore_n (pc' := 232) (dX12_applied 116 rfl rfl) rfl (by decide) rfl rfl ?_
      replace hf := hf _ rfl
      refine x_iinc (pc' := 235) 3 (dX12_applied 117 rfl rfl) rfl (by rfl) (by decide) rfl rfl ?_
      refine x_goto (tgt := 185) (dX12_applied 118 rfl rfl) (by decide) ?_
      exact X.sub [3, 1, 0] rfl (by simp) hf
    · replace hf := hf.1 (Classical.not_not.mp c5)
      replace c5 := Classical.not_not.mp c5
      refine x_aload_n (pc' := 202) 0 (dX12_applied 100 rfl rfl) rfl rfl rfl ?_
      refine x_inv (pc' := 205) (ν := mX12_wrong) (av := [_]) (st := []) rfl rfl (dX12_applied 101 rfl rfl) (Nat.le_of_ble_eq_true rfl) wX12_wrong q226 (inv_V (k := 10) (dX12_applied 101 rfl rfl) q1289 q1291 qs14 wX12_wrong (by decide) lX12_wrong (by decide) s7.1) (exN (by decide)) rfl ?_
      refine C.mono hf (fun _ _ => KR.g (fun b28 h26 hf le27 => ?_))
      replace s7 := s7.le sc7 (le27)
      exact x_athrow (dX12_applied 102 rfl rfl) rfl hf
theorem bX13_init (G : Gh) (d : Nat) (hd1 : 1 ≤ d) (h : AH) (Q : Outcome → AH → Prop) (a0 : Nat) (p1 : Nat) (p2 : Nat) (hf : (¬ (2000 : Int32) < 0) ∧ (hc h + 1 ≤ MC) ∧ (hs h + (2000 : Int32).toNatClampNeg ≤ MS) ∧ ∀ q1, hK h q1 = 0 → ∀ h3, h3 = nA h q1 1 (2000 : Int32).toNatClampNeg → (hK h3 a0 = 12 ∧ (∀ h8, h8 = pR h3 a0 119 (some q1) → (∀ h9, h9 = pR h8 a0 121 (some p1) → (∀ h10, h10 = pR h9 a0 122 (some p2) → (Q (.returned none) h10)))))) : C G mX13_init d [.ref (a0), .ref (p1), .ref (p2)] h Q := by
  refine C.of_X (by decide +kernel) (Nat.le_of_ble_eq_true rfl) wX13_init ?_
  show X G mX13_init d (some a0) [] 0 [(0, .ref (a0)), (1, .ref (p1)), (2, .ref (p2))] [] h Q
  refine x_aload_n (pc' := 1) 0 (dX13_init 0 rfl rfl) rfl rfl rfl ?_
  refine x_objInit (pc' := 4) (dX13_init 1 rfl rfl) q879 q288 q289 (by decide) (by omega) rfl ?_
  refine x_aload_n (pc' := 5) 0 (dX13_init 2 rfl rfl) rfl rfl rfl ?_
  refine x_sipush (pc' := 8) (v := 2000) (dX13_init 3 rfl rfl) (by decide) rfl ?_
  obtain ⟨z5, n1, n2, hf⟩ := hf
  refine x_newa1 (pc' := 10) (dX13_init 4 rfl rfl) rfl z5 (by decide) n1 n2 (fun q1 h3 k2 e4 => ?_)
  replace hf := hf q1 k2 h3 e4
  have k6 : hK h3 q1 = 1001 := by rw [e4]; exact kNAs
  obtain ⟨k7, hf⟩ := hf
  refine x_putR (pc' := 13) (dX13_init 5 rfl rfl) g119 q880 (Or.inl rfl) (Or.inr ⟨rfl, rfl, rfl, rfl⟩) (Or.inr rfl) rfl (hf_of 11 k7 rfl (by decide) m11_119) (fun h8 e13 => ?_)
  replace hf := hf h8 e13
  replace k6 : hK h8 q1 = 1001 := by rw [e13]; exact k6
  replace k7 : hK h8 a0 = 12 := by rw [e13]; exact k7
  refine x_aload_n (pc' := 14) 0 (dX13_init 6 rfl rfl) rfl rfl rfl ?_
  refine x_aload_n (pc' := 15) 1 (dX13_init 7 rfl rfl) rfl rfl rfl ?_
  refine x_putR (pc' := 18) (dX13_init 8 rfl rfl) g121 q883 (Or.inl rfl) (Or.inr ⟨rfl, rfl, rfl, rfl⟩) (Or.inr rfl) rfl (hf_of 11 k7 rfl (by decide) m11_121) (fun h9 e12 => ?_)
  replace hf := hf h9 e12
  replace k6 : hK h9 q1 = 1001 := by rw [e12]; exact k6
  replace k7 : hK h9 a0 = 12 := by rw [e12]; exact k7
  refine x_aload_n (pc' := 19) 0 (dX13_init 9 rfl rfl) rfl rfl rfl ?_
  refine x_aload_n (pc' := 20) 2 (dX13_init 10 rfl rfl) rfl rfl rfl ?_
  refine x_putR (pc' := 23) (dX13_init 11 rfl rfl) g122 q884 (Or.inl rfl) (Or.inr ⟨rfl, rfl, rfl, rfl⟩) (Or.inr rfl) rfl (hf_of 11 k7 rfl (by decide) m11_122) (fun h10 e11 => ?_)
  replace hf := hf h10 e11
  replace k6 : hK h10 q1 = 1001 := by rw [e11]; exact k6
  replace k7 : hK h10 a0 = 12 := by rw [e11]; exact k7
  exact x_vret (dX13_init 12 rfl rfl) rfl hf
theorem bX13_type (G : Gh) (d : Nat) (h : AH) (Q : Outcome → AH → Prop) (p1 : Nat) (s8 : So 8 (gW G) h) (hf : ∀ h1, h1 = pI h (gW G 8) 120 0 → (∀ h2, h2 = pR h1 (gW G 8) 123 (some p1) → (∀ h3, h3 = pI h2 (gW G 8) 124 0 → (C G mX13_type_2 d [.ref (gW G 8), .int (0)] h3 (KV Q (fun h4 => Q (.returned none) h4)))))) : C G mX13_type (d + 1) [.ref (gW G 8), .ref (p1)] h Q := by
  refine C.of_X (by decide +kernel) (Nat.le_of_ble_eq_true rfl) wX13_type ?_
  show X G mX13_type (d + 1) none [] 0 [(0, .ref (gW G 8)), (1, .ref (p1))] [] h Q
  refine x_aload_n (pc' := 1) 0 (dX13_type 0 rfl rfl) rfl rfl rfl ?_
  refine x_iconst (pc' := 2) (v := 0) (dX13_type 1 rfl rfl) (by decide) rfl ?_
  refine x_putI (pc' := 5) (dX13_type 2 rfl rfl) g120 q881 (Or.inl rfl) (Or.inl rfl) (Or.inl (by decide)) rfl (hf_of 11 s8.1 rfl (by decide) m11_120) (fun h1 e8 => ?_)
  replace hf := hf h1 e8
  replace s8 : So 8 (gW G) h1 := by rw [e8]; exact s8.le sc8 (pI_le (Or.inl rfl))
  refine x_aload_n (pc' := 6) 0 (dX13_type 3 rfl rfl) rfl rfl rfl ?_
  refine x_aload_n (pc' := 7) 1 (dX13_type 4 rfl rfl) rfl rfl rfl ?_
  refine x_putR (pc' := 10) (dX13_type 5 rfl rfl) g123 q885 (Or.inl rfl) (Or.inl rfl) (Or.inl (by decide)) rfl (hf_of 11 s8.1 rfl (by decide) m11_123) (fun h2 e7 => ?_)
  replace hf := hf h2 e7
  replace s8 : So 8 (gW G) h2 := by rw [e7]; exact s8.le sc8 (pR_le (Or.inl rfl))
  refine x_aload_n (pc' := 11) 0 (dX13_type 6 rfl rfl) rfl rfl rfl ?_
  refine x_iconst (pc' := 12) (v := 0) (dX13_type 7 rfl rfl) (by decide) rfl ?_
  refine x_putI (pc' := 15) (dX13_type 8 rfl rfl) g124 q886 (Or.inl rfl) (Or.inl rfl) (Or.inl (by decide)) rfl (hf_of 11 s8.1 rfl (by decide) m11_124) (fun h3 e6 => ?_)
  replace hf := hf h3 e6
  replace s8 : So 8 (gW G) h3 := by rw [e6]; exact s8.le sc8 (pI_le (Or.inl rfl))
  refine x_aload_n (pc' := 16) 0 (dX13_type 9 rfl rfl) rfl rfl rfl ?_
  refine x_iconst (pc' := 17) (v := 0) (dX13_type 10 rfl rfl) (by decide) rfl ?_
  refine x_inv (pc' := 20) (ν := mX13_type_2) (av := [_, _]) (st := []) rfl rfl (dX13_type 11 rfl rfl) (Nat.le_of_ble_eq_true rfl) wX13_type_2 q227 (inv_V (k := 11) (dX13_type 11 rfl rfl) q3336 q3338 qs59 wX13_type_2 (by decide) lX13_type_2 (by decide) s8.1) (exN (by decide)) rfl ?_
  refine C.mono hf (fun _ _ => KV.g (fun h4 hf le5 => ?_))
  replace s8 := s8.le sc8 (le5)
  exact x_vret (dX13_type 12 rfl rfl) rfl hf
theorem bX13_type_2 (G : Gh) (d : Nat) (h : AH) (Q : Outcome → AH → Prop) (p1 : Int32) (s2 : So 2 (gW G) h) (s8 : So 8 (gW G) h) (hf : ∃ b1, fR h (gW G 8) 123 = some b1 ∧ (hK h b1 = 1000 ∧ vp_in (fI h (gW G 8) 124) (hL h b1) ∧ (∀ x5 : Int32, x5 = aI h b1 (fI h (gW G 8) 124).toNatClampNeg → (∀ h6, h6 = pI h (gW G 8) 124 ((fI h (gW G 8) 124) + 1) → ((0 ≤ x5 → (C G mX3_name d [.ref (gW G 2), .int (x5)] h6 (KR Q (fun b10 h8 => (x5 = 0 → (X G mX13_type_2 (d + 1) none [] 79 [(0, .ref (gW G 8)), (1, .int (p1)), (2, .int (x5)), (3, .ref (b10))] [.int (1)] h8 Q)) ∧ (¬ x5 = 0 → (X G mX13_type_2 (d + 1) none [] 79 [(0, .ref (gW G 8)), (1, .int (p1)), (2, .int (x5)), (3, .ref (b10))] [.int (0)] h8 Q)))))) ∧ (¬ (0 ≤ x5) → (∀ x12 : Int32, x12 = ((-1)) - x5 → (C G mX13_put d [.ref (gW G 8), .int (39)] h6 (KV Q (fun h13 => C G mX13_put d [.ref (gW G 8), .int (97 + (x12 - x12 / 26 * 26))] h13 (KV Q (fun h15 => (x12 ≤ 25 → (Q (.returned none) h15)) ∧ (¬ (x12 ≤ 25) → (C G mX13_digits d [.ref (gW G 8), .long ((x12 / 26 : Int32).toInt64)] h15 (KV Q (fun h18 => Q (.returned none) h18)))))))))))))))) : C G mX13_type_2 (d + 1) [.ref (gW G 8), .int (p1)] h Q := by
  refine C.of_X (by decide +kernel) (Nat.le_of_ble_eq_true rfl) wX13_type_2 ?_
  show X G mX13_type_2 (d + 1) none [] 0 [(0, .ref (gW G 8)), (1, .int (p1))] [] h Q
  refine x_aload_n (pc' := 1) 0 (dX13_type_2 0 rfl rfl) rfl rfl rfl ?_
  obtain ⟨b1, e2, hf⟩ := hf
  refine x_getR (pc' := 4) (dX13_type_2 1 rfl rfl) g123 q885 (Or.inl rfl) rfl (hf_of 11 s8.1 rfl (by decide) m11_123) e2 ?_
  refine x_aload_n (pc' := 5) 0 (dX13_type_2 2 rfl rfl) rfl rfl rfl ?_
  refine x_getI (pc' := 8) (dX13_type_2 3 rfl rfl) g124 q886 (Or.inl rfl) rfl (hf_of 11 s8.1 rfl (by decide) m11_124) ?_
  obtain ⟨k3, hf⟩ := hf
  obtain ⟨i4, hf⟩ := hf
  refine x_iald (pc' := 9) (dX13_type_2 4 rfl rfl) rfl k3 i4 ?_
  replace hf := hf _ rfl
  refine x_istore_n (pc' := 10) (dX13_type_2 5 rfl rfl) rfl (by decide) rfl rfl ?_
  refine x_aload_n (pc' := 11) 1 (dX13_type_2 6 rfl rfl) rfl rfl rfl ?_
  refine x_dup (pc' := 12) (dX13_type_2 7 rfl rfl) rfl rfl ?_
  refine x_getI (pc' := 15) (dX13_type_2 8 rfl rfl) g124 q886 (Or.inl rfl) rfl (hf_of 11 s8.1 rfl (by decide) m11_124) ?_
  refine x_iconst (pc' := 16) (v := 1) (dX13_type_2 9 rfl rfl) (by decide) rfl ?_
  refine x_iadd (pc' := 17) (dX13_type_2 10 rfl rfl) rfl ?_
  refine x_putI (pc' := 20) (dX13_type_2 11 rfl rfl) g124 q886 (Or.inl rfl) (Or.inl rfl) (Or.inl (by decide)) rfl (hf_of 11 s8.1 rfl (by decide) m11_124) (fun h6 e20 => ?_)
  replace hf := hf h6 e20
  replace k3 : hK h6 b1 = 1000 := by rw [e20]; exact k3
  replace s2 : So 2 (gW G) h6 := by rw [e20]; exact s2.le sc2 (pI_le (Or.inl rfl))
  replace s8 : So 8 (gW G) h6 := by rw [e20]; exact s8.le sc8 (pI_le (Or.inl rfl))
  refine x_iload_n (pc' := 21) 0 (dX13_type_2 12 rfl rfl) rfl rfl rfl ?_
  refine x_if_ge (pc' := 24) (tgt := 61) (dX13_type_2 13 rfl rfl) (by decide) rfl (fun c7 => ?_) (fun c7 => ?_)
  · replace hf := hf.1 c7
    refine x_aload_n (pc' := 62) 1 (dX13_type_2 38 rfl rfl) rfl rfl rfl ?_
    refine x_getR (pc' := 65) (dX13_type_2 39 rfl rfl) g121 q883 (Or.inl rfl) rfl (hf_of 11 s8.1 rfl (by decide) m11_121) (s8.2 1 _ rfl rfl).1 ?_
    refine x_iload_n (pc' := 66) 0 (dX13_type_2 40 rfl rfl) rfl rfl rfl ?_
    refine x_inv (pc' := 69) (ν := mX3_name) (av := [_, _]) (st := []) rfl rfl (dX13_type_2 41 rfl rfl) (Nat.le_of_ble_eq_true rfl) wX3_name q213 (inv_V (k := 2) (dX13_type_2 41 rfl rfl) q3351 q2107 q2108 wX3_name (by decide) lX3_name (by decide) s2.1) (exN (by decide)) rfl ?_
    refine C.mono hf (fun _ _ => KR.g (fun b10 h8 hf le9 => ?_))
    have k3 := leK le9 k3 (by decide)
    replace s2 := s2.le sc2 (le9)
    replace s8 := s8.le sc8 (le9)
    refine x_astore_n (pc' := 70) (dX13_type_2 42 rfl rfl) rfl (by decide) rfl rfl ?_
    refine x_iload_n (pc' := 71) 1 (dX13_type_2 43 rfl rfl) rfl rfl rfl ?_
    refine x_if_ne (pc' := 74) (tgt := 78) (dX13_type_2 44 rfl rfl) (by decide) rfl (fun c11 => ?_) (fun c11 => ?_)
    · replace hf := hf.2 c11
      refine x_iconst (pc' := 79) (v := 0) (dX13_type_2 47 rfl rfl) (by decide) rfl ?_
      exact X.sub [2, 3, 1, 0] rfl (by simp) hf
    · replace hf := hf.1 (Classical.not_not.mp c11)
      replace c11 := Classical.not_not.mp c11
      refine x_iconst (pc' := 75) (v := 1) (dX13_type_2 45 rfl rfl) (by decide) rfl ?_
      refine x_goto (tgt := 79) (dX13_type_2 46 rfl rfl) (by decide) ?_
      exact X.sub [2, 3, 1, 0] rfl (by simp) hf
  · replace hf := hf.2 c7
    refine x_iconst (pc' := 25) (v := -1) (dX13_type_2 14 rfl rfl) (by decide) rfl ?_
    refine x_iload_n (pc' := 26) 0 (dX13_type_2 15 rfl rfl) rfl rfl rfl ?_
    refine x_isub (pc' := 27) (dX13_type_2 16 rfl rfl) rfl ?_
    replace hf := hf _ rfl
    refine x_istore_n (pc' := 28) (dX13_type_2 17 rfl rfl) rfl (by decide) rfl rfl ?_
    refine x_aload_n (pc' := 29) 2 (dX13_type_2 18 rfl rfl) rfl rfl rfl ?_
    refine x_bipush (pc' := 31) (v := 39) (dX13_type_2 19 rfl rfl) (by decide) rfl ?_
    refine x_inv (pc' := 34) (ν := mX13_put) (av := [_, _]) (st := []) rfl rfl (dX13_type_2 20 rfl rfl) (Nat.le_of_ble_eq_true rfl) wX13_put q227 (inv_V (k := 11) (dX13_type_2 20 rfl rfl) q3340 q3342 qs60 wX13_put (by decide) lX13_put (by decide) s8.1) (exN (by decide)) rfl ?_
    refine C.mono hf (fun _ _ => KV.g (fun h13 hf le14 => ?_))
    have k3 := leK le14 k3 (by decide)
    replace s2 := s2.le sc2 (le14)
    replace s8 := s8.le sc8 (le14)
    refine x_aload_n (pc' := 35) 2 (dX13_type_2 21 rfl rfl) rfl rfl rfl ?_
    refine x_bipush (pc' := 37) (v := 97) (dX13_type_2 22 rfl rfl) (by decide) rfl ?_
    refine x_iload_n (pc' := 38) 0 (dX13_type_2 23 rfl rfl) rfl rfl rfl ?_
    refine x_bipush (pc' := 40) (v := 26) (dX13_type_2 24 rfl rfl) (by decide) rfl ?_
    refine x_irem (pc' := 41) (dX13_type_2 25 rfl rfl) (by decide) rfl ?_
    refine x_iadd (pc' := 42) (dX13_type_2 26 rfl rfl) rfl ?_
    refine x_inv (pc' := 45) (ν := mX13_put) (av := [_, _]) (st := []) rfl rfl (dX13_type_2 27 rfl rfl) (Nat.le_of_ble_eq_true rfl) wX13_put q227 (inv_V (k := 11) (dX13_type_2 27 rfl rfl) q3340 q3342 qs60 wX13_put (by decide) lX13_put (by decide) s8.1) (exN (by decide)) rfl ?_
    refine C.mono hf (fun _ _ => KV.g (fun h15 hf le16 => ?_))
    have k3 := leK le16 k3 (by decide)
    replace s2 := s2.le sc2 (le16)
    replace s8 := s8.le sc8 (le16)
    refine x_iload_n (pc' := 46) 0 (dX13_type_2 28 rfl rfl) rfl rfl rfl ?_
    refine x_bipush (pc' := 48) (v := 25) (dX13_type_2 29 rfl rfl) (by decide) rfl ?_
    refine x_icmp_le (pc' := 51) (tgt := 60) (dX13_type_2 30 rfl rfl) (by decide) rfl (fun c17 => ?_) (fun c17 => ?_)
    · replace hf := hf.1 c17
      exact x_vret (dX13_type_2 37 rfl rfl) rfl hf
    · replace hf := hf.2 c17
      refine x_aload_n (pc' := 52) 2 (dX13_type_2 31 rfl rfl) rfl rfl rfl ?_
      refine x_iload_n (pc' := 53) 0 (dX13_type_2 32 rfl rfl) rfl rfl rfl ?_
      refine x_bipush (pc' := 55) (v := 26) (dX13_type_2 33 rfl rfl) (by decide) rfl ?_
      refine x_idiv (pc' := 56) (dX13_type_2 34 rfl rfl) (by decide) rfl ?_
      refine x_i2l (pc' := 57) (dX13_type_2 35 rfl rfl) rfl ?_
      refine x_inv (pc' := 60) (ν := mX13_digits) (av := [_, _]) (st := []) rfl rfl (dX13_type_2 36 rfl rfl) (Nat.le_of_ble_eq_true rfl) wX13_digits q227 (inv_V (k := 11) (dX13_type_2 36 rfl rfl) q3344 q3346 qs61 wX13_digits (by decide) lX13_digits (by decide) s8.1) (exN (by decide)) rfl ?_
      refine C.mono hf (fun _ _ => KV.g (fun h18 hf le19 => ?_))
      have k3 := leK le19 k3 (by decide)
      replace s2 := s2.le sc2 (le19)
      replace s8 := s8.le sc8 (le19)
      exact x_vret (dX13_type_2 37 rfl rfl) rfl hf
theorem bX13_type_2_79 (G : Gh) (d : Nat) (h : AH) (Q : Outcome → AH → Prop) (l1 : Int32) (l2 : Int32) (l3 : Nat) (t0 : Int32) (s8 : So 8 (gW G) h) (hf : (l2 ≤ 1 → ((t0 = 0 → (hK h l3 = 4 ∧ (((fI h l3 51) ≤ 1 → (X G mX13_type_2 (d + 1) none [] 233 [(0, .ref (gW G 8)), (3, .ref (l3)), (6, .int (0))] [] h Q)) ∧ (¬ ((fI h l3 51) ≤ 1) → (C G mX13_put d [.ref (gW G 8), .int (40)] h (KV Q (fun h6 => X G mX13_type_2 (d + 1) none [] 233 [(0, .ref (gW G 8)), (3, .ref (l3)), (6, .int (0))] [] h6 Q))))))) ∧ (¬ t0 = 0 → (X G mX13_type_2 (d + 1) none [] 109 [(0, .ref (gW G 8)), (1, .int (l1)), (3, .ref (l3)), (4, .int (t0)), (5, .int (0))] [] h Q)))) ∧ (¬ (l2 ≤ 1) → ((7 ≤ l2 → ((t0 = 0 → (hK h l3 = 4 ∧ (((fI h l3 51) ≤ 1 → (X G mX13_type_2 (d + 1) none [] 233 [(0, .ref (gW G 8)), (3, .ref (l3)), (6, .int (0))] [] h Q)) ∧ (¬ ((fI h l3 51) ≤ 1) → (C G mX13_put d [.ref (gW G 8), .int (40)] h (KV Q (fun h13 => X G mX13_type_2 (d + 1) none [] 233 [(0, .ref (gW G 8)), (3, .ref (l3)), (6, .int (0))] [] h13 Q))))))) ∧ (¬ t0 = 0 → (X G mX13_type_2 (d + 1) none [] 109 [(0, .ref (gW G 8)), (1, .int (l1)), (3, .ref (l3)), (4, .int (t0)), (5, .int (0))] [] h Q)))) ∧ (¬ (7 ≤ l2) → ((t0 = 0 → (X G mX13_type_2 (d + 1) none [] 109 [(0, .ref (gW G 8)), (1, .int (l1)), (3, .ref (l3)), (4, .int (t0)), (5, .int (1))] [] h Q)) ∧ (¬ t0 = 0 → (X G mX13_type_2 (d + 1) none [] 109 [(0, .ref (gW G 8)), (1, .int (l1)), (3, .ref (l3)), (4, .int (t0)), (5, .int (1))] [] h Q))))))) : X G mX13_type_2 (d + 1) none [] 79 [(0, .ref (gW G 8)), (1, .int (l1)), (2, .int (l2)), (3, .ref (l3))] [.int (t0)] h Q := by
  refine x_istore (pc' := 81) (dX13_type_2 48 rfl rfl) (by decide) rfl rfl ?_
  refine x_iload_n (pc' := 82) 3 (dX13_type_2 49 rfl rfl) rfl rfl rfl ?_
  refine x_iconst (pc' := 83) (v := 1) (dX13_type_2 50 rfl rfl) (by decide) rfl ?_
  refine x_icmp_le (pc' := 86) (tgt := 96) (dX13_type_2 51 rfl rfl) (by decide) rfl (fun c1 => ?_) (fun c1 => ?_)
  · replace hf := hf.1 c1
    refine x_iconst (pc' := 97) (v := 0) (dX13_type_2 57 rfl rfl) (by decide) rfl ?_
    refine x_istore (pc' := 99) (dX13_type_2 58 rfl rfl) (by decide) rfl rfl ?_
    refine x_iload (pc' := 101) 1 (dX13_type_2 59 rfl rfl) rfl rfl ?_
    refine x_if_ne (pc' := 104) (tgt := 109) (dX13_type_2 60 rfl rfl) (by decide) rfl (fun c2 => ?_) (fun c2 => ?_)
    · replace hf := hf.2 c2
      exact X.sub [2, 3, 5, 1, 0] rfl (by simp) hf
    · replace hf := hf.1 (Classical.not_not.mp c2)
      replace c2 := Classical.not_not.mp c2
      refine x_iload (pc' := 106) 0 (dX13_type_2 61 rfl rfl) rfl rfl ?_
      refine x_if_eq (pc' := 109) (tgt := 216) (dX13_type_2 62 rfl rfl) (by decide) rfl (fun c3 => ?_) (fun c3 => ?_)
      · refine x_aload_n (pc' := 217) 5 (dX13_type_2 114 rfl rfl) rfl rfl rfl ?_
        obtain ⟨k4, hf⟩ := hf
        refine x_getI (pc' := 220) (dX13_type_2 115 rfl rfl) g51 q445 (Or.inl rfl) rfl (hf_of 3 k4 rfl (by decide) m3_51) ?_
        refine x_iconst (pc' := 221) (v := 1) (dX13_type_2 116 rfl rfl) (by decide) rfl ?_
        refine x_icmp_le (pc' := 224) (tgt := 230) (dX13_type_2 117 rfl rfl) (by decide) rfl (fun c5 => ?_) (fun c5 => ?_)
        · replace hf := hf.1 c5
          refine x_iconst (pc' := 231) (v := 0) (dX13_type_2 121 rfl rfl) (by decide) rfl ?_
          refine x_istore (pc' := 233) (dX13_type_2 122 rfl rfl) (by decide) rfl rfl ?_
          exact X.sub [3, 6, 0] rfl (by simp) hf
        · replace hf := hf.2 c5
          refine x_aload_n (pc' := 225) 2 (dX13_type_2 118 rfl rfl) rfl rfl rfl ?_
          refine x_bipush (pc' := 227) (v := 40) (dX13_type_2 119 rfl rfl) (by decide) rfl ?_
          refine x_inv (pc' := 230) (ν := mX13_put) (av := [_, _]) (st := []) rfl rfl (dX13_type_2 120 rfl rfl) (Nat.le_of_ble_eq_true rfl) wX13_put q227 (inv_V (k := 11) (dX13_type_2 120 rfl rfl) q3340 q3342 qs60 wX13_put (by decide) lX13_put (by decide) s8.1) (exN (by decide)) rfl ?_
          refine C.mono hf (fun _ _ => KV.g (fun h6 hf le7 => ?_))
          have k4 := leK le7 k4 (by decide)
          replace s8 := s8.le sc8 (le7)
          refine x_iconst (pc' := 231) (v := 0) (dX13_type_2 121 rfl rfl) (by decide) rfl ?_
          refine x_istore (pc' := 233) (dX13_type_2 122 rfl rfl) (by decide) rfl rfl ?_
          exact X.sub [3, 6, 0] rfl (by simp) hf
      · exact absurd (by decide) c3
  · replace hf := hf.2 c1
    refine x_iload_n (pc' := 87) 3 (dX13_type_2 52 rfl rfl) rfl rfl rfl ?_
    refine x_bipush (pc' := 89) (v := 7) (dX13_type_2 53 rfl rfl) (by decide) rfl ?_
    refine x_icmp_ge (pc' := 92) (tgt := 96) (dX13_type_2 54 rfl rfl) (by decide) rfl (fun c8 => ?_) (fun c8 => ?_)
    · replace hf := hf.1 c8
      refine x_iconst (pc' := 97) (v := 0) (dX13_type_2 57 rfl rfl) (by decide) rfl ?_
      refine x_istore (pc' := 99) (dX13_type_2 58 rfl rfl) (by decide) rfl rfl ?_
      refine x_iload (pc' := 101) 1 (dX13_type_2 59 rfl rfl) rfl rfl ?_
      refine x_if_ne (pc' := 104) (tgt := 109) (dX13_type_2 60 rfl rfl) (by decide) rfl (fun c9 => ?_) (fun c9 => ?_)
      · replace hf := hf.2 c9
        exact X.sub [2, 3, 5, 1, 0] rfl (by simp) hf
      · replace hf := hf.1 (Classical.not_not.mp c9)
        replace c9 := Classical.not_not.mp c9
        refine x_iload (pc' := 106) 0 (dX13_type_2 61 rfl rfl) rfl rfl ?_
        refine x_if_eq (pc' := 109) (tgt := 216) (dX13_type_2 62 rfl rfl) (by decide) rfl (fun c10 => ?_) (fun c10 => ?_)
        · refine x_aload_n (pc' := 217) 5 (dX13_type_2 114 rfl rfl) rfl rfl rfl ?_
          obtain ⟨k11, hf⟩ := hf
          refine x_getI (pc' := 220) (dX13_type_2 115 rfl rfl) g51 q445 (Or.inl rfl) rfl (hf_of 3 k11 rfl (by decide) m3_51) ?_
          refine x_iconst (pc' := 221) (v := 1) (dX13_type_2 116 rfl rfl) (by decide) rfl ?_
          refine x_icmp_le (pc' := 224) (tgt := 230) (dX13_type_2 117 rfl rfl) (by decide) rfl (fun c12 => ?_) (fun c12 => ?_)
          · replace hf := hf.1 c12
            refine x_iconst (pc' := 231) (v := 0) (dX13_type_2 121 rfl rfl) (by decide) rfl ?_
            refine x_istore (pc' := 233) (dX13_type_2 122 rfl rfl) (by decide) rfl rfl ?_
            exact X.sub [3, 6, 0] rfl (by simp) hf
          · replace hf := hf.2 c12
            refine x_aload_n (pc' := 225) 2 (dX13_type_2 118 rfl rfl) rfl rfl rfl ?_
            refine x_bipush (pc' := 227) (v := 40) (dX13_type_2 119 rfl rfl) (by decide) rfl ?_
            refine x_inv (pc' := 230) (ν := mX13_put) (av := [_, _]) (st := []) rfl rfl (dX13_type_2 120 rfl rfl) (Nat.le_of_ble_eq_true rfl) wX13_put q227 (inv_V (k := 11) (dX13_type_2 120 rfl rfl) q3340 q3342 qs60 wX13_put (by decide) lX13_put (by decide) s8.1) (exN (by decide)) rfl ?_
            refine C.mono hf (fun _ _ => KV.g (fun h13 hf le14 => ?_))
            have k11 := leK le14 k11 (by decide)
            replace s8 := s8.le sc8 (le14)
            refine x_iconst (pc' := 231) (v := 0) (dX13_type_2 121 rfl rfl) (by decide) rfl ?_
            refine x_istore (pc' := 233) (dX13_type_2 122 rfl rfl) (by decide) rfl rfl ?_
            exact X.sub [3, 6, 0] rfl (by simp) hf
        · exact absurd (by decide) c10
    · replace hf := hf.2 c8
      refine x_iconst (pc' := 93) (v := 1) (dX13_type_2 55 rfl rfl) (by decide) rfl ?_
      refine x_goto (tgt := 97) (dX13_type_2 56 rfl rfl) (by decide) ?_
      refine x_istore (pc' := 99) (dX13_type_2 58 rfl rfl) (by decide) rfl rfl ?_
      refine x_iload (pc' := 101) 1 (dX13_type_2 59 rfl rfl) rfl rfl ?_
      refine x_if_ne (pc' := 104) (tgt := 109) (dX13_type_2 60 rfl rfl) (by decide) rfl (fun c15 => ?_) (fun c15 => ?_)
      · replace hf := hf.2 c15
        exact X.sub [2, 3, 5, 1, 0] rfl (by simp) hf
      · replace hf := hf.1 (Classical.not_not.mp c15)
        replace c15 := Classical.not_not.mp c15
        refine x_iload (pc' := 106) 0 (dX13_type_2 61 rfl rfl) rfl rfl ?_
        refine x_if_eq (pc' := 109) (tgt := 216) (dX13_type_2 62 rfl rfl) (by decide) rfl (fun c16 => ?_) (fun c16 => ?_)
        · exact absurd c16 (by decide)
        · exact X.sub [2, 3, 5, 1, 0] rfl (by simp) hf
theorem bX13_type_2_109 (G : Gh) (d : Nat) (h : AH) (Q : Outcome → AH → Prop) (l1 : Int32) (l3 : Nat) (l4 : Int32) (l5 : Int32) (s8 : So 8 (gW G) h) (hf : (l1 = 2 → (C G mX13_put d [.ref (gW G 8), .int (40)] h (KV Q (fun h3 => X G mX13_type_2 (d + 1) none [] 145 [(0, .ref (gW G 8)), (3, .ref (l3)), (4, .int (l4)), (5, .int (l5)), (6, .int (1)), (7, .int (0))] [] h3 Q)))) ∧ (¬ l1 = 2 → ((l1 = 1 → ((l4 = 0 → (X G mX13_type_2 (d + 1) none [] 145 [(0, .ref (gW G 8)), (3, .ref (l3)), (4, .int (l4)), (5, .int (l5)), (6, .int (0)), (7, .int (0))] [] h Q)) ∧ (¬ l4 = 0 → (C G mX13_put d [.ref (gW G 8), .int (40)] h (KV Q (fun h10 => X G mX13_type_2 (d + 1) none [] 145 [(0, .ref (gW G 8)), (3, .ref (l3)), (4, .int (l4)), (5, .int (l5)), (6, .int (1)), (7, .int (0))] [] h10 Q)))))) ∧ (¬ l1 = 1 → (X G mX13_type_2 (d + 1) none [] 145 [(0, .ref (gW G 8)), (3, .ref (l3)), (4, .int (l4)), (5, .int (l5)), (6, .int (0)), (7, .int (0))] [] h Q))))) : X G mX13_type_2 (d + 1) none [] 109 [(0, .ref (gW G 8)), (1, .int (l1)), (3, .ref (l3)), (4, .int (l4)), (5, .int (l5))] [] h Q := by
  refine x_iload_n (pc' := 110) 1 (dX13_type_2 63 rfl rfl) rfl rfl rfl ?_
  refine x_iconst (pc' := 111) (v := 2) (dX13_type_2 64 rfl rfl) (by decide) rfl ?_
  refine x_icmp_eq (pc' := 114) (tgt := 124) (dX13_type_2 65 rfl rfl) (by decide) rfl (fun c1 => ?_) (fun c1 => ?_)
  · replace hf := hf.1 c1
    refine x_iconst (pc' := 125) (v := 1) (dX13_type_2 71 rfl rfl) (by decide) rfl ?_
    refine x_goto (tgt := 129) (dX13_type_2 72 rfl rfl) (by decide) ?_
    refine x_istore (pc' := 131) (dX13_type_2 74 rfl rfl) (by decide) rfl rfl ?_
    refine x_iload (pc' := 133) 0 (dX13_type_2 75 rfl rfl) rfl rfl ?_
    refine x_if_eq (pc' := 136) (tgt := 142) (dX13_type_2 76 rfl rfl) (by decide) rfl (fun c2 => ?_) (fun c2 => ?_)
    · exact absurd c2 (by decide)
    · refine x_aload_n (pc' := 137) 1 (dX13_type_2 77 rfl rfl) rfl rfl rfl ?_
      refine x_bipush (pc' := 139) (v := 40) (dX13_type_2 78 rfl rfl) (by decide) rfl ?_
      refine x_inv (pc' := 142) (ν := mX13_put) (av := [_, _]) (st := []) rfl rfl (dX13_type_2 79 rfl rfl) (Nat.le_of_ble_eq_true rfl) wX13_put q227 (inv_V (k := 11) (dX13_type_2 79 rfl rfl) q3340 q3342 qs60 wX13_put (by decide) lX13_put (by decide) s8.1) (exN (by decide)) rfl ?_
      refine C.mono hf (fun _ _ => KV.g (fun h3 hf le4 => ?_))
      replace s8 := s8.le sc8 (le4)
      refine x_iconst (pc' := 143) (v := 0) (dX13_type_2 80 rfl rfl) (by decide) rfl ?_
      refine x_istore (pc' := 145) (dX13_type_2 81 rfl rfl) (by decide) rfl rfl ?_
      exact X.sub [2, 4, 5, 6, 1, 0] rfl (by simp) hf
  · replace hf := hf.2 c1
    refine x_iload_n (pc' := 115) 1 (dX13_type_2 66 rfl rfl) rfl rfl rfl ?_
    refine x_iconst (pc' := 116) (v := 1) (dX13_type_2 67 rfl rfl) (by decide) rfl ?_
    refine x_icmp_ne (pc' := 119) (tgt := 128) (dX13_type_2 68 rfl rfl) (by decide) rfl (fun c5 => ?_) (fun c5 => ?_)
    · replace hf := hf.2 c5
      refine x_iconst (pc' := 129) (v := 0) (dX13_type_2 73 rfl rfl) (by decide) rfl ?_
      refine x_istore (pc' := 131) (dX13_type_2 74 rfl rfl) (by decide) rfl rfl ?_
      refine x_iload (pc' := 133) 0 (dX13_type_2 75 rfl rfl) rfl rfl ?_
      refine x_if_eq (pc' := 136) (tgt := 142) (dX13_type_2 76 rfl rfl) (by decide) rfl (fun c6 => ?_) (fun c6 => ?_)
      · refine x_iconst (pc' := 143) (v := 0) (dX13_type_2 80 rfl rfl) (by decide) rfl ?_
        refine x_istore (pc' := 145) (dX13_type_2 81 rfl rfl) (by decide) rfl rfl ?_
        exact X.sub [2, 4, 5, 6, 1, 0] rfl (by simp) hf
      · exact absurd (by decide) c6
    · replace hf := hf.1 (Classical.not_not.mp c5)
      replace c5 := Classical.not_not.mp c5
      refine x_iload (pc' := 121) 3 (dX13_type_2 69 rfl rfl) rfl rfl ?_
      refine x_if_eq (pc' := 124) (tgt := 128) (dX13_type_2 70 rfl rfl) (by decide) rfl (fun c7 => ?_) (fun c7 => ?_)
      · replace hf := hf.1 c7
        refine x_iconst (pc' := 129) (v := 0) (dX13_type_2 73 rfl rfl) (by decide) rfl ?_
        refine x_istore (pc' := 131) (dX13_type_2 74 rfl rfl) (by decide) rfl rfl ?_
        refine x_iload (pc' := 133) 0 (dX13_type_2 75 rfl rfl) rfl rfl ?_
        refine x_if_eq (pc' := 136) (tgt := 142) (dX13_type_2 76 rfl rfl) (by decide) rfl (fun c8 => ?_) (fun c8 => ?_)
        · refine x_iconst (pc' := 143) (v := 0) (dX13_type_2 80 rfl rfl) (by decide) rfl ?_
          refine x_istore (pc' := 145) (dX13_type_2 81 rfl rfl) (by decide) rfl rfl ?_
          exact X.sub [2, 4, 5, 6, 1, 0] rfl (by simp) hf
        · exact absurd (by decide) c8
      · replace hf := hf.2 c7
        refine x_iconst (pc' := 125) (v := 1) (dX13_type_2 71 rfl rfl) (by decide) rfl ?_
        refine x_goto (tgt := 129) (dX13_type_2 72 rfl rfl) (by decide) ?_
        refine x_istore (pc' := 131) (dX13_type_2 74 rfl rfl) (by decide) rfl rfl ?_
        refine x_iload (pc' := 133) 0 (dX13_type_2 75 rfl rfl) rfl rfl ?_
        refine x_if_eq (pc' := 136) (tgt := 142) (dX13_type_2 76 rfl rfl) (by decide) rfl (fun c9 => ?_) (fun c9 => ?_)
        · exact absurd c9 (by decide)
        · refine x_aload_n (pc' := 137) 1 (dX13_type_2 77 rfl rfl) rfl rfl rfl ?_
          refine x_bipush (pc' := 139) (v := 40) (dX13_type_2 78 rfl rfl) (by decide) rfl ?_
          refine x_inv (pc' := 142) (ν := mX13_put) (av := [_, _]) (st := []) rfl rfl (dX13_type_2 79 rfl rfl) (Nat.le_of_ble_eq_true rfl) wX13_put q227 (inv_V (k := 11) (dX13_type_2 79 rfl rfl) q3340 q3342 qs60 wX13_put (by decide) lX13_put (by decide) s8.1) (exN (by decide)) rfl ?_
          refine C.mono hf (fun _ _ => KV.g (fun h10 hf le11 => ?_))
          replace s8 := s8.le sc8 (le11)
          refine x_iconst (pc' := 143) (v := 0) (dX13_type_2 80 rfl rfl) (by decide) rfl ?_
          refine x_istore (pc' := 145) (dX13_type_2 81 rfl rfl) (by decide) rfl rfl ?_
          exact X.sub [2, 4, 5, 6, 1, 0] rfl (by simp) hf
theorem bX13_type_2_145 (G : Gh) (d : Nat) (h : AH) (Q : Outcome → AH → Prop) (l3 : Nat) (l4 : Int32) (l5 : Int32) (l6 : Int32) (l7 : Int32) (s8 : So 8 (gW G) h) (hf : hK h l3 = 4 ∧ (((fI h l3 51) ≤ l7 → ((l6 = 0 → (Q (.returned none) h)) ∧ (¬ l6 = 0 → (C G mX13_put d [.ref (gW G 8), .int (41)] h (KV Q (fun h4 => Q (.returned none) h4)))))) ∧ (¬ ((fI h l3 51) ≤ l7) → ((l7 ≤ 0 → ((l5 = 0 → ((l7 = 0 → (C G mX13_type_2 d [.ref (gW G 8), .int (1)] h (KV Q (fun h12 => ∀ x14 : Int32, x14 = l7 + 1 → (X G mX13_type_2 (d + 1) none [] 145 [(0, .ref (gW G 8)), (3, .ref (l3)), (4, .int (l4)), (5, .int (l5)), (6, .int (l6)), (7, .int (x14))] [] h12 Q))))) ∧ (¬ l7 = 0 → (C G mX13_type_2 d [.ref (gW G 8), .int (0)] h (KV Q (fun h9 => ∀ x11 : Int32, x11 = l7 + 1 → (X G mX13_type_2 (d + 1) none [] 145 [(0, .ref (gW G 8)), (3, .ref (l3)), (4, .int (l4)), (5, .int (l5)), (6, .int (l6)), (7, .int (x11))] [] h9 Q))))))) ∧ (¬ l5 = 0 → (C G mX13_type_2 d [.ref (gW G 8), .int (2)] h (KV Q (fun h15 => ∀ x17 : Int32, x17 = l7 + 1 → (X G mX13_type_2 (d + 1) none [] 145 [(0, .ref (gW G 8)), (3, .ref (l3)), (4, .int (l4)), (5, .int (l5)), (6, .int (l6)), (7, .int (x17))] [] h15 Q))))))) ∧ (¬ (l7 ≤ 0) → ((l4 = 0 → (C G mX13_put_2 d [.ref (gW G 8), .ref (G.2.2.2.1 31)] h (KV Q (fun h19 => (l5 = 0 → ((l7 = 0 → (C G mX13_type_2 d [.ref (gW G 8), .int (1)] h19 (KV Q (fun h26 => ∀ x28 : Int32, x28 = l7 + 1 → (X G mX13_type_2 (d + 1) none [] 145 [(0, .ref (gW G 8)), (3, .ref (l3)), (4, .int (l4)), (5, .int (l5)), (6, .int (l6)), (7, .int (x28))] [] h26 Q))))) ∧ (¬ l7 = 0 → (C G mX13_type_2 d [.ref (gW G 8), .int (0)] h19 (KV Q (fun h23 => ∀ x25 : Int32, x25 = l7 + 1 → (X G mX13_type_2 (d + 1) none [] 145 [(0, .ref (gW G 8)), (3, .ref (l3)), (4, .int (l4)), (5, .int (l5)), (6, .int (l6)), (7, .int (x25))] [] h23 Q))))))) ∧ (¬ l5 = 0 → (C G mX13_type_2 d [.ref (gW G 8), .int (2)] h19 (KV Q (fun h29 => ∀ x31 : Int32, x31 = l7 + 1 → (X G mX13_type_2 (d + 1) none [] 145 [(0, .ref (gW G 8)), (3, .ref (l3)), (4, .int (l4)), (5, .int (l5)), (6, .int (l6)), (7, .int (x31))] [] h29 Q))))))))) ∧ (¬ l4 = 0 → (C G mX13_put_2 d [.ref (gW G 8), .ref (G.2.2.2.1 30)] h (KV Q (fun h32 => (l5 = 0 → ((l7 = 0 → (C G mX13_type_2 d [.ref (gW G 8), .int (1)] h32 (KV Q (fun h39 => ∀ x41 : Int32, x41 = l7 + 1 → (X G mX13_type_2 (d + 1) none [] 145 [(0, .ref (gW G 8)), (3, .ref (l3)), (4, .int (l4)), (5, .int (l5)), (6, .int (l6)), (7, .int (x41))] [] h39 Q))))) ∧ (¬ l7 = 0 → (C G mX13_type_2 d [.ref (gW G 8), .int (0)] h32 (KV Q (fun h36 => ∀ x38 : Int32, x38 = l7 + 1 → (X G mX13_type_2 (d + 1) none [] 145 [(0, .ref (gW G 8)), (3, .ref (l3)), (4, .int (l4)), (5, .int (l5)), (6, .int (l6)), (7, .int (x38))] [] h36 Q))))))) ∧ (¬ l5 = 0 → (C G mX13_type_2 d [.ref (gW G 8), .int (2)] h32 (KV Q (fun h42 => ∀ x44 : Int32, x44 = l7 + 1 → (X G mX13_type_2 (d + 1) none [] 145 [(0, .ref (gW G 8)), (3, .ref (l3)), (4, .int (l4)), (5, .int (l5)), (6, .int (l6)), (7, .int (x44))] [] h42 Q))))))))))))))) : X G mX13_type_2 (d + 1) none [] 145 [(0, .ref (gW G 8)), (3, .ref (l3)), (4, .int (l4)), (5, .int (l5)), (6, .int (l6)), (7, .int (l7))] [] h Q := by
  refine x_iload (pc' := 147) 5 (dX13_type_2 82 rfl rfl) rfl rfl ?_
  refine x_aload_n (pc' := 148) 1 (dX13_type_2 83 rfl rfl) rfl rfl rfl ?_
  obtain ⟨k1, hf⟩ := hf
  refine x_getI (pc' := 151) (dX13_type_2 84 rfl rfl) g51 q445 (Or.inl rfl) rfl (hf_of 3 k1 rfl (by decide) m3_51) ?_
  refine x_icmp_ge (pc' := 154) (tgt := 204) (dX13_type_2 85 rfl rfl) (by decide) rfl (fun c2 => ?_) (fun c2 => ?_)
  · replace hf := hf.1 c2
    refine x_iload (pc' := 206) 4 (dX13_type_2 108 rfl rfl) rfl rfl ?_
    refine x_if_eq (pc' := 209) (tgt := 215) (dX13_type_2 109 rfl rfl) (by decide) rfl (fun c3 => ?_) (fun c3 => ?_)
    · replace hf := hf.1 c3
      exact x_vret (dX13_type_2 113 rfl rfl) rfl hf
    · replace hf := hf.2 c3
      refine x_aload_n (pc' := 210) 0 (dX13_type_2 110 rfl rfl) rfl rfl rfl ?_
      refine x_bipush (pc' := 212) (v := 41) (dX13_type_2 111 rfl rfl) (by decide) rfl ?_
      refine x_inv (pc' := 215) (ν := mX13_put) (av := [_, _]) (st := []) rfl rfl (dX13_type_2 112 rfl rfl) (Nat.le_of_ble_eq_true rfl) wX13_put q227 (inv_V (k := 11) (dX13_type_2 112 rfl rfl) q3340 q3342 qs60 wX13_put (by decide) lX13_put (by decide) s8.1) (exN (by decide)) rfl ?_
      refine C.mono hf (fun _ _ => KV.g (fun h4 hf le5 => ?_))
      have k1 := leK le5 k1 (by decide)
      replace s8 := s8.le sc8 (le5)
      exact x_vret (dX13_type_2 113 rfl rfl) rfl hf
  · replace hf := hf.2 c2
    refine x_iload (pc' := 156) 5 (dX13_type_2 86 rfl rfl) rfl rfl ?_
    refine x_if_le (pc' := 159) (tgt := 175) (dX13_type_2 87 rfl rfl) (by decide) rfl (fun c6 => ?_) (fun c6 => ?_)
    · replace hf := hf.1 c6
      refine x_aload_n (pc' := 176) 0 (dX13_type_2 95 rfl rfl) rfl rfl rfl ?_
      refine x_iload (pc' := 178) 3 (dX13_type_2 96 rfl rfl) rfl rfl ?_
      refine x_if_eq (pc' := 181) (tgt := 185) (dX13_type_2 97 rfl rfl) (by decide) rfl (fun c7 => ?_) (fun c7 => ?_)
      · replace hf := hf.1 c7
        refine x_iload (pc' := 187) 5 (dX13_type_2 100 rfl rfl) rfl rfl ?_
        refine x_if_ne (pc' := 190) (tgt := 194) (dX13_type_2 101 rfl rfl) (by decide) rfl (fun c8 => ?_) (fun c8 => ?_)
        · replace hf := hf.2 c8
          refine x_iconst (pc' := 195) (v := 0) (dX13_type_2 104 rfl rfl) (by decide) rfl ?_
          refine x_inv (pc' := 198) (ν := mX13_type_2) (av := [_, _]) (st := []) rfl rfl (dX13_type_2 105 rfl rfl) (Nat.le_of_ble_eq_true rfl) wX13_type_2 q227 (inv_V (k := 11) (dX13_type_2 105 rfl rfl) q3336 q3338 qs59 wX13_type_2 (by decide) lX13_type_2 (by decide) s8.1) (exN (by decide)) rfl ?_
          refine C.mono hf (fun _ _ => KV.g (fun h9 hf le10 => ?_))
          have k1 := leK le10 k1 (by decide)
          replace s8 := s8.le sc8 (le10)
          replace hf := hf _ rfl
          refine x_iinc (pc' := 201) 5 (dX13_type_2 106 rfl rfl) rfl (by rfl) (by decide) rfl rfl ?_
          refine x_goto (tgt := 145) (dX13_type_2 107 rfl rfl) (by decide) ?_
          exact X.sub [1, 2, 3, 4, 5, 0] rfl (by simp) hf
        · replace hf := hf.1 (Classical.not_not.mp c8)
          replace c8 := Classical.not_not.mp c8
          refine x_iconst (pc' := 191) (v := 1) (dX13_type_2 102 rfl rfl) (by decide) rfl ?_
          refine x_goto (tgt := 195) (dX13_type_2 103 rfl rfl) (by decide) ?_
          refine x_inv (pc' := 198) (ν := mX13_type_2) (av := [_, _]) (st := []) rfl rfl (dX13_type_2 105 rfl rfl) (Nat.le_of_ble_eq_true rfl) wX13_type_2 q227 (inv_V (k := 11) (dX13_type_2 105 rfl rfl) q3336 q3338 qs59 wX13_type_2 (by decide) lX13_type_2 (by decide) s8.1) (exN (by decide)) rfl ?_
          refine C.mono hf (fun _ _ => KV.g (fun h12 hf le13 => ?_))
          have k1 := leK le13 k1 (by decide)
          replace s8 := s8.le sc8 (le13)
          replace hf := hf _ rfl
          refine x_iinc (pc' := 201) 5 (dX13_type_2 106 rfl rfl) rfl (by rfl) (by decide) rfl rfl ?_
          refine x_goto (tgt := 145) (dX13_type_2 107 rfl rfl) (by decide) ?_
          exact X.sub [1, 2, 3, 4, 5, 0] rfl (by simp) hf
      · replace hf := hf.2 c7
        refine x_iconst (pc' := 182) (v := 2) (dX13_type_2 98 rfl rfl) (by decide) rfl ?_
        refine x_goto (tgt := 195) (dX13_type_2 99 rfl rfl) (by decide) ?_
        refine x_inv (pc' := 198) (ν := mX13_type_2) (av := [_, _]) (st := []) rfl rfl (dX13_type_2 105 rfl rfl) (Nat.le_of_ble_eq_true rfl) wX13_type_2 q227 (inv_V (k := 11) (dX13_type_2 105 rfl rfl) q3336 q3338 qs59 wX13_type_2 (by decide) lX13_type_2 (by decide) s8.1) (exN (by decide)) rfl ?_
        refine C.mono hf (fun _ _ => KV.g (fun h15 hf le16 => ?_))
        have k1 := leK le16 k1 (by decide)
        replace s8 := s8.le sc8 (le16)
        replace hf := hf _ rfl
        refine x_iinc (pc' := 201) 5 (dX13_type_2 106 rfl rfl) rfl (by rfl) (by decide) rfl rfl ?_
        refine x_goto (tgt := 145) (dX13_type_2 107 rfl rfl) (by decide) ?_
        exact X.sub [1, 2, 3, 4, 5, 0] rfl (by simp) hf
    · replace hf := hf.2 c6
      refine x_aload_n (pc' := 160) 0 (dX13_type_2 88 rfl rfl) rfl rfl rfl ?_
      refine x_iload (pc' := 162) 2 (dX13_type_2 89 rfl rfl) rfl rfl ?_
      refine x_if_eq (pc' := 165) (tgt := 170) (dX13_type_2 90 rfl rfl) (by decide) rfl (fun c18 => ?_) (fun c18 => ?_)
      · replace hf := hf.1 c18
        refine x_ldcS (pc' := 172) (tx := " * ") (i := 31) (dX13_type_2 93 rfl rfl) (List.mem_of_getElem? (i := 32) rfl) rfl ?_
        refine x_inv (pc' := 175) (ν := mX13_put_2) (av := [_, _]) (st := []) rfl rfl (dX13_type_2 94 rfl rfl) (Nat.le_of_ble_eq_true rfl) wX13_put_2 q227 (inv_V (k := 11) (dX13_type_2 94 rfl rfl) q3354 q3356 qs62 wX13_put_2 (by decide) lX13_put_2 (by decide) s8.1) (exN (by decide)) rfl ?_
        refine C.mono hf (fun _ _ => KV.g (fun h19 hf le20 => ?_))
        have k1 := leK le20 k1 (by decide)
        replace s8 := s8.le sc8 (le20)
        refine x_aload_n (pc' := 176) 0 (dX13_type_2 95 rfl rfl) rfl rfl rfl ?_
        refine x_iload (pc' := 178) 3 (dX13_type_2 96 rfl rfl) rfl rfl ?_
        refine x_if_eq (pc' := 181) (tgt := 185) (dX13_type_2 97 rfl rfl) (by decide) rfl (fun c21 => ?_) (fun c21 => ?_)
        · replace hf := hf.1 c21
          refine x_iload (pc' := 187) 5 (dX13_type_2 100 rfl rfl) rfl rfl ?_
          refine x_if_ne (pc' := 190) (tgt := 194) (dX13_type_2 101 rfl rfl) (by decide) rfl (fun c22 => ?_) (fun c22 => ?_)
          · replace hf := hf.2 c22
            refine x_iconst (pc' := 195) (v := 0) (dX13_type_2 104 rfl rfl) (by decide) rfl ?_
            refine x_inv (pc' := 198) (ν := mX13_type_2) (av := [_, _]) (st := []) rfl rfl (dX13_type_2 105 rfl rfl) (Nat.le_of_ble_eq_true rfl) wX13_type_2 q227 (inv_V (k := 11) (dX13_type_2 105 rfl rfl) q3336 q3338 qs59 wX13_type_2 (by decide) lX13_type_2 (by decide) s8.1) (exN (by decide)) rfl ?_
            refine C.mono hf (fun _ _ => KV.g (fun h23 hf le24 => ?_))
            have k1 := leK le24 k1 (by decide)
            replace s8 := s8.le sc8 (le24)
            replace hf := hf _ rfl
            refine x_iinc (pc' := 201) 5 (dX13_type_2 106 rfl rfl) rfl (by rfl) (by decide) rfl rfl ?_
            refine x_goto (tgt := 145) (dX13_type_2 107 rfl rfl) (by decide) ?_
            exact X.sub [1, 2, 3, 4, 5, 0] rfl (by simp) hf
          · replace hf := hf.1 (Classical.not_not.mp c22)
            replace c22 := Classical.not_not.mp c22
            refine x_iconst (pc' := 191) (v := 1) (dX13_type_2 102 rfl rfl) (by decide) rfl ?_
            refine x_goto (tgt := 195) (dX13_type_2 103 rfl rfl) (by decide) ?_
            refine x_inv (pc' := 198) (ν := mX13_type_2) (av := [_, _]) (st := []) rfl rfl (dX13_type_2 105 rfl rfl) (Nat.le_of_ble_eq_true rfl) wX13_type_2 q227 (inv_V (k := 11) (dX13_type_2 105 rfl rfl) q3336 q3338 qs59 wX13_type_2 (by decide) lX13_type_2 (by decide) s8.1) (exN (by decide)) rfl ?_
            refine C.mono hf (fun _ _ => KV.g (fun h26 hf le27 => ?_))
            have k1 := leK le27 k1 (by decide)
            replace s8 := s8.le sc8 (le27)
            replace hf := hf _ rfl
            refine x_iinc (pc' := 201) 5 (dX13_type_2 106 rfl rfl) rfl (by rfl) (by decide) rfl rfl ?_
            refine x_goto (tgt := 145) (dX13_type_2 107 rfl rfl) (by decide) ?_
            exact X.sub [1, 2, 3, 4, 5, 0] rfl (by simp) hf
        · replace hf := hf.2 c21
          refine x_iconst (pc' := 182) (v := 2) (dX13_type_2 98 rfl rfl) (by decide) rfl ?_
          refine x_goto (tgt := 195) (dX13_type_2 99 rfl rfl) (by decide) ?_
          refine x_inv (pc' := 198) (ν := mX13_type_2) (av := [_, _]) (st := []) rfl rfl (dX13_type_2 105 rfl rfl) (Nat.le_of_ble_eq_true rfl) wX13_type_2 q227 (inv_V (k := 11) (dX13_type_2 105 rfl rfl) q3336 q3338 qs59 wX13_type_2 (by decide) lX13_type_2 (by decide) s8.1) (exN (by decide)) rfl ?_
          refine C.mono hf (fun _ _ => KV.g (fun h29 hf le30 => ?_))
          have k1 := leK le30 k1 (by decide)
          replace s8 := s8.le sc8 (le30)
          replace hf := hf _ rfl
          refine x_iinc (pc' := 201) 5 (dX13_type_2 106 rfl rfl) rfl (by rfl) (by decide) rfl rfl ?_
          refine x_goto (tgt := 145) (dX13_type_2 107 rfl rfl) (by decide) ?_
          exact X.sub [1, 2, 3, 4, 5, 0] rfl (by simp) hf
      · replace hf := hf.2 c18
        refine x_ldcS (pc' := 167) (tx := " -> ") (i := 30) (dX13_type_2 91 rfl rfl) (List.mem_of_getElem? (i := 31) rfl) rfl ?_
        refine x_goto (tgt := 172) (dX13_type_2 92 rfl rfl) (by decide) ?_
        refine x_inv (pc' := 175) (ν := mX13_put_2) (av := [_, _]) (st := []) rfl rfl (dX13_type_2 94 rfl rfl) (Nat.le_of_ble_eq_true rfl) wX13_put_2 q227 (inv_V (k := 11) (dX13_type_2 94 rfl rfl) q3354 q3356 qs62 wX13_put_2 (by decide) lX13_put_2 (by decide) s8.1) (exN (by decide)) rfl ?_
        refine C.mono hf (fun _ _ => KV.g (fun h32 hf le33 => ?_))
        have k1 := leK le33 k1 (by decide)
        replace s8 := s8.le sc8 (le33)
        refine x_aload_n (pc' := 176) 0 (dX13_type_2 95 rfl rfl) rfl rfl rfl ?_
        refine x_iload (pc' := 178) 3 (dX13_type_2 96 rfl rfl) rfl rfl ?_
        refine x_if_eq (pc' := 181) (tgt := 185) (dX13_type_2 97 rfl rfl) (by decide) rfl (fun c34 => ?_) (fun c34 => ?_)
        · replace hf := hf.1 c34
          refine x_iload (pc' := 187) 5 (dX13_type_2 100 rfl rfl) rfl rfl ?_
          refine x_if_ne (pc' := 190) (tgt := 194) (dX13_type_2 101 rfl rfl) (by decide) rfl (fun c35 => ?_) (fun c35 => ?_)
          · replace hf := hf.2 c35
            refine x_iconst (pc' := 195) (v := 0) (dX13_type_2 104 rfl rfl) (by decide) rfl ?_
            refine x_inv (pc' := 198) (ν := mX13_type_2) (av := [_, _]) (st := []) rfl rfl (dX13_type_2 105 rfl rfl) (Nat.le_of_ble_eq_true rfl) wX13_type_2 q227 (inv_V (k := 11) (dX13_type_2 105 rfl rfl) q3336 q3338 qs59 wX13_type_2 (by decide) lX13_type_2 (by decide) s8.1) (exN (by decide)) rfl ?_
            refine C.mono hf (fun _ _ => KV.g (fun h36 hf le37 => ?_))
            have k1 := leK le37 k1 (by decide)
            replace s8 := s8.le sc8 (le37)
            replace hf := hf _ rfl
            refine x_iinc (pc' := 201) 5 (dX13_type_2 106 rfl rfl) rfl (by rfl) (by decide) rfl rfl ?_
            refine x_goto (tgt := 145) (dX13_type_2 107 rfl rfl) (by decide) ?_
            exact X.sub [1, 2, 3, 4, 5, 0] rfl (by simp) hf
          · replace hf := hf.1 (Classical.not_not.mp c35)
            replace c35 := Classical.not_not.mp c35
            refine x_iconst (pc' := 191) (v := 1) (dX13_type_2 102 rfl rfl) (by decide) rfl ?_
            refine x_goto (tgt := 195) (dX13_type_2 103 rfl rfl) (by decide) ?_
            refine x_inv (pc' := 198) (ν := mX13_type_2) (av := [_, _]) (st := []) rfl rfl (dX13_type_2 105 rfl rfl) (Nat.le_of_ble_eq_true rfl) wX13_type_2 q227 (inv_V (k := 11) (dX13_type_2 105 rfl rfl) q3336 q3338 qs59 wX13_type_2 (by decide) lX13_type_2 (by decide) s8.1) (exN (by decide)) rfl ?_
            refine C.mono hf (fun _ _ => KV.g (fun h39 hf le40 => ?_))
            have k1 := leK le40 k1 (by decide)
            replace s8 := s8.le sc8 (le40)
            replace hf := hf _ rfl
            refine x_iinc (pc' := 201) 5 (dX13_type_2 106 rfl rfl) rfl (by rfl) (by decide) rfl rfl ?_
            refine x_goto (tgt := 145) (dX13_type_2 107 rfl rfl) (by decide) ?_
            exact X.sub [1, 2, 3, 4, 5, 0] rfl (by simp) hf
        · replace hf := hf.2 c34
          refine x_iconst (pc' := 182) (v := 2) (dX13_type_2 98 rfl rfl) (by decide) rfl ?_
          refine x_goto (tgt := 195) (dX13_type_2 99 rfl rfl) (by decide) ?_
          refine x_inv (pc' := 198) (ν := mX13_type_2) (av := [_, _]) (st := []) rfl rfl (dX13_type_2 105 rfl rfl) (Nat.le_of_ble_eq_true rfl) wX13_type_2 q227 (inv_V (k := 11) (dX13_type_2 105 rfl rfl) q3336 q3338 qs59 wX13_type_2 (by decide) lX13_type_2 (by decide) s8.1) (exN (by decide)) rfl ?_
          refine C.mono hf (fun _ _ => KV.g (fun h42 hf le43 => ?_))
          have k1 := leK le43 k1 (by decide)
          replace s8 := s8.le sc8 (le43)
          replace hf := hf _ rfl
          refine x_iinc (pc' := 201) 5 (dX13_type_2 106 rfl rfl) rfl (by rfl) (by decide) rfl rfl ?_
          refine x_goto (tgt := 145) (dX13_type_2 107 rfl rfl) (by decide) ?_
          exact X.sub [1, 2, 3, 4, 5, 0] rfl (by simp) hf
theorem bX13_type_2_233 (G : Gh) (d : Nat) (h : AH) (Q : Outcome → AH → Prop) (l3 : Nat) (l6 : Int32) (s8 : So 8 (gW G) h) (hf : hK h l3 = 4 ∧ (((fI h l3 51) ≤ l6 → (((fI h l3 51) ≤ 1 → (((fI h l3 51) ≤ 0 → (C G mX13_name d [.ref (gW G 8), .long (fJ h l3 49), .long (fJ h l3 50)] h (KV Q (fun h5 => Q (.returned none) h5)))) ∧ (¬ ((fI h l3 51) ≤ 0) → (C G mX13_put d [.ref (gW G 8), .int (32)] h (KV Q (fun h7 => C G mX13_name d [.ref (gW G 8), .long (fJ h7 l3 49), .long (fJ h7 l3 50)] h7 (KV Q (fun h9 => Q (.returned none) h9)))))))) ∧ (¬ ((fI h l3 51) ≤ 1) → (C G mX13_put d [.ref (gW G 8), .int (41)] h (KV Q (fun h11 => ((fI h11 l3 51) ≤ 0 → (C G mX13_name d [.ref (gW G 8), .long (fJ h11 l3 49), .long (fJ h11 l3 50)] h11 (KV Q (fun h14 => Q (.returned none) h14)))) ∧ (¬ ((fI h11 l3 51) ≤ 0) → (C G mX13_put d [.ref (gW G 8), .int (32)] h11 (KV Q (fun h16 => C G mX13_name d [.ref (gW G 8), .long (fJ h16 l3 49), .long (fJ h16 l3 50)] h16 (KV Q (fun h18 => Q (.returned none) h18)))))))))))) ∧ (¬ ((fI h l3 51) ≤ l6) → ((l6 ≤ 0 → (((fI h l3 51) ≤ 1 → (C G mX13_type_2 d [.ref (gW G 8), .int (2)] h (KV Q (fun h22 => ∀ x24 : Int32, x24 = l6 + 1 → (X G mX13_type_2 (d + 1) none [] 233 [(0, .ref (gW G 8)), (3, .ref (l3)), (6, .int (x24))] [] h22 Q))))) ∧ (¬ ((fI h l3 51) ≤ 1) → (C G mX13_type_2 d [.ref (gW G 8), .int (0)] h (KV Q (fun h25 => ∀ x27 : Int32, x27 = l6 + 1 → (X G mX13_type_2 (d + 1) none [] 233 [(0, .ref (gW G 8)), (3, .ref (l3)), (6, .int (x27))] [] h25 Q))))))) ∧ (¬ (l6 ≤ 0) → (C G mX13_put_2 d [.ref (gW G 8), .ref (G.2.2.2.1 32)] h (KV Q (fun h28 => ((fI h28 l3 51) ≤ 1 → (C G mX13_type_2 d [.ref (gW G 8), .int (2)] h28 (KV Q (fun h31 => ∀ x33 : Int32, x33 = l6 + 1 → (X G mX13_type_2 (d + 1) none [] 233 [(0, .ref (gW G 8)), (3, .ref (l3)), (6, .int (x33))] [] h31 Q))))) ∧ (¬ ((fI h28 l3 51) ≤ 1) → (C G mX13_type_2 d [.ref (gW G 8), .int (0)] h28 (KV Q (fun h34 => ∀ x36 : Int32, x36 = l6 + 1 → (X G mX13_type_2 (d + 1) none [] 233 [(0, .ref (gW G 8)), (3, .ref (l3)), (6, .int (x36))] [] h34 Q))))))))))))) : X G mX13_type_2 (d + 1) none [] 233 [(0, .ref (gW G 8)), (3, .ref (l3)), (6, .int (l6))] [] h Q := by
  refine x_iload (pc' := 235) 2 (dX13_type_2 123 rfl rfl) rfl rfl ?_
  refine x_aload_n (pc' := 236) 1 (dX13_type_2 124 rfl rfl) rfl rfl rfl ?_
  obtain ⟨k1, hf⟩ := hf
  refine x_getI (pc' := 239) (dX13_type_2 125 rfl rfl) g51 q445 (Or.inl rfl) rfl (hf_of 3 k1 rfl (by decide) m3_51) ?_
  refine x_icmp_ge (pc' := 242) (tgt := 276) (dX13_type_2 126 rfl rfl) (by decide) rfl (fun c2 => ?_) (fun c2 => ?_)
  · replace hf := hf.1 c2
    refine x_aload_n (pc' := 277) 1 (dX13_type_2 143 rfl rfl) rfl rfl rfl ?_
    refine x_getI (pc' := 280) (dX13_type_2 144 rfl rfl) g51 q445 (Or.inl rfl) rfl (hf_of 3 k1 rfl (by decide) m3_51) ?_
    refine x_iconst (pc' := 281) (v := 1) (dX13_type_2 145 rfl rfl) (by decide) rfl ?_
    refine x_icmp_le (pc' := 284) (tgt := 290) (dX13_type_2 146 rfl rfl) (by decide) rfl (fun c3 => ?_) (fun c3 => ?_)
    · replace hf := hf.1 c3
      refine x_aload_n (pc' := 291) 1 (dX13_type_2 150 rfl rfl) rfl rfl rfl ?_
      refine x_getI (pc' := 294) (dX13_type_2 151 rfl rfl) g51 q445 (Or.inl rfl) rfl (hf_of 3 k1 rfl (by decide) m3_51) ?_
      refine x_if_le (pc' := 297) (tgt := 303) (dX13_type_2 152 rfl rfl) (by decide) rfl (fun c4 => ?_) (fun c4 => ?_)
      · replace hf := hf.1 c4
        refine x_aload_n (pc' := 304) 0 (dX13_type_2 156 rfl rfl) rfl rfl rfl ?_
        refine x_aload_n (pc' := 305) 1 (dX13_type_2 157 rfl rfl) rfl rfl rfl ?_
        refine x_getJ (pc' := 308) (dX13_type_2 158 rfl rfl) g49 q438 (Or.inl rfl) rfl (hf_of 3 k1 rfl (by decide) m3_49) ?_
        refine x_aload_n (pc' := 309) 1 (dX13_type_2 159 rfl rfl) rfl rfl rfl ?_
        refine x_getJ (pc' := 312) (dX13_type_2 160 rfl rfl) g50 q441 (Or.inl rfl) rfl (hf_of 3 k1 rfl (by decide) m3_50) ?_
        refine x_inv (pc' := 315) (ν := mX13_name) (av := [_, _, _]) (st := []) rfl rfl (dX13_type_2 161 rfl rfl) (Nat.le_of_ble_eq_true rfl) wX13_name q227 (inv_V (k := 11) (dX13_type_2 161 rfl rfl) q3361 q3363 qs63 wX13_name (by decide) lX13_name (by decide) s8.1) (exN (by decide)) rfl ?_
        refine C.mono hf (fun _ _ => KV.g (fun h5 hf le6 => ?_))
        have k1 := leK le6 k1 (by decide)
        replace s8 := s8.le sc8 (le6)
        exact x_vret (dX13_type_2 162 rfl rfl) rfl hf
      · replace hf := hf.2 c4
        refine x_aload_n (pc' := 298) 0 (dX13_type_2 153 rfl rfl) rfl rfl rfl ?_
        refine x_bipush (pc' := 300) (v := 32) (dX13_type_2 154 rfl rfl) (by decide) rfl ?_
        refine x_inv (pc' := 303) (ν := mX13_put) (av := [_, _]) (st := []) rfl rfl (dX13_type_2 155 rfl rfl) (Nat.le_of_ble_eq_true rfl) wX13_put q227 (inv_V (k := 11) (dX13_type_2 155 rfl rfl) q3340 q3342 qs60 wX13_put (by decide) lX13_put (by decide) s8.1) (exN (by decide)) rfl ?_
        refine C.mono hf (fun _ _ => KV.g (fun h7 hf le8 => ?_))
        have k1 := leK le8 k1 (by decide)
        replace s8 := s8.le sc8 (le8)
        refine x_aload_n (pc' := 304) 0 (dX13_type_2 156 rfl rfl) rfl rfl rfl ?_
        refine x_aload_n (pc' := 305) 1 (dX13_type_2 157 rfl rfl) rfl rfl rfl ?_
        refine x_getJ (pc' := 308) (dX13_type_2 158 rfl rfl) g49 q438 (Or.inl rfl) rfl (hf_of 3 k1 rfl (by decide) m3_49) ?_
        refine x_aload_n (pc' := 309) 1 (dX13_type_2 159 rfl rfl) rfl rfl rfl ?_
        refine x_getJ (pc' := 312) (dX13_type_2 160 rfl rfl) g50 q441 (Or.inl rfl) rfl (hf_of 3 k1 rfl (by decide) m3_50) ?_
        refine x_inv (pc' := 315) (ν := mX13_name) (av := [_, _, _]) (st := []) rfl rfl (dX13_type_2 161 rfl rfl) (Nat.le_of_ble_eq_true rfl) wX13_name q227 (inv_V (k := 11) (dX13_type_2 161 rfl rfl) q3361 q3363 qs63 wX13_name (by decide) lX13_name (by decide) s8.1) (exN (by decide)) rfl ?_
        refine C.mono hf (fun _ _ => KV.g (fun h9 hf le10 => ?_))
        have k1 := leK le10 k1 (by decide)
        replace s8 := s8.le sc8 (le10)
        exact x_vret (dX13_type_2 162 rfl rfl) rfl hf
    · replace hf := hf.2 c3
      refine x_aload_n (pc' := 285) 0 (dX13_type_2 147 rfl rfl) rfl rfl rfl ?_
      refine x_bipush (pc' := 287) (v := 41) (dX13_type_2 148 rfl rfl) (by decide) rfl ?_
      refine x_inv (pc' := 290) (ν := mX13_put) (av := [_, _]) (st := []) rfl rfl (dX13_type_2 149 rfl rfl) (Nat.le_of_ble_eq_true rfl) wX13_put q227 (inv_V (k := 11) (dX13_type_2 149 rfl rfl) q3340 q3342 qs60 wX13_put (by decide) lX13_put (by decide) s8.1) (exN (by decide)) rfl ?_
      refine C.mono hf (fun _ _ => KV.g (fun h11 hf le12 => ?_))
      have k1 := leK le12 k1 (by decide)
      replace s8 := s8.le sc8 (le12)
      refine x_aload_n (pc' := 291) 1 (dX13_type_2 150 rfl rfl) rfl rfl rfl ?_
      refine x_getI (pc' := 294) (dX13_type_2 151 rfl rfl) g51 q445 (Or.inl rfl) rfl (hf_of 3 k1 rfl (by decide) m3_51) ?_
      refine x_if_le (pc' := 297) (tgt := 303) (dX13_type_2 152 rfl rfl) (by decide) rfl (fun c13 => ?_) (fun c13 => ?_)
      · replace hf := hf.1 c13
        refine x_aload_n (pc' := 304) 0 (dX13_type_2 156 rfl rfl) rfl rfl rfl ?_
        refine x_aload_n (pc' := 305) 1 (dX13_type_2 157 rfl rfl) rfl rfl rfl ?_
        refine x_getJ (pc' := 308) (dX13_type_2 158 rfl rfl) g49 q438 (Or.inl rfl) rfl (hf_of 3 k1 rfl (by decide) m3_49) ?_
        refine x_aload_n (pc' := 309) 1 (dX13_type_2 159 rfl rfl) rfl rfl rfl ?_
        refine x_getJ (pc' := 312) (dX13_type_2 160 rfl rfl) g50 q441 (Or.inl rfl) rfl (hf_of 3 k1 rfl (by decide) m3_50) ?_
        refine x_inv (pc' := 315) (ν := mX13_name) (av := [_, _, _]) (st := []) rfl rfl (dX13_type_2 161 rfl rfl) (Nat.le_of_ble_eq_true rfl) wX13_name q227 (inv_V (k := 11) (dX13_type_2 161 rfl rfl) q3361 q3363 qs63 wX13_name (by decide) lX13_name (by decide) s8.1) (exN (by decide)) rfl ?_
        refine C.mono hf (fun _ _ => KV.g (fun h14 hf le15 => ?_))
        have k1 := leK le15 k1 (by decide)
        replace s8 := s8.le sc8 (le15)
        exact x_vret (dX13_type_2 162 rfl rfl) rfl hf
      · replace hf := hf.2 c13
        refine x_aload_n (pc' := 298) 0 (dX13_type_2 153 rfl rfl) rfl rfl rfl ?_
        refine x_bipush (pc' := 300) (v := 32) (dX13_type_2 154 rfl rfl) (by decide) rfl ?_
        refine x_inv (pc' := 303) (ν := mX13_put) (av := [_, _]) (st := []) rfl rfl (dX13_type_2 155 rfl rfl) (Nat.le_of_ble_eq_true rfl) wX13_put q227 (inv_V (k := 11) (dX13_type_2 155 rfl rfl) q3340 q3342 qs60 wX13_put (by decide) lX13_put (by decide) s8.1) (exN (by decide)) rfl ?_
        refine C.mono hf (fun _ _ => KV.g (fun h16 hf le17 => ?_))
        have k1 := leK le17 k1 (by decide)
        replace s8 := s8.le sc8 (le17)
        refine x_aload_n (pc' := 304) 0 (dX13_type_2 156 rfl rfl) rfl rfl rfl ?_
        refine x_aload_n (pc' := 305) 1 (dX13_type_2 157 rfl rfl) rfl rfl rfl ?_
        refine x_getJ (pc' := 308) (dX13_type_2 158 rfl rfl) g49 q438 (Or.inl rfl) rfl (hf_of 3 k1 rfl (by decide) m3_49) ?_
        refine x_aload_n (pc' := 309) 1 (dX13_type_2 159 rfl rfl) rfl rfl rfl ?_
        refine x_getJ (pc' := 312) (dX13_type_2 160 rfl rfl) g50 q441 (Or.inl rfl) rfl (hf_of 3 k1 rfl (by decide) m3_50) ?_
        refine x_inv (pc' := 315) (ν := mX13_name) (av := [_, _, _]) (st := []) rfl rfl (dX13_type_2 161 rfl rfl) (Nat.le_of_ble_eq_true rfl) wX13_name q227 (inv_V (k := 11) (dX13_type_2 161 rfl rfl) q3361 q3363 qs63 wX13_name (by decide) lX13_name (by decide) s8.1) (exN (by decide)) rfl ?_
        refine C.mono hf (fun _ _ => KV.g (fun h18 hf le19 => ?_))
        have k1 := leK le19 k1 (by decide)
        replace s8 := s8.le sc8 (le19)
        exact x_vret (dX13_type_2 162 rfl rfl) rfl hf
  · replace hf := hf.2 c2
    refine x_iload (pc' := 244) 2 (dX13_type_2 127 rfl rfl) rfl rfl ?_
    refine x_if_le (pc' := 247) (tgt := 253) (dX13_type_2 128 rfl rfl) (by decide) rfl (fun c20 => ?_) (fun c20 => ?_)
    · replace hf := hf.1 c20
      refine x_aload_n (pc' := 254) 0 (dX13_type_2 132 rfl rfl) rfl rfl rfl ?_
      refine x_aload_n (pc' := 255) 1 (dX13_type_2 133 rfl rfl) rfl rfl rfl ?_
      refine x_getI (pc' := 258) (dX13_type_2 134 rfl rfl) g51 q445 (Or.inl rfl) rfl (hf_of 3 k1 rfl (by decide) m3_51) ?_
      refine x_iconst (pc' := 259) (v := 1) (dX13_type_2 135 rfl rfl) (by decide) rfl ?_
      refine x_icmp_le (pc' := 262) (tgt := 266) (dX13_type_2 136 rfl rfl) (by decide) rfl (fun c21 => ?_) (fun c21 => ?_)
      · replace hf := hf.1 c21
        refine x_iconst (pc' := 267) (v := 2) (dX13_type_2 139 rfl rfl) (by decide) rfl ?_
        refine x_inv (pc' := 270) (ν := mX13_type_2) (av := [_, _]) (st := []) rfl rfl (dX13_type_2 140 rfl rfl) (Nat.le_of_ble_eq_true rfl) wX13_type_2 q227 (inv_V (k := 11) (dX13_type_2 140 rfl rfl) q3336 q3338 qs59 wX13_type_2 (by decide) lX13_type_2 (by decide) s8.1) (exN (by decide)) rfl ?_
        refine C.mono hf (fun _ _ => KV.g (fun h22 hf le23 => ?_))
        have k1 := leK le23 k1 (by decide)
        replace s8 := s8.le sc8 (le23)
        replace hf := hf _ rfl
        refine x_iinc (pc' := 273) 2 (dX13_type_2 141 rfl rfl) rfl (by rfl) (by decide) rfl rfl ?_
        refine x_goto (tgt := 233) (dX13_type_2 142 rfl rfl) (by decide) ?_
        exact X.sub [1, 2, 0] rfl (by simp) hf
      · replace hf := hf.2 c21
        refine x_iconst (pc' := 263) (v := 0) (dX13_type_2 137 rfl rfl) (by decide) rfl ?_
        refine x_goto (tgt := 267) (dX13_type_2 138 rfl rfl) (by decide) ?_
        refine x_inv (pc' := 270) (ν := mX13_type_2) (av := [_, _]) (st := []) rfl rfl (dX13_type_2 140 rfl rfl) (Nat.le_of_ble_eq_true rfl) wX13_type_2 q227 (inv_V (k := 11) (dX13_type_2 140 rfl rfl) q3336 q3338 qs59 wX13_type_2 (by decide) lX13_type_2 (by decide) s8.1) (exN (by decide)) rfl ?_
        refine C.mono hf (fun _ _ => KV.g (fun h25 hf le26 => ?_))
        have k1 := leK le26 k1 (by decide)
        replace s8 := s8.le sc8 (le26)
        replace hf := hf _ rfl
        refine x_iinc (pc' := 273) 2 (dX13_type_2 141 rfl rfl) rfl (by rfl) (by decide) rfl rfl ?_
        refine x_goto (tgt := 233) (dX13_type_2 142 rfl rfl) (by decide) ?_
        exact X.sub [1, 2, 0] rfl (by simp) hf
    · replace hf := hf.2 c20
      refine x_aload_n (pc' := 248) 0 (dX13_type_2 129 rfl rfl) rfl rfl rfl ?_
      refine x_ldcS (pc' := 250) (tx := ", ") (i := 32) (dX13_type_2 130 rfl rfl) (List.mem_of_getElem? (i := 33) rfl) rfl ?_
      refine x_inv (pc' := 253) (ν := mX13_put_2) (av := [_, _]) (st := []) rfl rfl (dX13_type_2 131 rfl rfl) (Nat.le_of_ble_eq_true rfl) wX13_put_2 q227 (inv_V (k := 11) (dX13_type_2 131 rfl rfl) q3354 q3356 qs62 wX13_put_2 (by decide) lX13_put_2 (by decide) s8.1) (exN (by decide)) rfl ?_
      refine C.mono hf (fun _ _ => KV.g (fun h28 hf le29 => ?_))
      have k1 := leK le29 k1 (by decide)
      replace s8 := s8.le sc8 (le29)
      refine x_aload_n (pc' := 254) 0 (dX13_type_2 132 rfl rfl) rfl rfl rfl ?_
      refine x_aload_n (pc' := 255) 1 (dX13_type_2 133 rfl rfl) rfl rfl rfl ?_
      refine x_getI (pc' := 258) (dX13_type_2 134 rfl rfl) g51 q445 (Or.inl rfl) rfl (hf_of 3 k1 rfl (by decide) m3_51) ?_
      refine x_iconst (pc' := 259) (v := 1) (dX13_type_2 135 rfl rfl) (by decide) rfl ?_
      refine x_icmp_le (pc' := 262) (tgt := 266) (dX13_type_2 136 rfl rfl) (by decide) rfl (fun c30 => ?_) (fun c30 => ?_)
      · replace hf := hf.1 c30
        refine x_iconst (pc' := 267) (v := 2) (dX13_type_2 139 rfl rfl) (by decide) rfl ?_
        refine x_inv (pc' := 270) (ν := mX13_type_2) (av := [_, _]) (st := []) rfl rfl (dX13_type_2 140 rfl rfl) (Nat.le_of_ble_eq_true rfl) wX13_type_2 q227 (inv_V (k := 11) (dX13_type_2 140 rfl rfl) q3336 q3338 qs59 wX13_type_2 (by decide) lX13_type_2 (by decide) s8.1) (exN (by decide)) rfl ?_
        refine C.mono hf (fun _ _ => KV.g (fun h31 hf le32 => ?_))
        have k1 := leK le32 k1 (by decide)
        replace s8 := s8.le sc8 (le32)
        replace hf := hf _ rfl
        refine x_iinc (pc' := 273) 2 (dX13_type_2 141 rfl rfl) rfl (by rfl) (by decide) rfl rfl ?_
        refine x_goto (tgt := 233) (dX13_type_2 142 rfl rfl) (by decide) ?_
        exact X.sub [1, 2, 0] rfl (by simp) hf
      · replace hf := hf.2 c30
        refine x_iconst (pc' := 263) (v := 0) (dX13_type_2 137 rfl rfl) (by decide) rfl ?_
        refine x_goto (tgt := 267) (dX13_type_2 138 rfl rfl) (by decide) ?_
        refine x_inv (pc' := 270) (ν := mX13_type_2) (av := [_, _]) (st := []) rfl rfl (dX13_type_2 140 rfl rfl) (Nat.le_of_ble_eq_true rfl) wX13_type_2 q227 (inv_V (k := 11) (dX13_type_2 140 rfl rfl) q3336 q3338 qs59 wX13_type_2 (by decide) lX13_type_2 (by decide) s8.1) (exN (by decide)) rfl ?_
        refine C.mono hf (fun _ _ => KV.g (fun h34 hf le35 => ?_))
        have k1 := leK le35 k1 (by decide)
        replace s8 := s8.le sc8 (le35)
        replace hf := hf _ rfl
        refine x_iinc (pc' := 273) 2 (dX13_type_2 141 rfl rfl) rfl (by rfl) (by decide) rfl rfl ?_
        refine x_goto (tgt := 233) (dX13_type_2 142 rfl rfl) (by decide) ?_
        exact X.sub [1, 2, 0] rfl (by simp) hf
