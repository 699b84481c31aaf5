set_option maxRecDepth 100000
theorem bX13_put (G : Gh) (d : Nat) (h : AH) (Q : Outcome → AH → Prop) (p1 : Int32) (s8 : So 8 (gW G) h) (hf : ((fI h (gW G 8) 120) = 2000 → (Q (.returned none) h)) ∧ (¬ ((fI h (gW G 8) 120) = 2000) → (vp_in (fI h (gW G 8) 120) 2000 ∧ ∀ h3, h3 = sI h (gW G 1119) (fI h (gW G 8) 120).toNatClampNeg (vp_nar .byte ((p1 : Int32).toInt8.toInt32)) → (∀ h5, h5 = pI h3 (gW G 8) 120 ((fI h3 (gW G 8) 120) + 1) → (Q (.returned none) h5))))) : C G mX13_put d [.ref (gW G 8), .int (p1)] h Q := by
  refine C.of_X (by decide +kernel) (Nat.le_of_ble_eq_true rfl) wX13_put ?_
  show X G mX13_put d none [] 0 [(0, .ref (gW G 8)), (1, .int (p1))] [] h Q
  refine x_aload_n (pc' := 1) 0 (dX13_put 0 rfl rfl) rfl rfl rfl ?_
  refine x_getI (pc' := 4) (dX13_put 1 rfl rfl) g120 q881 (Or.inl rfl) rfl (hf_of 11 s8.1 rfl (by decide) m11_120) ?_
  refine x_sipush (pc' := 7) (v := 2000) (dX13_put 2 rfl rfl) (by decide) rfl ?_
  refine x_icmp_ne (pc' := 10) (tgt := 11) (dX13_put 3 rfl rfl) (by decide) rfl (fun c1 => ?_) (fun c1 => ?_)
  · replace hf := hf.2 c1
    refine x_aload_n (pc' := 12) 0 (dX13_put 5 rfl rfl) rfl rfl rfl ?_
    refine x_getR (pc' := 15) (dX13_put 6 rfl rfl) g119 q880 (Or.inl rfl) rfl (hf_of 11 s8.1 rfl (by decide) m11_119) (s8.2 0 _ rfl rfl).1 ?_
    refine x_aload_n (pc' := 16) 0 (dX13_put 7 rfl rfl) rfl rfl rfl ?_
    refine x_getI (pc' := 19) (dX13_put 8 rfl rfl) g120 q881 (Or.inl rfl) rfl (hf_of 11 s8.1 rfl (by decide) m11_120) ?_
    refine x_iload_n (pc' := 20) 1 (dX13_put 9 rfl rfl) rfl rfl rfl ?_
    refine x_i2b (pc' := 21) (dX13_put 10 rfl rfl) rfl ?_
    obtain ⟨i2, hf⟩ := hf
    refine x_bast (pc' := 22) (dX13_put 11 rfl rfl) rfl (s8.2 0 _ rfl rfl).2.1 (Or.inl ⟨119, by decide, rfl, by decide⟩) (by rw [(s8.2 0 _ rfl rfl).2.2.2 (by decide)]; exact i2) (fun h3 e4 => ?_)
    replace hf := hf h3 e4
    replace s8 : So 8 (gW G) h3 := by rw [e4]; exact s8.le sc8 (sI_le )
    refine x_aload_n (pc' := 23) 0 (dX13_put 12 rfl rfl) rfl rfl rfl ?_
    refine x_dup (pc' := 24) (dX13_put 13 rfl rfl) rfl rfl ?_
    refine x_getI (pc' := 27) (dX13_put 14 rfl rfl) g120 q881 (Or.inl rfl) rfl (hf_of 11 s8.1 rfl (by decide) m11_120) ?_
    refine x_iconst (pc' := 28) (v := 1) (dX13_put 15 rfl rfl) (by decide) rfl ?_
    refine x_iadd (pc' := 29) (dX13_put 16 rfl rfl) rfl ?_
    refine x_putI (pc' := 32) (dX13_put 17 rfl rfl) g120 q881 (Or.inl rfl) (Or.inl rfl) (Or.inl (by decide)) rfl (hf_of 11 s8.1 rfl (by decide) m11_120) (fun h5 e6 => ?_)
    replace hf := hf h5 e6
    replace s8 : So 8 (gW G) h5 := by rw [e6]; exact s8.le sc8 (pI_le (Or.inl rfl))
    exact x_vret (dX13_put 18 rfl rfl) rfl hf
  · replace hf := hf.1 (Classical.not_not.mp c1)
    replace c1 := Classical.not_not.mp c1
    exact x_vret (dX13_put 4 rfl rfl) rfl hf
theorem bX13_digits (G : Gh) (d : Nat) (h : AH) (Q : Outcome → AH → Prop) (p1 : Int64) (s8 : So 8 (gW G) h) (hf : ((lg_cmp p1 9) ≤ 0 → (C G mX13_put d [.ref (gW G 8), .int ((48 + (p1 - p1 / 10 * 10) : Int64).toInt32)] h (KV Q (fun h2 => Q (.returned none) h2)))) ∧ (¬ ((lg_cmp p1 9) ≤ 0) → (C G mX13_digits d [.ref (gW G 8), .long (p1 / 10)] h (KV Q (fun h4 => C G mX13_put d [.ref (gW G 8), .int ((48 + (p1 - p1 / 10 * 10) : Int64).toInt32)] h4 (KV Q (fun h6 => Q (.returned none) h6))))))) : C G mX13_digits (d + 1) [.ref (gW G 8), .long (p1)] h Q := by
  refine C.of_X (by decide +kernel) (Nat.le_of_ble_eq_true rfl) wX13_digits ?_
  show X G mX13_digits (d + 1) none [] 0 [(0, .ref (gW G 8)), (1, .long (p1))] [] h Q
  refine x_lload_n (pc' := 1) 1 (dX13_digits 0 rfl rfl) rfl rfl rfl ?_
  refine x_ldc2 (pc' := 4) (dX13_digits 1 rfl rfl) q3348 rfl ?_
  refine x_lcmp (pc' := 5) (dX13_digits 2 rfl rfl) rfl ?_
  refine x_if_le (pc' := 8) (tgt := 17) (dX13_digits 3 rfl rfl) (by decide) rfl (fun c1 => ?_) (fun c1 => ?_)
  · replace hf := hf.1 c1
    refine x_aload_n (pc' := 18) 0 (dX13_digits 9 rfl rfl) rfl rfl rfl ?_
    refine x_ldc2 (pc' := 21) (dX13_digits 10 rfl rfl) q3350 rfl ?_
    refine x_lload_n (pc' := 22) 1 (dX13_digits 11 rfl rfl) rfl rfl rfl ?_
    refine x_ldc2 (pc' := 25) (dX13_digits 12 rfl rfl) q3349 rfl ?_
    refine x_lrem (pc' := 26) (dX13_digits 13 rfl rfl) (by decide) rfl ?_
    refine x_ladd (pc' := 27) (dX13_digits 14 rfl rfl) rfl ?_
    refine x_l2i (pc' := 28) (dX13_digits 15 rfl rfl) rfl ?_
    refine x_inv (pc' := 31) (ν := mX13_put) (av := [_, _]) (st := []) rfl rfl (dX13_digits 16 rfl rfl) (Nat.le_of_ble_eq_true rfl) wX13_put q227 (inv_V (k := 11) (dX13_digits 16 rfl rfl) q3340 q3342 qs60 wX13_put (by decide) lX13_put (by decide) s8.1) (exN (by decide)) rfl ?_
    refine C.mono hf (fun _ _ => KV.g (fun h2 hf le3 => ?_))
    replace s8 := s8.le sc8 (le3)
    exact x_vret (dX13_digits 17 rfl rfl) rfl hf
  · replace hf := hf.2 c1
    refine x_aload_n (pc' := 9) 0 (dX13_digits 4 rfl rfl) rfl rfl rfl ?_
    refine x_lload_n (pc' := 10) 1 (dX13_digits 5 rfl rfl) rfl rfl rfl ?_
    refine x_ldc2 (pc' := 13) (dX13_digits 6 rfl rfl) q3349 rfl ?_
    refine x_ldiv (pc' := 14) (dX13_digits 7 rfl rfl) (by decide) rfl ?_
    refine x_inv (pc' := 17) (ν := mX13_digits) (av := [_, _]) (st := []) rfl rfl (dX13_digits 8 rfl rfl) (Nat.le_of_ble_eq_true rfl) wX13_digits q227 (inv_V (k := 11) (dX13_digits 8 rfl rfl) q3344 q3346 qs61 wX13_digits (by decide) lX13_digits (by decide) s8.1) (exN (by decide)) rfl ?_
    refine C.mono hf (fun _ _ => KV.g (fun h4 hf le5 => ?_))
    replace s8 := s8.le sc8 (le5)
    refine x_aload_n (pc' := 18) 0 (dX13_digits 9 rfl rfl) rfl rfl rfl ?_
    refine x_ldc2 (pc' := 21) (dX13_digits 10 rfl rfl) q3350 rfl ?_
    refine x_lload_n (pc' := 22) 1 (dX13_digits 11 rfl rfl) rfl rfl rfl ?_
    refine x_ldc2 (pc' := 25) (dX13_digits 12 rfl rfl) q3349 rfl ?_
    refine x_lrem (pc' := 26) (dX13_digits 13 rfl rfl) (by decide) rfl ?_
    refine x_ladd (pc' := 27) (dX13_digits 14 rfl rfl) rfl ?_
    refine x_l2i (pc' := 28) (dX13_digits 15 rfl rfl) rfl ?_
    refine x_inv (pc' := 31) (ν := mX13_put) (av := [_, _]) (st := []) rfl rfl (dX13_digits 16 rfl rfl) (Nat.le_of_ble_eq_true rfl) wX13_put q227 (inv_V (k := 11) (dX13_digits 16 rfl rfl) q3340 q3342 qs60 wX13_put (by decide) lX13_put (by decide) s8.1) (exN (by decide)) rfl ?_
    refine C.mono hf (fun _ _ => KV.g (fun h6 hf le7 => ?_))
    replace s8 := s8.le sc8 (le7)
    exact x_vret (dX13_digits 17 rfl rfl) rfl hf
theorem bX13_put_2 (G : Gh) (d : Nat) (h : AH) (Q : Outcome → AH → Prop) (p1 : Nat) (hf : X G mX13_put_2 (d + 1) none [] 2 [(0, .ref (gW G 8)), (1, .ref (p1)), (2, .int (0))] [] h Q) : C G mX13_put_2 (d + 1) [.ref (gW G 8), .ref (p1)] h Q := by
  refine C.of_X (by decide +kernel) (Nat.le_of_ble_eq_true rfl) wX13_put_2 ?_
  show X G mX13_put_2 (d + 1) none [] 0 [(0, .ref (gW G 8)), (1, .ref (p1))] [] h Q
  refine x_iconst (pc' := 1) (v := 0) (dX13_put_2 0 rfl rfl) (by decide) rfl ?_
  refine x_istore_n (pc' := 2) (dX13_put_2 1 rfl rfl) rfl (by decide) rfl rfl ?_
  exact X.sub [1, 2, 0] rfl (by simp) hf
theorem bX13_put_2_2 (G : Gh) (d : Nat) (h : AH) (Q : Outcome → AH → Prop) (l1 : Nat) (l2 : Int32) (s8 : So 8 (gW G) h) (hf : ∃ n3, n3 < slen.length ∧ l1 = G.2.2.2.1 n3 ∧ (C G mJ0_length d [.ref (l1)] h (KI Q (fun x4 h1 => (x4 ≤ l2 → (Q (.returned none) h1)) ∧ (¬ (x4 ≤ l2) → (∃ n8, n8 < slen.length ∧ l1 = G.2.2.2.1 n8 ∧ (C G mJ0_charAt d [.ref (l1), .int (l2)] h1 (KI Q (fun x9 h6 => C G mX13_put d [.ref (gW G 8), .int (x9)] h6 (KV Q (fun h10 => ∀ x12 : Int32, x12 = l2 + 1 → (X G mX13_put_2 (d + 1) none [] 2 [(0, .ref (gW G 8)), (1, .ref (l1)), (2, .int (x12))] [] h10 Q)))))))))))) : X G mX13_put_2 (d + 1) none [] 2 [(0, .ref (gW G 8)), (1, .ref (l1)), (2, .int (l2))] [] h Q := by
  refine x_iload_n (pc' := 3) 2 (dX13_put_2 2 rfl rfl) rfl rfl rfl ?_
  refine x_aload_n (pc' := 4) 1 (dX13_put_2 3 rfl rfl) rfl rfl rfl ?_
  obtain ⟨n3, n3l, n3e, hf⟩ := hf
  refine x_inv (pc' := 7) (ν := mJ0_length) (av := [_]) (st := [_]) rfl rfl (dX13_put_2 4 rfl rfl) (Nat.le_of_ble_eq_true rfl) wJ0_length q215 (inv_VSa n3e (dX13_put_2 4 rfl rfl) q3358 q381 q382 wJ0_length (by decide) lJ0_length n3l) (exN (by decide)) rfl ?_
  refine C.mono hf (fun _ _ => KI.g (fun x4 h1 hf le2 => ?_))
  replace s8 := s8.le sc8 (le2)
  refine x_icmp_ge (pc' := 10) (tgt := 25) (dX13_put_2 5 rfl rfl) (by decide) rfl (fun c5 => ?_) (fun c5 => ?_)
  · replace hf := hf.1 c5
    exact x_vret (dX13_put_2 13 rfl rfl) rfl hf
  · replace hf := hf.2 c5
    refine x_aload_n (pc' := 11) 0 (dX13_put_2 6 rfl rfl) rfl rfl rfl ?_
    refine x_aload_n (pc' := 12) 1 (dX13_put_2 7 rfl rfl) rfl rfl rfl ?_
    refine x_iload_n (pc' := 13) 2 (dX13_put_2 8 rfl rfl) rfl rfl rfl ?_
    obtain ⟨n8, n8l, n8e, hf⟩ := hf
    refine x_inv (pc' := 16) (ν := mJ0_charAt) (av := [_, _]) (st := [_]) rfl rfl (dX13_put_2 9 rfl rfl) (Nat.le_of_ble_eq_true rfl) wJ0_charAt q215 (inv_VSa n8e (dX13_put_2 9 rfl rfl) q3359 q391 q392 wJ0_charAt (by decide) lJ0_charAt n8l) (exN (by decide)) rfl ?_
    refine C.mono hf (fun _ _ => KI.g (fun x9 h6 hf le7 => ?_))
    replace s8 := s8.le sc8 (le7)
    refine x_inv (pc' := 19) (ν := mX13_put) (av := [_, _]) (st := []) rfl rfl (dX13_put_2 10 rfl rfl) (Nat.le_of_ble_eq_true rfl) wX13_put q227 (inv_V (k := 11) (dX13_put_2 10 rfl rfl) q3340 q3342 qs60 wX13_put (by decide) lX13_put (by decide) s8.1) (exN (by decide)) rfl ?_
    refine C.mono hf (fun _ _ => KV.g (fun h10 hf le11 => ?_))
    replace s8 := s8.le sc8 (le11)
    replace hf := hf _ rfl
    refine x_iinc (pc' := 22) 2 (dX13_put_2 11 rfl rfl) rfl (by rfl) (by decide) rfl rfl ?_
    refine x_goto (tgt := 2) (dX13_put_2 12 rfl rfl) (by decide) ?_
    exact X.sub [1, 2, 0] rfl (by simp) hf
theorem bX13_name (G : Gh) (d : Nat) (h : AH) (Q : Outcome → AH → Prop) (p1 : Int64) (p3 : Int64) (hf : X G mX13_name (d + 1) none [] 4 [(0, .ref (gW G 8)), (1, .long (p1)), (3, .long (p3)), (5, .int (56))] [] h Q) : C G mX13_name (d + 1) [.ref (gW G 8), .long (p1), .long (p3)] h Q := by
  refine C.of_X (by decide +kernel) (Nat.le_of_ble_eq_true rfl) wX13_name ?_
  show X G mX13_name (d + 1) none [] 0 [(0, .ref (gW G 8)), (1, .long (p1)), (3, .long (p3))] [] h Q
  refine x_bipush (pc' := 2) (v := 56) (dX13_name 0 rfl rfl) (by decide) rfl ?_
  refine x_istore (pc' := 4) (dX13_name 1 rfl rfl) (by decide) rfl rfl ?_
  exact X.sub [1, 2, 3, 0] rfl (by simp) hf
theorem bX13_name_4 (G : Gh) (d : Nat) (h : AH) (Q : Outcome → AH → Prop) (l1 : Int64) (l3 : Int64) (l5 : Int32) (s8 : So 8 (gW G) h) (hf : (l5 < 0 → (X G mX13_name (d + 1) none [] 45 [(0, .ref (gW G 8)), (3, .long (l3)), (5, .int (56))] [] h Q)) ∧ (¬ (l5 < 0) → (((lg_cmp (((l1.toUInt64 >>> ((l5 : Int32).toInt64.toUInt64 &&& Int64.toUInt64 63)).toInt64) &&& 255) 0) = 0 → (∀ x3 : Int32, x3 = l5 + (-8) → (X G mX13_name (d + 1) none [] 4 [(0, .ref (gW G 8)), (1, .long (l1)), (3, .long (l3)), (5, .int (x3))] [] h Q))) ∧ (¬ ((lg_cmp (((l1.toUInt64 >>> ((l5 : Int32).toInt64.toUInt64 &&& Int64.toUInt64 63)).toInt64) &&& 255) 0) = 0) → (C G mX13_put d [.ref (gW G 8), .int ((((l1.toUInt64 >>> ((l5 : Int32).toInt64.toUInt64 &&& Int64.toUInt64 63)).toInt64 : Int64).toInt32) &&& 255)] h (KV Q (fun h4 => ∀ x6 : Int32, x6 = l5 + (-8) → (X G mX13_name (d + 1) none [] 4 [(0, .ref (gW G 8)), (1, .long (l1)), (3, .long (l3)), (5, .int (x6))] [] h4 Q)))))))) : X G mX13_name (d + 1) none [] 4 [(0, .ref (gW G 8)), (1, .long (l1)), (3, .long (l3)), (5, .int (l5))] [] h Q := by
  refine x_iload (pc' := 6) 3 (dX13_name 2 rfl rfl) rfl rfl ?_
  refine x_if_lt (pc' := 9) (tgt := 41) (dX13_name 3 rfl rfl) (by decide) rfl (fun c1 => ?_) (fun c1 => ?_)
  · replace hf := hf.1 c1
    refine x_bipush (pc' := 43) (v := 56) (dX13_name 22 rfl rfl) (by decide) rfl ?_
    refine x_istore (pc' := 45) (dX13_name 23 rfl rfl) (by decide) rfl rfl ?_
    exact X.sub [1, 3, 0] rfl (by simp) hf
  · replace hf := hf.2 c1
    refine x_lload_n (pc' := 10) 1 (dX13_name 4 rfl rfl) rfl rfl rfl ?_
    refine x_iload (pc' := 12) 3 (dX13_name 5 rfl rfl) rfl rfl ?_
    refine x_lushr (pc' := 13) (dX13_name 6 rfl rfl) rfl ?_
    refine x_ldc2 (pc' := 16) (dX13_name 7 rfl rfl) q3365 rfl ?_
    refine x_land (pc' := 17) (dX13_name 8 rfl rfl) rfl ?_
    refine x_lconst (pc' := 18) (v := 0) (dX13_name 9 rfl rfl) (by decide) rfl ?_
    refine x_lcmp (pc' := 19) (dX13_name 10 rfl rfl) rfl ?_
    refine x_if_eq (pc' := 22) (tgt := 35) (dX13_name 11 rfl rfl) (by decide) rfl (fun c2 => ?_) (fun c2 => ?_)
    · replace hf := hf.1 c2
      replace hf := hf _ rfl
      refine x_iinc (pc' := 38) 3 (dX13_name 20 rfl rfl) rfl (by rfl) (by decide) rfl rfl ?_
      refine x_goto (tgt := 4) (dX13_name 21 rfl rfl) (by decide) ?_
      exact X.sub [1, 2, 3, 0] rfl (by simp) hf
    · replace hf := hf.2 c2
      refine x_aload_n (pc' := 23) 0 (dX13_name 12 rfl rfl) rfl rfl rfl ?_
      refine x_lload_n (pc' := 24) 1 (dX13_name 13 rfl rfl) rfl rfl rfl ?_
      refine x_iload (pc' := 26) 3 (dX13_name 14 rfl rfl) rfl rfl ?_
      refine x_lushr (pc' := 27) (dX13_name 15 rfl rfl) rfl ?_
      refine x_l2i (pc' := 28) (dX13_name 16 rfl rfl) rfl ?_
      refine x_sipush (pc' := 31) (v := 255) (dX13_name 17 rfl rfl) (by decide) rfl ?_
      refine x_iand (pc' := 32) (dX13_name 18 rfl rfl) rfl ?_
      refine x_inv (pc' := 35) (ν := mX13_put) (av := [_, _]) (st := []) rfl rfl (dX13_name 19 rfl rfl) (Nat.le_of_ble_eq_true rfl) wX13_put q227 (inv_V (k := 11) (dX13_name 19 rfl rfl) q3340 q3342 qs60 wX13_put (by decide) lX13_put (by decide) s8.1) (exN (by decide)) rfl ?_
      refine C.mono hf (fun _ _ => KV.g (fun h4 hf le5 => ?_))
      replace s8 := s8.le sc8 (le5)
      replace hf := hf _ rfl
      refine x_iinc (pc' := 38) 3 (dX13_name 20 rfl rfl) rfl (by rfl) (by decide) rfl rfl ?_
      refine x_goto (tgt := 4) (dX13_name 21 rfl rfl) (by decide) ?_
      exact X.sub [1, 2, 3, 0] rfl (by simp) hf
theorem bX13_name_45 (G : Gh) (d : Nat) (h : AH) (Q : Outcome → AH → Prop) (l3 : Int64) (l5 : Int32) (s8 : So 8 (gW G) h) (hf : (l5 < 0 → (Q (.returned none) h)) ∧ (¬ (l5 < 0) → (((lg_cmp (((l3.toUInt64 >>> ((l5 : Int32).toInt64.toUInt64 &&& Int64.toUInt64 63)).toInt64) &&& 255) 0) = 0 → (∀ x3 : Int32, x3 = l5 + (-8) → (X G mX13_name (d + 1) none [] 45 [(0, .ref (gW G 8)), (3, .long (l3)), (5, .int (x3))] [] h Q))) ∧ (¬ ((lg_cmp (((l3.toUInt64 >>> ((l5 : Int32).toInt64.toUInt64 &&& Int64.toUInt64 63)).toInt64) &&& 255) 0) = 0) → (C G mX13_put d [.ref (gW G 8), .int ((((l3.toUInt64 >>> ((l5 : Int32).toInt64.toUInt64 &&& Int64.toUInt64 63)).toInt64 : Int64).toInt32) &&& 255)] h (KV Q (fun h4 => ∀ x6 : Int32, x6 = l5 + (-8) → (X G mX13_name (d + 1) none [] 45 [(0, .ref (gW G 8)), (3, .long (l3)), (5, .int (x6))] [] h4 Q)))))))) : X G mX13_name (d + 1) none [] 45 [(0, .ref (gW G 8)), (3, .long (l3)), (5, .int (l5))] [] h Q := by
  refine x_iload (pc' := 47) 2 (dX13_name 24 rfl rfl) rfl rfl ?_
  refine x_if_lt (pc' := 50) (tgt := 82) (dX13_name 25 rfl rfl) (by decide) rfl (fun c1 => ?_) (fun c1 => ?_)
  · replace hf := hf.1 c1
    exact x_vret (dX13_name 44 rfl rfl) rfl hf
  · replace hf := hf.2 c1
    refine x_lload_n (pc' := 51) 1 (dX13_name 26 rfl rfl) rfl rfl rfl ?_
    refine x_iload (pc' := 53) 2 (dX13_name 27 rfl rfl) rfl rfl ?_
    refine x_lushr (pc' := 54) (dX13_name 28 rfl rfl) rfl ?_
    refine x_ldc2 (pc' := 57) (dX13_name 29 rfl rfl) q3365 rfl ?_
    refine x_land (pc' := 58) (dX13_name 30 rfl rfl) rfl ?_
    refine x_lconst (pc' := 59) (v := 0) (dX13_name 31 rfl rfl) (by decide) rfl ?_
    refine x_lcmp (pc' := 60) (dX13_name 32 rfl rfl) rfl ?_
    refine x_if_eq (pc' := 63) (tgt := 76) (dX13_name 33 rfl rfl) (by decide) rfl (fun c2 => ?_) (fun c2 => ?_)
    · replace hf := hf.1 c2
      replace hf := hf _ rfl
      refine x_iinc (pc' := 79) 2 (dX13_name 42 rfl rfl) rfl (by rfl) (by decide) rfl rfl ?_
      refine x_goto (tgt := 45) (dX13_name 43 rfl rfl) (by decide) ?_
      exact X.sub [1, 2, 0] rfl (by simp) hf
    · replace hf := hf.2 c2
      refine x_aload_n (pc' := 64) 0 (dX13_name 34 rfl rfl) rfl rfl rfl ?_
      refine x_lload_n (pc' := 65) 1 (dX13_name 35 rfl rfl) rfl rfl rfl ?_
      refine x_iload (pc' := 67) 2 (dX13_name 36 rfl rfl) rfl rfl ?_
      refine x_lushr (pc' := 68) (dX13_name 37 rfl rfl) rfl ?_
      refine x_l2i (pc' := 69) (dX13_name 38 rfl rfl) rfl ?_
      refine x_sipush (pc' := 72) (v := 255) (dX13_name 39 rfl rfl) (by decide) rfl ?_
      refine x_iand (pc' := 73) (dX13_name 40 rfl rfl) rfl ?_
      refine x_inv (pc' := 76) (ν := mX13_put) (av := [_, _]) (st := []) rfl rfl (dX13_name 41 rfl rfl) (Nat.le_of_ble_eq_true rfl) wX13_put q227 (inv_V (k := 11) (dX13_name 41 rfl rfl) q3340 q3342 qs60 wX13_put (by decide) lX13_put (by decide) s8.1) (exN (by decide)) rfl ?_
      refine C.mono hf (fun _ _ => KV.g (fun h4 hf le5 => ?_))
      replace s8 := s8.le sc8 (le5)
      replace hf := hf _ rfl
      refine x_iinc (pc' := 79) 2 (dX13_name 42 rfl rfl) rfl (by rfl) (by decide) rfl rfl ?_
      refine x_goto (tgt := 45) (dX13_name 43 rfl rfl) (by decide) ?_
      exact X.sub [1, 2, 0] rfl (by simp) hf
theorem bX13_value (G : Gh) (d : Nat) (h : AH) (Q : Outcome → AH → Prop) (p1 : Int32) (s8 : So 8 (gW G) h) (hf : ∀ h1, h1 = pI h (gW G 8) 120 0 → (C G mX13_value_2 d [.ref (gW G 8), .int (p1), .int (0), .int (0)] h1 (KV Q (fun h2 => Q (.returned none) h2)))) : C G mX13_value (d + 1) [.ref (gW G 8), .int (p1)] h Q := by
  refine C.of_X (by decide +kernel) (Nat.le_of_ble_eq_true rfl) wX13_value ?_
  show X G mX13_value (d + 1) none [] 0 [(0, .ref (gW G 8)), (1, .int (p1))] [] h Q
  refine x_aload_n (pc' := 1) 0 (dX13_value 0 rfl rfl) rfl rfl rfl ?_
  refine x_iconst (pc' := 2) (v := 0) (dX13_value 1 rfl rfl) (by decide) rfl ?_
  refine x_putI (pc' := 5) (dX13_value 2 rfl rfl) g120 q881 (Or.inl rfl) (Or.inl rfl) (Or.inl (by decide)) rfl (hf_of 11 s8.1 rfl (by decide) m11_120) (fun h1 e4 => ?_)
  replace hf := hf h1 e4
  replace s8 : So 8 (gW G) h1 := by rw [e4]; exact s8.le sc8 (pI_le (Or.inl rfl))
  refine x_aload_n (pc' := 6) 0 (dX13_value 3 rfl rfl) rfl rfl rfl ?_
  refine x_iload_n (pc' := 7) 1 (dX13_value 4 rfl rfl) rfl rfl rfl ?_
  refine x_iconst (pc' := 8) (v := 0) (dX13_value 5 rfl rfl) (by decide) rfl ?_
  refine x_iconst (pc' := 9) (v := 0) (dX13_value 6 rfl rfl) (by decide) rfl ?_
  refine x_inv (pc' := 12) (ν := mX13_value_2) (av := [_, _, _, _]) (st := []) rfl rfl (dX13_value 7 rfl rfl) (Nat.le_of_ble_eq_true rfl) wX13_value_2 q227 (inv_V (k := 11) (dX13_value 7 rfl rfl) q3370 q3372 qs64 wX13_value_2 (by decide) lX13_value_2 (by decide) s8.1) (exN (by decide)) rfl ?_
  refine C.mono hf (fun _ _ => KV.g (fun h2 hf le3 => ?_))
  replace s8 := s8.le sc8 (le3)
  exact x_vret (dX13_value 8 rfl rfl) rfl hf
theorem bX13_value_2 (G : Gh) (d : Nat) (h : AH) (Q : Outcome → AH → Prop) (p1 : Int32) (p2 : Int32) (p3 : Int32) (s3 : So 3 (gW G) h) (s8 : So 8 (gW G) h) (hf : (p2 ≤ 12 → (C G mX6_tag d [.ref (gW G 3), .int (p1)] h (KI Q (fun x4 h2 => (x4 = 0 → ((p1 = 1 → (C G mX13_put_2 d [.ref (gW G 8), .ref (G.2.2.2.1 33)] h2 (KV Q (fun h15 => Q (.returned none) h15)))) ∧ (¬ p1 = 1 → ((p1 = 2 → (C G mX13_put_2 d [.ref (gW G 8), .ref (G.2.2.2.1 22)] h2 (KV Q (fun h13 => Q (.returned none) h13)))) ∧ (¬ p1 = 2 → ((p1 = 3 → (C G mX13_put_2 d [.ref (gW G 8), .ref (G.2.2.2.1 21)] h2 (KV Q (fun h11 => Q (.returned none) h11)))) ∧ (¬ p1 = 3 → (C G mX13_put_2 d [.ref (gW G 8), .ref (G.2.2.2.1 34)] h2 (KV Q (fun h9 => Q (.returned none) h9)))))))))) ∧ (x4 = 1 → (C G mX6_whole d [.ref (gW G 3), .int (p1)] h2 (KI Q (fun x19 h17 => ∀ y20 : Int64, y20 = (x19 : Int32).toInt64 → ((0 ≤ (lg_cmp y20 0) → (C G mJ9_abs d [.long (y20)] h17 (KJ Q (fun y24 h22 => C G mX13_digits d [.ref (gW G 8), .long (y24)] h22 (KV Q (fun h25 => Q (.returned none) h25)))))) ∧ (¬ (0 ≤ (lg_cmp y20 0)) → (C G mX13_put d [.ref (gW G 8), .int (126)] h17 (KV Q (fun h27 => C G mJ9_abs d [.long (y20)] h27 (KJ Q (fun y31 h29 => C G mX13_digits d [.ref (gW G 8), .long (y31)] h29 (KV Q (fun h32 => Q (.returned none) h32))))))))))))) ∧ (x4 = 2 → (C G mX13_put d [.ref (gW G 8), .int (40)] h2 (KV Q (fun h34 => X G mX13_value_2 (d + 1) none [] 152 [(0, .ref (gW G 8)), (1, .int (p1)), (2, .int (p2)), (4, .int (0))] [] h34 Q)))) ∧ (x4 = 3 → (C G mX13_put d [.ref (gW G 8), .int (91)] h2 (KV Q (fun h36 => X G mX13_value_2 (d + 1) none [] 218 [(0, .ref (gW G 8)), (1, .int (p1)), (2, .int (p2)), (4, .int (p1))] [] h36 Q)))) ∧ (x4 = 4 → (C G mX13_named d [.ref (gW G 8), .int (p1), .int (p2), .int (p3)] h2 (KV Q (fun h38 => Q (.returned none) h38)))) ∧ (x4 = 7 → (C G mX13_named d [.ref (gW G 8), .int (p1), .int (p2), .int (p3)] h2 (KV Q (fun h40 => Q (.returned none) h40)))) ∧ (¬ x4 = 0 ∧ ¬ x4 = 1 ∧ ¬ x4 = 2 ∧ ¬ x4 = 3 ∧ ¬ x4 = 4 ∧ ¬ x4 = 7 → (C G mX13_put_2 d [.ref (gW G 8), .ref (G.2.2.2.1 11)] h2 (KV Q (fun h42 => Q (.returned none) h42)))))))) ∧ (¬ (p2 ≤ 12) → (C G mX13_put d [.ref (gW G 8), .int (35)] h (KV Q (fun h44 => Q (.returned none) h44))))) : C G mX13_value_2 (d + 1) [.ref (gW G 8), .int (p1), .int (p2), .int (p3)] h Q := by
  refine C.of_X (by decide +kernel) (Nat.le_of_ble_eq_true rfl) wX13_value_2 ?_
  show X G mX13_value_2 (d + 1) none [] 0 [(0, .ref (gW G 8)), (1, .int (p1)), (2, .int (p2)), (3, .int (p3))] [] h Q
  refine x_iload_n (pc' := 1) 2 (dX13_value_2 0 rfl rfl) rfl rfl rfl ?_
  refine x_bipush (pc' := 3) (v := 12) (dX13_value_2 1 rfl rfl) (by decide) rfl ?_
  refine x_icmp_le (pc' := 6) (tgt := 13) (dX13_value_2 2 rfl rfl) (by decide) rfl (fun c1 => ?_) (fun c1 => ?_)
  · replace hf := hf.1 c1
    refine x_aload_n (pc' := 14) 0 (dX13_value_2 7 rfl rfl) rfl rfl rfl ?_
    refine x_getR (pc' := 17) (dX13_value_2 8 rfl rfl) g122 q884 (Or.inl rfl) rfl (hf_of 11 s8.1 rfl (by decide) m11_122) (s8.2 2 _ rfl rfl).1 ?_
    refine x_iload_n (pc' := 18) 1 (dX13_value_2 9 rfl rfl) rfl rfl rfl ?_
    refine x_inv (pc' := 21) (ν := mX6_tag) (av := [_, _]) (st := []) rfl rfl (dX13_value_2 10 rfl rfl) (Nat.le_of_ble_eq_true rfl) wX6_tag q220 (inv_V (k := 4) (dX13_value_2 10 rfl rfl) q3374 q3071 q3072 wX6_tag (by decide) lX6_tag (by decide) s3.1) (exN (by decide)) rfl ?_
    refine C.mono hf (fun _ _ => KI.g (fun x4 h2 hf le3 => ?_))
    replace s3 := s3.le sc3 (le3)
    replace s8 := s8.le sc8 (le3)
    by_cases c50 : x4 = 0
    · replace hf := hf.1 c50
      refine x_ts (v := 0) (tgt := 68) (swX13_value_2_21) (by rw [c50]; decide) (by decide) (by decide) (by decide) ?_
      refine x_aload_n (pc' := 69) 0 (dX13_value_2 12 rfl rfl) rfl rfl rfl ?_
      refine x_iload_n (pc' := 70) 1 (dX13_value_2 13 rfl rfl) rfl rfl rfl ?_
      refine x_iconst (pc' := 71) (v := 1) (dX13_value_2 14 rfl rfl) (by decide) rfl ?_
      refine x_icmp_ne (pc' := 74) (tgt := 79) (dX13_value_2 15 rfl rfl) (by decide) rfl (fun c6 => ?_) (fun c6 => ?_)
      · replace hf := hf.2 c6
        refine x_iload_n (pc' := 80) 1 (dX13_value_2 18 rfl rfl) rfl rfl rfl ?_
        refine x_iconst (pc' := 81) (v := 2) (dX13_value_2 19 rfl rfl) (by decide) rfl ?_
        refine x_icmp_ne (pc' := 84) (tgt := 89) (dX13_value_2 20 rfl rfl) (by decide) rfl (fun c7 => ?_) (fun c7 => ?_)
        · replace hf := hf.2 c7
          refine x_iload_n (pc' := 90) 1 (dX13_value_2 23 rfl rfl) rfl rfl rfl ?_
          refine x_iconst (pc' := 91) (v := 3) (dX13_value_2 24 rfl rfl) (by decide) rfl ?_
          refine x_icmp_ne (pc' := 94) (tgt := 99) (dX13_value_2 25 rfl rfl) (by decide) rfl (fun c8 => ?_) (fun c8 => ?_)
          · replace hf := hf.2 c8
            refine x_ldcS (pc' := 101) (tx := "[]") (i := 34) (dX13_value_2 28 rfl rfl) (List.mem_of_getElem? (i := 37) rfl) rfl ?_
            refine x_inv (pc' := 104) (ν := mX13_put_2) (av := [_, _]) (st := []) rfl rfl (dX13_value_2 29 rfl rfl) (Nat.le_of_ble_eq_true rfl) wX13_put_2 q227 (inv_V (k := 11) (dX13_value_2 29 rfl rfl) q3354 q3356 qs62 wX13_put_2 (by decide) lX13_put_2 (by decide) s8.1) (exN (by decide)) rfl ?_
            refine C.mono hf (fun _ _ => KV.g (fun h9 hf le10 => ?_))
            replace s3 := s3.le sc3 (le10)
            replace s8 := s8.le sc8 (le10)
            refine x_goto (tgt := 308) (dX13_value_2 30 rfl rfl) (by decide) ?_
            exact x_vret (dX13_value_2 131 rfl rfl) rfl hf
          · replace hf := hf.1 (Classical.not_not.mp c8)
            replace c8 := Classical.not_not.mp c8
            refine x_ldcS (pc' := 96) (tx := "true") (i := 21) (dX13_value_2 26 rfl rfl) (List.mem_of_getElem? (i := 36) rfl) rfl ?_
            refine x_goto (tgt := 101) (dX13_value_2 27 rfl rfl) (by decide) ?_
            refine x_inv (pc' := 104) (ν := mX13_put_2) (av := [_, _]) (st := []) rfl rfl (dX13_value_2 29 rfl rfl) (Nat.le_of_ble_eq_true rfl) wX13_put_2 q227 (inv_V (k := 11) (dX13_value_2 29 rfl rfl) q3354 q3356 qs62 wX13_put_2 (by decide) lX13_put_2 (by decide) s8.1) (exN (by decide)) rfl ?_
            refine C.mono hf (fun _ _ => KV.g (fun h11 hf le12 => ?_))
            replace s3 := s3.le sc3 (le12)
            replace s8 := s8.le sc8 (le12)
            refine x_goto (tgt := 308) (dX13_value_2 30 rfl rfl) (by decide) ?_
            exact x_vret (dX13_value_2 131 rfl rfl) rfl hf
        · replace hf := hf.1 (Classical.not_not.mp c7)
          replace c7 := Classical.not_not.mp c7
          refine x_ldcS (pc' := 86) (tx := "false") (i := 22) (dX13_value_2 21 rfl rfl) (List.mem_of_getElem? (i := 35) rfl) rfl ?_
          refine x_goto (tgt := 101) (dX13_value_2 22 rfl rfl) (by decide) ?_
          refine x_inv (pc' := 104) (ν := mX13_put_2) (av := [_, _]) (st := []) rfl rfl (dX13_value_2 29 rfl rfl) (Nat.le_of_ble_eq_true rfl) wX13_put_2 q227 (inv_V (k := 11) (dX13_value_2 29 rfl rfl) q3354 q3356 qs62 wX13_put_2 (by decide) lX13_put_2 (by decide) s8.1) (exN (by decide)) rfl ?_
          refine C.mono hf (fun _ _ => KV.g (fun h13 hf le14 => ?_))
          replace s3 := s3.le sc3 (le14)
          replace s8 := s8.le sc8 (le14)
          refine x_goto (tgt := 308) (dX13_value_2 30 rfl rfl) (by decide) ?_
          exact x_vret (dX13_value_2 131 rfl rfl) rfl hf
      · replace hf := hf.1 (Classical.not_not.mp c6)
        replace c6 := Classical.not_not.mp c6
        refine x_ldcS (pc' := 76) (tx := "()") (i := 33) (dX13_value_2 16 rfl rfl) (List.mem_of_getElem? (i := 34) rfl) rfl ?_
        refine x_goto (tgt := 101) (dX13_value_2 17 rfl rfl) (by decide) ?_
        refine x_inv (pc' := 104) (ν := mX13_put_2) (av := [_, _]) (st := []) rfl rfl (dX13_value_2 29 rfl rfl) (Nat.le_of_ble_eq_true rfl) wX13_put_2 q227 (inv_V (k := 11) (dX13_value_2 29 rfl rfl) q3354 q3356 qs62 wX13_put_2 (by decide) lX13_put_2 (by decide) s8.1) (exN (by decide)) rfl ?_
        refine C.mono hf (fun _ _ => KV.g (fun h15 hf le16 => ?_))
        replace s3 := s3.le sc3 (le16)
        replace s8 := s8.le sc8 (le16)
        refine x_goto (tgt := 308) (dX13_value_2 30 rfl rfl) (by decide) ?_
        exact x_vret (dX13_value_2 131 rfl rfl) rfl hf
    by_cases c51 : x4 = 1
    · replace hf := hf.2.1 c51
      refine x_ts (v := 1) (tgt := 107) (swX13_value_2_21) (by rw [c51]; decide) (by decide) (by decide) (by decide) ?_
      refine x_aload_n (pc' := 108) 0 (dX13_value_2 31 rfl rfl) rfl rfl rfl ?_
      refine x_getR (pc' := 111) (dX13_value_2 32 rfl rfl) g122 q884 (Or.inl rfl) rfl (hf_of 11 s8.1 rfl (by decide) m11_122) (s8.2 2 _ rfl rfl).1 ?_
      refine x_iload_n (pc' := 112) 1 (dX13_value_2 33 rfl rfl) rfl rfl rfl ?_
      refine x_inv (pc' := 115) (ν := mX6_whole) (av := [_, _]) (st := []) rfl rfl (dX13_value_2 34 rfl rfl) (Nat.le_of_ble_eq_true rfl) wX6_whole q220 (inv_V (k := 4) (dX13_value_2 34 rfl rfl) q3379 q3090 q3091 wX6_whole (by decide) lX6_whole (by decide) s3.1) (exN (by decide)) rfl ?_
      refine C.mono hf (fun _ _ => KI.g (fun x19 h17 hf le18 => ?_))
      replace s3 := s3.le sc3 (le18)
      replace s8 := s8.le sc8 (le18)
      refine x_i2l (pc' := 116) (dX13_value_2 35 rfl rfl) rfl ?_
      replace hf := hf _ rfl
      refine x_lstore (pc' := 118) (dX13_value_2 36 rfl rfl) (by decide) rfl rfl ?_
      refine x_lload (pc' := 120) 0 (dX13_value_2 37 rfl rfl) rfl rfl ?_
      refine x_lconst (pc' := 121) (v := 0) (dX13_value_2 38 rfl rfl) (by decide) rfl ?_
      refine x_lcmp (pc' := 122) (dX13_value_2 39 rfl rfl) rfl ?_
      refine x_if_ge (pc' := 125) (tgt := 131) (dX13_value_2 40 rfl rfl) (by decide) rfl (fun c21 => ?_) (fun c21 => ?_)
      · replace hf := hf.1 c21
        refine x_aload_n (pc' := 132) 1 (dX13_value_2 44 rfl rfl) rfl rfl rfl ?_
        refine x_lload (pc' := 134) 0 (dX13_value_2 45 rfl rfl) rfl rfl ?_
        refine x_inv (pc' := 137) (ν := mJ9_abs) (av := [_]) (st := [_]) rfl rfl (dX13_value_2 46 rfl rfl) (Nat.le_of_ble_eq_true rfl) wJ9_abs q235 (inv_S (dX13_value_2 46 rfl rfl) q3380 q3381 q235 wJ9_abs (by decide) lJ9_abs) (exN (by decide)) rfl ?_
        refine C.mono hf (fun _ _ => KJ.g (fun y24 h22 hf le23 => ?_))
        replace s3 := s3.le sc3 (le23)
        replace s8 := s8.le sc8 (le23)
        refine x_inv (pc' := 140) (ν := mX13_digits) (av := [_, _]) (st := []) rfl rfl (dX13_value_2 47 rfl rfl) (Nat.le_of_ble_eq_true rfl) wX13_digits q227 (inv_V (k := 11) (dX13_value_2 47 rfl rfl) q3344 q3346 qs61 wX13_digits (by decide) lX13_digits (by decide) s8.1) (exN (by decide)) rfl ?_
        refine C.mono hf (fun _ _ => KV.g (fun h25 hf le26 => ?_))
        replace s3 := s3.le sc3 (le26)
        replace s8 := s8.le sc8 (le26)
        refine x_goto (tgt := 308) (dX13_value_2 48 rfl rfl) (by decide) ?_
        exact x_vret (dX13_value_2 131 rfl rfl) rfl hf
      · replace hf := hf.2 c21
        refine x_aload_n (pc' := 126) 1 (dX13_value_2 41 rfl rfl) rfl rfl rfl ?_
        refine x_bipush (pc' := 128) (v := 126) (dX13_value_2 42 rfl rfl) (by decide) rfl ?_
        refine x_inv (pc' := 131) (ν := mX13_put) (av := [_, _]) (st := []) rfl rfl (dX13_value_2 43 rfl rfl) (Nat.le_of_ble_eq_true rfl) wX13_put q227 (inv_V (k := 11) (dX13_value_2 43 rfl rfl) q3340 q3342 qs60 wX13_put (by decide) lX13_put (by decide) s8.1) (exN (by decide)) rfl ?_
        refine C.mono hf (fun _ _ => KV.g (fun h27 hf le28 => ?_))
        replace s3 := s3.le sc3 (le28)
        replace s8 := s8.le sc8 (le28)
        refine x_aload_n (pc' := 132) 1 (dX13_value_2 44 rfl rfl) rfl rfl rfl ?_
        refine x_lload (pc' := 134) 0 (dX13_value_2 45 rfl rfl) rfl rfl ?_
        refine x_inv (pc' := 137) (ν := mJ9_abs) (av := [_]) (st := [_]) rfl rfl (dX13_value_2 46 rfl rfl) (Nat.le_of_ble_eq_true rfl) wJ9_abs q235 (inv_S (dX13_value_2 46 rfl rfl) q3380 q3381 q235 wJ9_abs (by decide) lJ9_abs) (exN (by decide)) rfl ?_
        refine C.mono hf (fun _ _ => KJ.g (fun y31 h29 hf le30 => ?_))
        replace s3 := s3.le sc3 (le30)
        replace s8 := s8.le sc8 (le30)
        refine x_inv (pc' := 140) (ν := mX13_digits) (av := [_, _]) (st := []) rfl rfl (dX13_value_2 47 rfl rfl) (Nat.le_of_ble_eq_true rfl) wX13_digits q227 (inv_V (k := 11) (dX13_value_2 47 rfl rfl) q3344 q3346 qs61 wX13_digits (by decide) lX13_digits (by decide) s8.1) (exN (by decide)) rfl ?_
        refine C.mono hf (fun _ _ => KV.g (fun h32 hf le33 => ?_))
        replace s3 := s3.le sc3 (le33)
        replace s8 := s8.le sc8 (le33)
        refine x_goto (tgt := 308) (dX13_value_2 48 rfl rfl) (by decide) ?_
        exact x_vret (dX13_value_2 131 rfl rfl) rfl hf
    by_cases c52 : x4 = 2
    · replace hf := hf.2.2.1 c52
      refine x_ts (v := 2) (tgt := 143) (swX13_value_2_21) (by rw [c52]; decide) (by decide) (by decide) (by decide) ?_
      refine x_aload_n (pc' := 144) 0 (dX13_value_2 49 rfl rfl) rfl rfl rfl ?_
      refine x_bipush (pc' := 146) (v := 40) (dX13_value_2 50 rfl rfl) (by decide) rfl ?_
      refine x_inv (pc' := 149) (ν := mX13_put) (av := [_, _]) (st := []) rfl rfl (dX13_value_2 51 rfl rfl) (Nat.le_of_ble_eq_true rfl) wX13_put q227 (inv_V (k := 11) (dX13_value_2 51 rfl rfl) q3340 q3342 qs60 wX13_put (by decide) lX13_put (by decide) s8.1) (exN (by decide)) rfl ?_
      refine C.mono hf (fun _ _ => KV.g (fun h34 hf le35 => ?_))
      replace s3 := s3.le sc3 (le35)
      replace s8 := s8.le sc8 (le35)
      refine x_iconst (pc' := 150) (v := 0) (dX13_value_2 52 rfl rfl) (by decide) rfl ?_
      refine x_istore (pc' := 152) (dX13_value_2 53 rfl rfl) (by decide) rfl rfl ?_
      exact X.sub [1, 2, 3, 0] rfl (by simp) hf
    by_cases c53 : x4 = 3
    · replace hf := hf.2.2.2.1 c53
      refine x_ts (v := 3) (tgt := 209) (swX13_value_2_21) (by rw [c53]; decide) (by decide) (by decide) (by decide) ?_
      refine x_aload_n (pc' := 210) 0 (dX13_value_2 82 rfl rfl) rfl rfl rfl ?_
      refine x_bipush (pc' := 212) (v := 91) (dX13_value_2 83 rfl rfl) (by decide) rfl ?_
      refine x_inv (pc' := 215) (ν := mX13_put) (av := [_, _]) (st := []) rfl rfl (dX13_value_2 84 rfl rfl) (Nat.le_of_ble_eq_true rfl) wX13_put q227 (inv_V (k := 11) (dX13_value_2 84 rfl rfl) q3340 q3342 qs60 wX13_put (by decide) lX13_put (by decide) s8.1) (exN (by decide)) rfl ?_
      refine C.mono hf (fun _ _ => KV.g (fun h36 hf le37 => ?_))
      replace s3 := s3.le sc3 (le37)
      replace s8 := s8.le sc8 (le37)
      refine x_iload_n (pc' := 216) 1 (dX13_value_2 85 rfl rfl) rfl rfl rfl ?_
      refine x_istore (pc' := 218) (dX13_value_2 86 rfl rfl) (by decide) rfl rfl ?_
      exact X.sub [1, 2, 3, 0] rfl (by simp) hf
    by_cases c54 : x4 = 4
    · replace hf := hf.2.2.2.2.1 c54
      refine x_ts (v := 4) (tgt := 292) (swX13_value_2_21) (by rw [c54]; decide) (by decide) (by decide) (by decide) ?_
      refine x_aload_n (pc' := 293) 0 (dX13_value_2 122 rfl rfl) rfl rfl rfl ?_
      refine x_iload_n (pc' := 294) 1 (dX13_value_2 123 rfl rfl) rfl rfl rfl ?_
      refine x_iload_n (pc' := 295) 2 (dX13_value_2 124 rfl rfl) rfl rfl rfl ?_
      refine x_iload_n (pc' := 296) 3 (dX13_value_2 125 rfl rfl) rfl rfl rfl ?_
      refine x_inv (pc' := 299) (ν := mX13_named) (av := [_, _, _, _]) (st := []) rfl rfl (dX13_value_2 126 rfl rfl) (Nat.le_of_ble_eq_true rfl) wX13_named q227 (inv_V (k := 11) (dX13_value_2 126 rfl rfl) q3391 q3393 qs65 wX13_named (by decide) lX13_named (by decide) s8.1) (exN (by decide)) rfl ?_
      refine C.mono hf (fun _ _ => KV.g (fun h38 hf le39 => ?_))
      replace s3 := s3.le sc3 (le39)
      replace s8 := s8.le sc8 (le39)
      refine x_goto (tgt := 308) (dX13_value_2 127 rfl rfl) (by decide) ?_
      exact x_vret (dX13_value_2 131 rfl rfl) rfl hf
    by_cases c55 : x4 = 7
    · replace hf := hf.2.2.2.2.2.1 c55
      refine x_ts (v := 7) (tgt := 292) (swX13_value_2_21) (by rw [c55]; decide) (by decide) (by decide) (by decide) ?_
      refine x_aload_n (pc' := 293) 0 (dX13_value_2 122 rfl rfl) rfl rfl rfl ?_
      refine x_iload_n (pc' := 294) 1 (dX13_value_2 123 rfl rfl) rfl rfl rfl ?_
      refine x_iload_n (pc' := 295) 2 (dX13_value_2 124 rfl rfl) rfl rfl rfl ?_
      refine x_iload_n (pc' := 296) 3 (dX13_value_2 125 rfl rfl) rfl rfl rfl ?_
      refine x_inv (pc' := 299) (ν := mX13_named) (av := [_, _, _, _]) (st := []) rfl rfl (dX13_value_2 126 rfl rfl) (Nat.le_of_ble_eq_true rfl) wX13_named q227 (inv_V (k := 11) (dX13_value_2 126 rfl rfl) q3391 q3393 qs65 wX13_named (by decide) lX13_named (by decide) s8.1) (exN (by decide)) rfl ?_
      refine C.mono hf (fun _ _ => KV.g (fun h40 hf le41 => ?_))
      replace s3 := s3.le sc3 (le41)
      replace s8 := s8.le sc8 (le41)
      refine x_goto (tgt := 308) (dX13_value_2 127 rfl rfl) (by decide) ?_
      exact x_vret (dX13_value_2 131 rfl rfl) rfl hf
    replace hf := hf.2.2.2.2.2.2 ⟨c50, c51, c52, c53, c54, c55⟩
    refine x_td (vs := [0, 1, 2, 3, 4, 7]) (tgt := 302) (swX13_value_2_21) ?_ (by decide) (by decide) (by decide) ?_
    · intro v hv
      simp only [List.mem_cons, List.not_mem_nil, or_false] at hv
      rcases hv with rfl | rfl | rfl | rfl | rfl | rfl
      · exact i32_ne (by decide) c50
      · exact i32_ne (by decide) c51
      · exact i32_ne (by decide) c52
      · exact i32_ne (by decide) c53
      · exact i32_ne (by decide) c54
      · exact i32_ne (by decide) c55
    · refine x_aload_n (pc' := 303) 0 (dX13_value_2 128 rfl rfl) rfl rfl rfl ?_
      refine x_ldcS (pc' := 305) (tx := "fn") (i := 11) (dX13_value_2 129 rfl rfl) (List.mem_of_getElem? (i := 39) rfl) rfl ?_
      refine x_inv (pc' := 308) (ν := mX13_put_2) (av := [_, _]) (st := []) rfl rfl (dX13_value_2 130 rfl rfl) (Nat.le_of_ble_eq_true rfl) wX13_put_2 q227 (inv_V (k := 11) (dX13_value_2 130 rfl rfl) q3354 q3356 qs62 wX13_put_2 (by decide) lX13_put_2 (by decide) s8.1) (exN (by decide)) rfl ?_
      refine C.mono hf (fun _ _ => KV.g (fun h42 hf le43 => ?_))
      replace s3 := s3.le sc3 (le43)
      replace s8 := s8.le sc8 (le43)
      exact x_vret (dX13_value_2 131 rfl rfl) rfl hf
  · replace hf := hf.2 c1
    refine x_aload_n (pc' := 7) 0 (dX13_value_2 3 rfl rfl) rfl rfl rfl ?_
    refine x_bipush (pc' := 9) (v := 35) (dX13_value_2 4 rfl rfl) (by decide) rfl ?_
    refine x_inv (pc' := 12) (ν := mX13_put) (av := [_, _]) (st := []) rfl rfl (dX13_value_2 5 rfl rfl) (Nat.le_of_ble_eq_true rfl) wX13_put q227 (inv_V (k := 11) (dX13_value_2 5 rfl rfl) q3340 q3342 qs60 wX13_put (by decide) lX13_put (by decide) s8.1) (exN (by decide)) rfl ?_
    refine C.mono hf (fun _ _ => KV.g (fun h44 hf le45 => ?_))
    replace s3 := s3.le sc3 (le45)
    replace s8 := s8.le sc8 (le45)
    exact x_vret (dX13_value_2 6 rfl rfl) rfl hf
theorem bX13_value_2_152 (G : Gh) (d : Nat) (h : AH) (Q : Outcome → AH → Prop) (l1 : Int32) (l2 : Int32) (l4 : Int32) (s3 : So 3 (gW G) h) (s8 : So 8 (gW G) h) (hf : C G mX6_parts d [.ref (gW G 3), .int (l1)] h (KI Q (fun x3 h1 => (x3 ≤ l4 → (C G mX13_put d [.ref (gW G 8), .int (41)] h1 (KV Q (fun h5 => Q (.returned none) h5)))) ∧ (¬ (x3 ≤ l4) → ((l4 ≤ 0 → (C G mX6_part d [.ref (gW G 3), .int (l1), .int (l4)] h1 (KI Q (fun x10 h8 => C G mX13_value_2 d [.ref (gW G 8), .int (x10), .int (l2 + 1), .int (0)] h8 (KV Q (fun h11 => ∀ x13 : Int32, x13 = l4 + 1 → (X G mX13_value_2 (d + 1) none [] 152 [(0, .ref (gW G 8)), (1, .int (l1)), (2, .int (l2)), (4, .int (x13))] [] h11 Q))))))) ∧ (¬ (l4 ≤ 0) → (C G mX13_put_2 d [.ref (gW G 8), .ref (G.2.2.2.1 32)] h1 (KV Q (fun h14 => C G mX6_part d [.ref (gW G 3), .int (l1), .int (l4)] h14 (KI Q (fun x18 h16 => C G mX13_value_2 d [.ref (gW G 8), .int (x18), .int (l2 + 1), .int (0)] h16 (KV Q (fun h19 => ∀ x21 : Int32, x21 = l4 + 1 → (X G mX13_value_2 (d + 1) none [] 152 [(0, .ref (gW G 8)), (1, .int (l1)), (2, .int (l2)), (4, .int (x21))] [] h19 Q)))))))))))))) : X G mX13_value_2 (d + 1) none [] 152 [(0, .ref (gW G 8)), (1, .int (l1)), (2, .int (l2)), (4, .int (l4))] [] h Q := by
  refine x_iload (pc' := 154) 3 (dX13_value_2 54 rfl rfl) rfl rfl ?_
  refine x_aload_n (pc' := 155) 0 (dX13_value_2 55 rfl rfl) rfl rfl rfl ?_
  refine x_getR (pc' := 158) (dX13_value_2 56 rfl rfl) g122 q884 (Or.inl rfl) rfl (hf_of 11 s8.1 rfl (by decide) m11_122) (s8.2 2 _ rfl rfl).1 ?_
  refine x_iload_n (pc' := 159) 1 (dX13_value_2 57 rfl rfl) rfl rfl rfl ?_
  refine x_inv (pc' := 162) (ν := mX6_parts) (av := [_, _]) (st := [_]) rfl rfl (dX13_value_2 58 rfl rfl) (Nat.le_of_ble_eq_true rfl) wX6_parts q220 (inv_V (k := 4) (dX13_value_2 58 rfl rfl) q3383 q3384 q3385 wX6_parts (by decide) lX6_parts (by decide) s3.1) (exN (by decide)) rfl ?_
  refine C.mono hf (fun _ _ => KI.g (fun x3 h1 hf le2 => ?_))
  replace s3 := s3.le sc3 (le2)
  replace s8 := s8.le sc8 (le2)
  refine x_icmp_ge (pc' := 165) (tgt := 200) (dX13_value_2 59 rfl rfl) (by decide) rfl (fun c4 => ?_) (fun c4 => ?_)
  · replace hf := hf.1 c4
    refine x_aload_n (pc' := 201) 0 (dX13_value_2 78 rfl rfl) rfl rfl rfl ?_
    refine x_bipush (pc' := 203) (v := 41) (dX13_value_2 79 rfl rfl) (by decide) rfl ?_
    refine x_inv (pc' := 206) (ν := mX13_put) (av := [_, _]) (st := []) rfl rfl (dX13_value_2 80 rfl rfl) (Nat.le_of_ble_eq_true rfl) wX13_put q227 (inv_V (k := 11) (dX13_value_2 80 rfl rfl) q3340 q3342 qs60 wX13_put (by decide) lX13_put (by decide) s8.1) (exN (by decide)) rfl ?_
    refine C.mono hf (fun _ _ => KV.g (fun h5 hf le6 => ?_))
    replace s3 := s3.le sc3 (le6)
    replace s8 := s8.le sc8 (le6)
    refine x_goto (tgt := 308) (dX13_value_2 81 rfl rfl) (by decide) ?_
    exact x_vret (dX13_value_2 131 rfl rfl) rfl hf
  · replace hf := hf.2 c4
    refine x_iload (pc' := 167) 3 (dX13_value_2 60 rfl rfl) rfl rfl ?_
    refine x_if_le (pc' := 170) (tgt := 176) (dX13_value_2 61 rfl rfl) (by decide) rfl (fun c7 => ?_) (fun c7 => ?_)
    · replace hf := hf.1 c7
      refine x_aload_n (pc' := 177) 0 (dX13_value_2 65 rfl rfl) rfl rfl rfl ?_
      refine x_aload_n (pc' := 178) 0 (dX13_value_2 66 rfl rfl) rfl rfl rfl ?_
      refine x_getR (pc' := 181) (dX13_value_2 67 rfl rfl) g122 q884 (Or.inl rfl) rfl (hf_of 11 s8.1 rfl (by decide) m11_122) (s8.2 2 _ rfl rfl).1 ?_
      refine x_iload_n (pc' := 182) 1 (dX13_value_2 68 rfl rfl) rfl rfl rfl ?_
      refine x_iload (pc' := 184) 3 (dX13_value_2 69 rfl rfl) rfl rfl ?_
      refine x_inv (pc' := 187) (ν := mX6_part) (av := [_, _, _]) (st := [_]) rfl rfl (dX13_value_2 70 rfl rfl) (Nat.le_of_ble_eq_true rfl) wX6_part q220 (inv_V (k := 4) (dX13_value_2 70 rfl rfl) q3387 q3094 q3095 wX6_part (by decide) lX6_part (by decide) s3.1) (exN (by decide)) rfl ?_
      refine C.mono hf (fun _ _ => KI.g (fun x10 h8 hf le9 => ?_))
      replace s3 := s3.le sc3 (le9)
      replace s8 := s8.le sc8 (le9)
      refine x_iload_n (pc' := 188) 2 (dX13_value_2 71 rfl rfl) rfl rfl rfl ?_
      refine x_iconst (pc' := 189) (v := 1) (dX13_value_2 72 rfl rfl) (by decide) rfl ?_
      refine x_iadd (pc' := 190) (dX13_value_2 73 rfl rfl) rfl ?_
      refine x_iconst (pc' := 191) (v := 0) (dX13_value_2 74 rfl rfl) (by decide) rfl ?_
      refine x_inv (pc' := 194) (ν := mX13_value_2) (av := [_, _, _, _]) (st := []) rfl rfl (dX13_value_2 75 rfl rfl) (Nat.le_of_ble_eq_true rfl) wX13_value_2 q227 (inv_V (k := 11) (dX13_value_2 75 rfl rfl) q3370 q3372 qs64 wX13_value_2 (by decide) lX13_value_2 (by decide) s8.1) (exN (by decide)) rfl ?_
      refine C.mono hf (fun _ _ => KV.g (fun h11 hf le12 => ?_))
      replace s3 := s3.le sc3 (le12)
      replace s8 := s8.le sc8 (le12)
      replace hf := hf _ rfl
      refine x_iinc (pc' := 197) 3 (dX13_value_2 76 rfl rfl) rfl (by rfl) (by decide) rfl rfl ?_
      refine x_goto (tgt := 152) (dX13_value_2 77 rfl rfl) (by decide) ?_
      exact X.sub [1, 2, 3, 0] rfl (by simp) hf
    · replace hf := hf.2 c7
      refine x_aload_n (pc' := 171) 0 (dX13_value_2 62 rfl rfl) rfl rfl rfl ?_
      refine x_ldcS (pc' := 173) (tx := ", ") (i := 32) (dX13_value_2 63 rfl rfl) (List.mem_of_getElem? (i := 33) rfl) rfl ?_
      refine x_inv (pc' := 176) (ν := mX13_put_2) (av := [_, _]) (st := []) rfl rfl (dX13_value_2 64 rfl rfl) (Nat.le_of_ble_eq_true rfl) wX13_put_2 q227 (inv_V (k := 11) (dX13_value_2 64 rfl rfl) q3354 q3356 qs62 wX13_put_2 (by decide) lX13_put_2 (by decide) s8.1) (exN (by decide)) rfl ?_
      refine C.mono hf (fun _ _ => KV.g (fun h14 hf le15 => ?_))
      replace s3 := s3.le sc3 (le15)
      replace s8 := s8.le sc8 (le15)
      refine x_aload_n (pc' := 177) 0 (dX13_value_2 65 rfl rfl) rfl rfl rfl ?_
      refine x_aload_n (pc' := 178) 0 (dX13_value_2 66 rfl rfl) rfl rfl rfl ?_
      refine x_getR (pc' := 181) (dX13_value_2 67 rfl rfl) g122 q884 (Or.inl rfl) rfl (hf_of 11 s8.1 rfl (by decide) m11_122) (s8.2 2 _ rfl rfl).1 ?_
      refine x_iload_n (pc' := 182) 1 (dX13_value_2 68 rfl rfl) rfl rfl rfl ?_
      refine x_iload (pc' := 184) 3 (dX13_value_2 69 rfl rfl) rfl rfl ?_
      refine x_inv (pc' := 187) (ν := mX6_part) (av := [_, _, _]) (st := [_]) rfl rfl (dX13_value_2 70 rfl rfl) (Nat.le_of_ble_eq_true rfl) wX6_part q220 (inv_V (k := 4) (dX13_value_2 70 rfl rfl) q3387 q3094 q3095 wX6_part (by decide) lX6_part (by decide) s3.1) (exN (by decide)) rfl ?_
      refine C.mono hf (fun _ _ => KI.g (fun x18 h16 hf le17 => ?_))
      replace s3 := s3.le sc3 (le17)
      replace s8 := s8.le sc8 (le17)
      refine x_iload_n (pc' := 188) 2 (dX13_value_2 71 rfl rfl) rfl rfl rfl ?_
      refine x_iconst (pc' := 189) (v := 1) (dX13_value_2 72 rfl rfl) (by decide) rfl ?_
      refine x_iadd (pc' := 190) (dX13_value_2 73 rfl rfl) rfl ?_
      refine x_iconst (pc' := 191) (v := 0) (dX13_value_2 74 rfl rfl) (by decide) rfl ?_
      refine x_inv (pc' := 194) (ν := mX13_value_2) (av := [_, _, _, _]) (st := []) rfl rfl (dX13_value_2 75 rfl rfl) (Nat.le_of_ble_eq_true rfl) wX13_value_2 q227 (inv_V (k := 11) (dX13_value_2 75 rfl rfl) q3370 q3372 qs64 wX13_value_2 (by decide) lX13_value_2 (by decide) s8.1) (exN (by decide)) rfl ?_
      refine C.mono hf (fun _ _ => KV.g (fun h19 hf le20 => ?_))
      replace s3 := s3.le sc3 (le20)
      replace s8 := s8.le sc8 (le20)
      replace hf := hf _ rfl
      refine x_iinc (pc' := 197) 3 (dX13_value_2 76 rfl rfl) rfl (by rfl) (by decide) rfl rfl ?_
      refine x_goto (tgt := 152) (dX13_value_2 77 rfl rfl) (by decide) ?_
      exact X.sub [1, 2, 3, 0] rfl (by simp) hf
theorem bX13_value_2_218 (G : Gh) (d : Nat) (h : AH) (Q : Outcome → AH → Prop) (l1 : Int32) (l2 : Int32) (l4 : Int32) (s3 : So 3 (gW G) h) (s8 : So 8 (gW G) h) (hf : C G mX6_isPair d [.ref (gW G 3), .int (l4)] h (KI Q (fun x3 h1 => (x3 = 0 → (C G mX13_put d [.ref (gW G 8), .int (93)] h1 (KV Q (fun h5 => Q (.returned none) h5)))) ∧ (¬ x3 = 0 → ((2000 ≤ (fI h1 (gW G 8) 120) → (C G mX13_put d [.ref (gW G 8), .int (93)] h1 (KV Q (fun h8 => Q (.returned none) h8)))) ∧ (¬ (2000 ≤ (fI h1 (gW G 8) 120)) → ((l4 = l1 → (C G mX6_head d [.ref (gW G 3), .int (l4)] h1 (KI Q (fun x13 h11 => C G mX13_value_2 d [.ref (gW G 8), .int (x13), .int (l2 + 1), .int (0)] h11 (KV Q (fun h14 => C G mX6_tail d [.ref (gW G 3), .int (l4)] h14 (KI Q (fun x18 h16 => X G mX13_value_2 (d + 1) none [] 218 [(0, .ref (gW G 8)), (1, .int (l1)), (2, .int (l2)), (4, .int (x18))] [] h16 Q)))))))) ∧ (¬ l4 = l1 → (C G mX13_put_2 d [.ref (gW G 8), .ref (G.2.2.2.1 32)] h1 (KV Q (fun h19 => C G mX6_head d [.ref (gW G 3), .int (l4)] h19 (KI Q (fun x23 h21 => C G mX13_value_2 d [.ref (gW G 8), .int (x23), .int (l2 + 1), .int (0)] h21 (KV Q (fun h24 => C G mX6_tail d [.ref (gW G 3), .int (l4)] h24 (KI Q (fun x28 h26 => X G mX13_value_2 (d + 1) none [] 218 [(0, .ref (gW G 8)), (1, .int (l1)), (2, .int (l2)), (4, .int (x28))] [] h26 Q))))))))))))))))) : X G mX13_value_2 (d + 1) none [] 218 [(0, .ref (gW G 8)), (1, .int (l1)), (2, .int (l2)), (4, .int (l4))] [] h Q := by
  refine x_aload_n (pc' := 219) 0 (dX13_value_2 87 rfl rfl) rfl rfl rfl ?_
  refine x_getR (pc' := 222) (dX13_value_2 88 rfl rfl) g122 q884 (Or.inl rfl) rfl (hf_of 11 s8.1 rfl (by decide) m11_122) (s8.2 2 _ rfl rfl).1 ?_
  refine x_iload (pc' := 224) 3 (dX13_value_2 89 rfl rfl) rfl rfl ?_
  refine x_inv (pc' := 227) (ν := mX6_isPair) (av := [_, _]) (st := []) rfl rfl (dX13_value_2 90 rfl rfl) (Nat.le_of_ble_eq_true rfl) wX6_isPair q220 (inv_V (k := 4) (dX13_value_2 90 rfl rfl) q3388 q3128 q3129 wX6_isPair (by decide) lX6_isPair (by decide) s3.1) (exN (by decide)) rfl ?_
  refine C.mono hf (fun _ _ => KI.g (fun x3 h1 hf le2 => ?_))
  replace s3 := s3.le sc3 (le2)
  replace s8 := s8.le sc8 (le2)
  refine x_if_eq (pc' := 230) (tgt := 283) (dX13_value_2 91 rfl rfl) (by decide) rfl (fun c4 => ?_) (fun c4 => ?_)
  · replace hf := hf.1 c4
    refine x_aload_n (pc' := 284) 0 (dX13_value_2 118 rfl rfl) rfl rfl rfl ?_
    refine x_bipush (pc' := 286) (v := 93) (dX13_value_2 119 rfl rfl) (by decide) rfl ?_
    refine x_inv (pc' := 289) (ν := mX13_put) (av := [_, _]) (st := []) rfl rfl (dX13_value_2 120 rfl rfl) (Nat.le_of_ble_eq_true rfl) wX13_put q227 (inv_V (k := 11) (dX13_value_2 120 rfl rfl) q3340 q3342 qs60 wX13_put (by decide) lX13_put (by decide) s8.1) (exN (by decide)) rfl ?_
    refine C.mono hf (fun _ _ => KV.g (fun h5 hf le6 => ?_))
    replace s3 := s3.le sc3 (le6)
    replace s8 := s8.le sc8 (le6)
    refine x_goto (tgt := 308) (dX13_value_2 121 rfl rfl) (by decide) ?_
    exact x_vret (dX13_value_2 131 rfl rfl) rfl hf
  · replace hf := hf.2 c4
    refine x_aload_n (pc' := 231) 0 (dX13_value_2 92 rfl rfl) rfl rfl rfl ?_
    refine x_getI (pc' := 234) (dX13_value_2 93 rfl rfl) g120 q881 (Or.inl rfl) rfl (hf_of 11 s8.1 rfl (by decide) m11_120) ?_
    refine x_sipush (pc' := 237) (v := 2000) (dX13_value_2 94 rfl rfl) (by decide) rfl ?_
    refine x_icmp_ge (pc' := 240) (tgt := 283) (dX13_value_2 95 rfl rfl) (by decide) rfl (fun c7 => ?_) (fun c7 => ?_)
    · replace hf := hf.1 c7
      refine x_aload_n (pc' := 284) 0 (dX13_value_2 118 rfl rfl) rfl rfl rfl ?_
      refine x_bipush (pc' := 286) (v := 93) (dX13_value_2 119 rfl rfl) (by decide) rfl ?_
      refine x_inv (pc' := 289) (ν := mX13_put) (av := [_, _]) (st := []) rfl rfl (dX13_value_2 120 rfl rfl) (Nat.le_of_ble_eq_true rfl) wX13_put q227 (inv_V (k := 11) (dX13_value_2 120 rfl rfl) q3340 q3342 qs60 wX13_put (by decide) lX13_put (by decide) s8.1) (exN (by decide)) rfl ?_
      refine C.mono hf (fun _ _ => KV.g (fun h8 hf le9 => ?_))
      replace s3 := s3.le sc3 (le9)
      replace s8 := s8.le sc8 (le9)
      refine x_goto (tgt := 308) (dX13_value_2 121 rfl rfl) (by decide) ?_
      exact x_vret (dX13_value_2 131 rfl rfl) rfl hf
    · replace hf := hf.2 c7
      refine x_iload (pc' := 242) 3 (dX13_value_2 96 rfl rfl) rfl rfl ?_
      refine x_iload_n (pc' := 243) 1 (dX13_value_2 97 rfl rfl) rfl rfl rfl ?_
      refine x_icmp_eq (pc' := 246) (tgt := 252) (dX13_value_2 98 rfl rfl) (by decide) rfl (fun c10 => ?_) (fun c10 => ?_)
      · replace hf := hf.1 c10
        refine x_aload_n (pc' := 253) 0 (dX13_value_2 102 rfl rfl) rfl rfl rfl ?_
        refine x_aload_n (pc' := 254) 0 (dX13_value_2 103 rfl rfl) rfl rfl rfl ?_
        refine x_getR (pc' := 257) (dX13_value_2 104 rfl rfl) g122 q884 (Or.inl rfl) rfl (hf_of 11 s8.1 rfl (by decide) m11_122) (s8.2 2 _ rfl rfl).1 ?_
        refine x_iload (pc' := 259) 3 (dX13_value_2 105 rfl rfl) rfl rfl ?_
        refine x_inv (pc' := 262) (ν := mX6_head) (av := [_, _]) (st := [_]) rfl rfl (dX13_value_2 106 rfl rfl) (Nat.le_of_ble_eq_true rfl) wX6_head q220 (inv_V (k := 4) (dX13_value_2 106 rfl rfl) q3389 q3132 q3133 wX6_head (by decide) lX6_head (by decide) s3.1) (exN (by decide)) rfl ?_
        refine C.mono hf (fun _ _ => KI.g (fun x13 h11 hf le12 => ?_))
        replace s3 := s3.le sc3 (le12)
        replace s8 := s8.le sc8 (le12)
        refine x_iload_n (pc' := 263) 2 (dX13_value_2 107 rfl rfl) rfl rfl rfl ?_
        refine x_iconst (pc' := 264) (v := 1) (dX13_value_2 108 rfl rfl) (by decide) rfl ?_
        refine x_iadd (pc' := 265) (dX13_value_2 109 rfl rfl) rfl ?_
        refine x_iconst (pc' := 266) (v := 0) (dX13_value_2 110 rfl rfl) (by decide) rfl ?_
        refine x_inv (pc' := 269) (ν := mX13_value_2) (av := [_, _, _, _]) (st := []) rfl rfl (dX13_value_2 111 rfl rfl) (Nat.le_of_ble_eq_true rfl) wX13_value_2 q227 (inv_V (k := 11) (dX13_value_2 111 rfl rfl) q3370 q3372 qs64 wX13_value_2 (by decide) lX13_value_2 (by decide) s8.1) (exN (by decide)) rfl ?_
        refine C.mono hf (fun _ _ => KV.g (fun h14 hf le15 => ?_))
        replace s3 := s3.le sc3 (le15)
        replace s8 := s8.le sc8 (le15)
        refine x_aload_n (pc' := 270) 0 (dX13_value_2 112 rfl rfl) rfl rfl rfl ?_
        refine x_getR (pc' := 273) (dX13_value_2 113 rfl rfl) g122 q884 (Or.inl rfl) rfl (hf_of 11 s8.1 rfl (by decide) m11_122) (s8.2 2 _ rfl rfl).1 ?_
        refine x_iload (pc' := 275) 3 (dX13_value_2 114 rfl rfl) rfl rfl ?_
        refine x_inv (pc' := 278) (ν := mX6_tail) (av := [_, _]) (st := []) rfl rfl (dX13_value_2 115 rfl rfl) (Nat.le_of_ble_eq_true rfl) wX6_tail q220 (inv_V (k := 4) (dX13_value_2 115 rfl rfl) q3390 q3154 q3155 wX6_tail (by decide) lX6_tail (by decide) s3.1) (exN (by decide)) rfl ?_
        refine C.mono hf (fun _ _ => KI.g (fun x18 h16 hf le17 => ?_))
        replace s3 := s3.le sc3 (le17)
        replace s8 := s8.le sc8 (le17)
        refine x_istore (pc' := 280) (dX13_value_2 116 rfl rfl) (by decide) rfl rfl ?_
        refine x_goto (tgt := 218) (dX13_value_2 117 rfl rfl) (by decide) ?_
        exact X.sub [1, 2, 3, 0] rfl (by simp) hf
      · replace hf := hf.2 c10
        refine x_aload_n (pc' := 247) 0 (dX13_value_2 99 rfl rfl) rfl rfl rfl ?_
        refine x_ldcS (pc' := 249) (tx := ", ") (i := 32) (dX13_value_2 100 rfl rfl) (List.mem_of_getElem? (i := 33) rfl) rfl ?_
        refine x_inv (pc' := 252) (ν := mX13_put_2) (av := [_, _]) (st := []) rfl rfl (dX13_value_2 101 rfl rfl) (Nat.le_of_ble_eq_true rfl) wX13_put_2 q227 (inv_V (k := 11) (dX13_value_2 101 rfl rfl) q3354 q3356 qs62 wX13_put_2 (by decide) lX13_put_2 (by decide) s8.1) (exN (by decide)) rfl ?_
        refine C.mono hf (fun _ _ => KV.g (fun h19 hf le20 => ?_))
        replace s3 := s3.le sc3 (le20)
        replace s8 := s8.le sc8 (le20)
        refine x_aload_n (pc' := 253) 0 (dX13_value_2 102 rfl rfl) rfl rfl rfl ?_
        refine x_aload_n (pc' := 254) 0 (dX13_value_2 103 rfl rfl) rfl rfl rfl ?_
        refine x_getR (pc' := 257) (dX13_value_2 104 rfl rfl) g122 q884 (Or.inl rfl) rfl (hf_of 11 s8.1 rfl (by decide) m11_122) (s8.2 2 _ rfl rfl).1 ?_
        refine x_iload (pc' := 259) 3 (dX13_value_2 105 rfl rfl) rfl rfl ?_
        refine x_inv (pc' := 262) (ν := mX6_head) (av := [_, _]) (st := [_]) rfl rfl (dX13_value_2 106 rfl rfl) (Nat.le_of_ble_eq_true rfl) wX6_head q220 (inv_V (k := 4) (dX13_value_2 106 rfl rfl) q3389 q3132 q3133 wX6_head (by decide) lX6_head (by decide) s3.1) (exN (by decide)) rfl ?_
        refine C.mono hf (fun _ _ => KI.g (fun x23 h21 hf le22 => ?_))
        replace s3 := s3.le sc3 (le22)
        replace s8 := s8.le sc8 (le22)
        refine x_iload_n (pc' := 263) 2 (dX13_value_2 107 rfl rfl) rfl rfl rfl ?_
        refine x_iconst (pc' := 264) (v := 1) (dX13_value_2 108 rfl rfl) (by decide) rfl ?_
        refine x_iadd (pc' := 265) (dX13_value_2 109 rfl rfl) rfl ?_
        refine x_iconst (pc' := 266) (v := 0) (dX13_value_2 110 rfl rfl) (by decide) rfl ?_
        refine x_inv (pc' := 269) (ν := mX13_value_2) (av := [_, _, _, _]) (st := []) rfl rfl (dX13_value_2 111 rfl rfl) (Nat.le_of_ble_eq_true rfl) wX13_value_2 q227 (inv_V (k := 11) (dX13_value_2 111 rfl rfl) q3370 q3372 qs64 wX13_value_2 (by decide) lX13_value_2 (by decide) s8.1) (exN (by decide)) rfl ?_
        refine C.mono hf (fun _ _ => KV.g (fun h24 hf le25 => ?_))
        replace s3 := s3.le sc3 (le25)
        replace s8 := s8.le sc8 (le25)
        refine x_aload_n (pc' := 270) 0 (dX13_value_2 112 rfl rfl) rfl rfl rfl ?_
        refine x_getR (pc' := 273) (dX13_value_2 113 rfl rfl) g122 q884 (Or.inl rfl) rfl (hf_of 11 s8.1 rfl (by decide) m11_122) (s8.2 2 _ rfl rfl).1 ?_
        refine x_iload (pc' := 275) 3 (dX13_value_2 114 rfl rfl) rfl rfl ?_
        refine x_inv (pc' := 278) (ν := mX6_tail) (av := [_, _]) (st := []) rfl rfl (dX13_value_2 115 rfl rfl) (Nat.le_of_ble_eq_true rfl) wX6_tail q220 (inv_V (k := 4) (dX13_value_2 115 rfl rfl) q3390 q3154 q3155 wX6_tail (by decide) lX6_tail (by decide) s3.1) (exN (by decide)) rfl ?_
        refine C.mono hf (fun _ _ => KI.g (fun x28 h26 hf le27 => ?_))
        replace s3 := s3.le sc3 (le27)
        replace s8 := s8.le sc8 (le27)
        refine x_istore (pc' := 280) (dX13_value_2 116 rfl rfl) (by decide) rfl rfl ?_
        refine x_goto (tgt := 218) (dX13_value_2 117 rfl rfl) (by decide) ?_
        exact X.sub [1, 2, 3, 0] rfl (by simp) hf
theorem bX13_named (G : Gh) (d : Nat) (h : AH) (Q : Outcome → AH → Prop) (p1 : Int32) (p2 : Int32) (p3 : Int32) (s3 : So 3 (gW G) h) (s8 : So 8 (gW G) h) (hf : C G mX6_tag d [.ref (gW G 3), .int (p1)] h (KI Q (fun x3 h1 => (x3 = 7 → (X G mX13_named (d + 1) none [] 44 [(0, .ref (gW G 8)), (1, .int (p1)), (2, .int (p2)), (3, .int (p3)), (4, .int (1))] [.int (1)] h1 Q)) ∧ (¬ x3 = 7 → (C G mX6_con d [.ref (gW G 3), .int (p1)] h1 (KR Q (fun b8 h6 => hK h6 b8 = 54 ∧ (((fI h6 b8 371) = 0 → (X G mX13_named (d + 1) none [] 44 [(0, .ref (gW G 8)), (1, .int (p1)), (2, .int (p2)), (3, .int (p3)), (4, .int (0))] [.int (0)] h6 Q)) ∧ (¬ ((fI h6 b8 371) = 0) → (X G mX13_named (d + 1) none [] 44 [(0, .ref (gW G 8)), (1, .int (p1)), (2, .int (p2)), (3, .int (p3)), (4, .int (0))] [.int (1)] h6 Q)))))))))) : C G mX13_named (d + 1) [.ref (gW G 8), .int (p1), .int (p2), .int (p3)] h Q := by
  refine C.of_X (by decide +kernel) (Nat.le_of_ble_eq_true rfl) wX13_named ?_
  show X G mX13_named (d + 1) none [] 0 [(0, .ref (gW G 8)), (1, .int (p1)), (2, .int (p2)), (3, .int (p3))] [] h Q
  refine x_aload_n (pc' := 1) 0 (dX13_named 0 rfl rfl) rfl rfl rfl ?_
  refine x_getR (pc' := 4) (dX13_named 1 rfl rfl) g122 q884 (Or.inl rfl) rfl (hf_of 11 s8.1 rfl (by decide) m11_122) (s8.2 2 _ rfl rfl).1 ?_
  refine x_iload_n (pc' := 5) 1 (dX13_named 2 rfl rfl) rfl rfl rfl ?_
  refine x_inv (pc' := 8) (ν := mX6_tag) (av := [_, _]) (st := []) rfl rfl (dX13_named 3 rfl rfl) (Nat.le_of_ble_eq_true rfl) wX6_tag q220 (inv_V (k := 4) (dX13_named 3 rfl rfl) q3374 q3071 q3072 wX6_tag (by decide) lX6_tag (by decide) s3.1) (exN (by decide)) rfl ?_
  refine C.mono hf (fun _ _ => KI.g (fun x3 h1 hf le2 => ?_))
  replace s3 := s3.le sc3 (le2)
  replace s8 := s8.le sc8 (le2)
  refine x_bipush (pc' := 10) (v := 7) (dX13_named 4 rfl rfl) (by decide) rfl ?_
  refine x_icmp_ne (pc' := 13) (tgt := 17) (dX13_named 5 rfl rfl) (by decide) rfl (fun c4 => ?_) (fun c4 => ?_)
  · replace hf := hf.2 c4
    refine x_iconst (pc' := 18) (v := 0) (dX13_named 8 rfl rfl) (by decide) rfl ?_
    refine x_istore (pc' := 20) (dX13_named 9 rfl rfl) (by decide) rfl rfl ?_
    refine x_iload (pc' := 22) 0 (dX13_named 10 rfl rfl) rfl rfl ?_
    refine x_if_ne (pc' := 25) (tgt := 39) (dX13_named 11 rfl rfl) (by decide) rfl (fun c5 => ?_) (fun c5 => ?_)
    · exact absurd (by decide) c5
    · refine x_aload_n (pc' := 26) 1 (dX13_named 12 rfl rfl) rfl rfl rfl ?_
      refine x_getR (pc' := 29) (dX13_named 13 rfl rfl) g122 q884 (Or.inl rfl) rfl (hf_of 11 s8.1 rfl (by decide) m11_122) (s8.2 2 _ rfl rfl).1 ?_
      refine x_iload_n (pc' := 30) 2 (dX13_named 14 rfl rfl) rfl rfl rfl ?_
      refine x_inv (pc' := 33) (ν := mX6_con) (av := [_, _]) (st := []) rfl rfl (dX13_named 15 rfl rfl) (Nat.le_of_ble_eq_true rfl) wX6_con q220 (inv_V (k := 4) (dX13_named 15 rfl rfl) q3395 q3113 q3114 wX6_con (by decide) lX6_con (by decide) s3.1) (exN (by decide)) rfl ?_
      refine C.mono hf (fun _ _ => KR.g (fun b8 h6 hf le7 => ?_))
      replace s3 := s3.le sc3 (le7)
      replace s8 := s8.le sc8 (le7)
      obtain ⟨k9, hf⟩ := hf
      refine x_getZ (pc' := 36) (dX13_named 16 rfl rfl) g371 q2150 (Or.inl rfl) rfl (hf_of 53 k9 rfl (by decide) m53_371) ?_
      refine x_if_eq (pc' := 39) (tgt := 43) (dX13_named 17 rfl rfl) (by decide) rfl (fun c10 => ?_) (fun c10 => ?_)
      · replace hf := hf.1 c10
        refine x_iconst (pc' := 44) (v := 0) (dX13_named 20 rfl rfl) (by decide) rfl ?_
        exact X.sub [1, 2, 3, 4, 0] rfl (by simp) hf
      · replace hf := hf.2 c10
        refine x_iconst (pc' := 40) (v := 1) (dX13_named 18 rfl rfl) (by decide) rfl ?_
        refine x_goto (tgt := 44) (dX13_named 19 rfl rfl) (by decide) ?_
        exact X.sub [1, 2, 3, 4, 0] rfl (by simp) hf
  · replace hf := hf.1 (Classical.not_not.mp c4)
    replace c4 := Classical.not_not.mp c4
    refine x_iconst (pc' := 14) (v := 1) (dX13_named 6 rfl rfl) (by decide) rfl ?_
    refine x_goto (tgt := 18) (dX13_named 7 rfl rfl) (by decide) ?_
    refine x_istore (pc' := 20) (dX13_named 9 rfl rfl) (by decide) rfl rfl ?_
    refine x_iload (pc' := 22) 0 (dX13_named 10 rfl rfl) rfl rfl ?_
    refine x_if_ne (pc' := 25) (tgt := 39) (dX13_named 11 rfl rfl) (by decide) rfl (fun c11 => ?_) (fun c11 => ?_)
    · refine x_iconst (pc' := 40) (v := 1) (dX13_named 18 rfl rfl) (by decide) rfl ?_
      refine x_goto (tgt := 44) (dX13_named 19 rfl rfl) (by decide) ?_
      exact X.sub [1, 2, 3, 4, 0] rfl (by simp) hf
    · exact absurd (by decide) c11
theorem bX13_named_44 (G : Gh) (d : Nat) (h : AH) (Q : Outcome → AH → Prop) (l1 : Int32) (l2 : Int32) (l3 : Int32) (l4 : Int32) (t0 : Int32) (s3 : So 3 (gW G) h) (s8 : So 8 (gW G) h) (hf : (t0 = 0 → ((l4 = 0 → (C G mX6_con d [.ref (gW G 3), .int (l1)] h (KR Q (fun b5 h3 => hK h3 b5 = 54 ∧ (C G mX6_con d [.ref (gW G 3), .int (l1)] h3 (KR Q (fun b9 h7 => hK h7 b9 = 54 ∧ (C G mX13_name d [.ref (gW G 8), .long (fJ h3 b5 366), .long (fJ h7 b9 367)] h7 (KV Q (fun h11 => X G mX13_named (d + 1) none [] 101 [(0, .ref (gW G 8)), (1, .int (l1)), (2, .int (l2)), (3, .int (l3)), (4, .int (l4)), (5, .int (t0))] [] h11 Q)))))))))) ∧ (¬ l4 = 0 → (C G mX13_put_2 d [.ref (gW G 8), .ref (G.2.2.2.1 1)] h (KV Q (fun h13 => X G mX13_named (d + 1) none [] 101 [(0, .ref (gW G 8)), (1, .int (l1)), (2, .int (l2)), (3, .int (l3)), (4, .int (l4)), (5, .int (t0))] [] h13 Q)))))) ∧ (¬ t0 = 0 → ((l3 = 0 → ((l4 = 0 → (C G mX6_con d [.ref (gW G 3), .int (l1)] h (KR Q (fun b19 h17 => hK h17 b19 = 54 ∧ (C G mX6_con d [.ref (gW G 3), .int (l1)] h17 (KR Q (fun b23 h21 => hK h21 b23 = 54 ∧ (C G mX13_name d [.ref (gW G 8), .long (fJ h17 b19 366), .long (fJ h21 b23 367)] h21 (KV Q (fun h25 => X G mX13_named (d + 1) none [] 101 [(0, .ref (gW G 8)), (1, .int (l1)), (2, .int (l2)), (3, .int (l3)), (4, .int (l4)), (5, .int (t0))] [] h25 Q)))))))))) ∧ (¬ l4 = 0 → (C G mX13_put_2 d [.ref (gW G 8), .ref (G.2.2.2.1 1)] h (KV Q (fun h27 => X G mX13_named (d + 1) none [] 101 [(0, .ref (gW G 8)), (1, .int (l1)), (2, .int (l2)), (3, .int (l3)), (4, .int (l4)), (5, .int (t0))] [] h27 Q)))))) ∧ (¬ l3 = 0 → (C G mX13_put d [.ref (gW G 8), .int (40)] h (KV Q (fun h29 => (l4 = 0 → (C G mX6_con d [.ref (gW G 3), .int (l1)] h29 (KR Q (fun b34 h32 => hK h32 b34 = 54 ∧ (C G mX6_con d [.ref (gW G 3), .int (l1)] h32 (KR Q (fun b38 h36 => hK h36 b38 = 54 ∧ (C G mX13_name d [.ref (gW G 8), .long (fJ h32 b34 366), .long (fJ h36 b38 367)] h36 (KV Q (fun h40 => X G mX13_named (d + 1) none [] 101 [(0, .ref (gW G 8)), (1, .int (l1)), (2, .int (l2)), (3, .int (l3)), (4, .int (l4)), (5, .int (t0))] [] h40 Q)))))))))) ∧ (¬ l4 = 0 → (C G mX13_put_2 d [.ref (gW G 8), .ref (G.2.2.2.1 1)] h29 (KV Q (fun h42 => X G mX13_named (d + 1) none [] 101 [(0, .ref (gW G 8)), (1, .int (l1)), (2, .int (l2)), (3, .int (l3)), (4, .int (l4)), (5, .int (t0))] [] h42 Q))))))))))) : X G mX13_named (d + 1) none [] 44 [(0, .ref (gW G 8)), (1, .int (l1)), (2, .int (l2)), (3, .int (l3)), (4, .int (l4))] [.int (t0)] h Q := by
  refine x_istore (pc' := 46) (dX13_named 21 rfl rfl) (by decide) rfl rfl ?_
  refine x_iload (pc' := 48) 0 (dX13_named 22 rfl rfl) rfl rfl ?_
  refine x_if_eq (pc' := 51) (tgt := 61) (dX13_named 23 rfl rfl) (by decide) rfl (fun c1 => ?_) (fun c1 => ?_)
  · replace hf := hf.1 c1
    refine x_iload (pc' := 63) 5 (dX13_named 29 rfl rfl) rfl rfl ?_
    refine x_if_eq (pc' := 66) (tgt := 75) (dX13_named 30 rfl rfl) (by decide) rfl (fun c2 => ?_) (fun c2 => ?_)
    · replace hf := hf.1 c2
      refine x_aload_n (pc' := 76) 1 (dX13_named 35 rfl rfl) rfl rfl rfl ?_
      refine x_aload_n (pc' := 77) 1 (dX13_named 36 rfl rfl) rfl rfl rfl ?_
      refine x_getR (pc' := 80) (dX13_named 37 rfl rfl) g122 q884 (Or.inl rfl) rfl (hf_of 11 s8.1 rfl (by decide) m11_122) (s8.2 2 _ rfl rfl).1 ?_
      refine x_iload_n (pc' := 81) 2 (dX13_named 38 rfl rfl) rfl rfl rfl ?_
      refine x_inv (pc' := 84) (ν := mX6_con) (av := [_, _]) (st := [_]) rfl rfl (dX13_named 39 rfl rfl) (Nat.le_of_ble_eq_true rfl) wX6_con q220 (inv_V (k := 4) (dX13_named 39 rfl rfl) q3395 q3113 q3114 wX6_con (by decide) lX6_con (by decide) s3.1) (exN (by decide)) rfl ?_
      refine C.mono hf (fun _ _ => KR.g (fun b5 h3 hf le4 => ?_))
      replace s3 := s3.le sc3 (le4)
      replace s8 := s8.le sc8 (le4)
      obtain ⟨k6, hf⟩ := hf
      refine x_getJ (pc' := 87) (dX13_named 40 rfl rfl) g366 q2137 (Or.inl rfl) rfl (hf_of 53 k6 rfl (by decide) m53_366) ?_
      refine x_aload_n (pc' := 88) 1 (dX13_named 41 rfl rfl) rfl rfl rfl ?_
      refine x_getR (pc' := 91) (dX13_named 42 rfl rfl) g122 q884 (Or.inl rfl) rfl (hf_of 11 s8.1 rfl (by decide) m11_122) (s8.2 2 _ rfl rfl).1 ?_
      refine x_iload_n (pc' := 92) 2 (dX13_named 43 rfl rfl) rfl rfl rfl ?_
      refine x_inv (pc' := 95) (ν := mX6_con) (av := [_, _]) (st := [_, _]) rfl rfl (dX13_named 44 rfl rfl) (Nat.le_of_ble_eq_true rfl) wX6_con q220 (inv_V (k := 4) (dX13_named 44 rfl rfl) q3395 q3113 q3114 wX6_con (by decide) lX6_con (by decide) s3.1) (exN (by decide)) rfl ?_
      refine C.mono hf (fun _ _ => KR.g (fun b9 h7 hf le8 => ?_))
      have k6 := leK le8 k6 (by decide)
      replace s3 := s3.le sc3 (le8)
      replace s8 := s8.le sc8 (le8)
      obtain ⟨k10, hf⟩ := hf
      refine x_getJ (pc' := 98) (dX13_named 45 rfl rfl) g367 q2140 (Or.inl rfl) rfl (hf_of 53 k10 rfl (by decide) m53_367) ?_
      refine x_inv (pc' := 101) (ν := mX13_name) (av := [_, _, _]) (st := []) rfl rfl (dX13_named 46 rfl rfl) (Nat.le_of_ble_eq_true rfl) wX13_name q227 (inv_V (k := 11) (dX13_named 46 rfl rfl) q3361 q3363 qs63 wX13_name (by decide) lX13_name (by decide) s8.1) (exN (by decide)) rfl ?_
      refine C.mono hf (fun _ _ => KV.g (fun h11 hf le12 => ?_))
      have k6 := leK le12 k6 (by decide)
      have k10 := leK le12 k10 (by decide)
      replace s3 := s3.le sc3 (le12)
      replace s8 := s8.le sc8 (le12)
      exact X.sub [1, 2, 3, 4, 5, 0] rfl (by simp) hf
    · replace hf := hf.2 c2
      refine x_aload_n (pc' := 67) 1 (dX13_named 31 rfl rfl) rfl rfl rfl ?_
      refine x_ldcS (pc' := 69) (tx := "ref") (i := 1) (dX13_named 32 rfl rfl) (List.mem_of_getElem? (i := 38) rfl) rfl ?_
      refine x_inv (pc' := 72) (ν := mX13_put_2) (av := [_, _]) (st := []) rfl rfl (dX13_named 33 rfl rfl) (Nat.le_of_ble_eq_true rfl) wX13_put_2 q227 (inv_V (k := 11) (dX13_named 33 rfl rfl) q3354 q3356 qs62 wX13_put_2 (by decide) lX13_put_2 (by decide) s8.1) (exN (by decide)) rfl ?_
      refine C.mono hf (fun _ _ => KV.g (fun h13 hf le14 => ?_))
      replace s3 := s3.le sc3 (le14)
      replace s8 := s8.le sc8 (le14)
      refine x_goto (tgt := 101) (dX13_named 34 rfl rfl) (by decide) ?_
      exact X.sub [1, 2, 3, 4, 5, 0] rfl (by simp) hf
  · replace hf := hf.2 c1
    refine x_iload_n (pc' := 52) 4 (dX13_named 24 rfl rfl) rfl rfl rfl ?_
    refine x_if_eq (pc' := 55) (tgt := 61) (dX13_named 25 rfl rfl) (by decide) rfl (fun c15 => ?_) (fun c15 => ?_)
    · replace hf := hf.1 c15
      refine x_iload (pc' := 63) 5 (dX13_named 29 rfl rfl) rfl rfl ?_
      refine x_if_eq (pc' := 66) (tgt := 75) (dX13_named 30 rfl rfl) (by decide) rfl (fun c16 => ?_) (fun c16 => ?_)
      · replace hf := hf.1 c16
        refine x_aload_n (pc' := 76) 1 (dX13_named 35 rfl rfl) rfl rfl rfl ?_
        refine x_aload_n (pc' := 77) 1 (dX13_named 36 rfl rfl) rfl rfl rfl ?_
        refine x_getR (pc' := 80) (dX13_named 37 rfl rfl) g122 q884 (Or.inl rfl) rfl (hf_of 11 s8.1 rfl (by decide) m11_122) (s8.2 2 _ rfl rfl).1 ?_
        refine x_iload_n (pc' := 81) 2 (dX13_named 38 rfl rfl) rfl rfl rfl ?_
        refine x_inv (pc' := 84) (ν := mX6_con) (av := [_, _]) (st := [_]) rfl rfl (dX13_named 39 rfl rfl) (Nat.le_of_ble_eq_true rfl) wX6_con q220 (inv_V (k := 4) (dX13_named 39 rfl rfl) q3395 q3113 q3114 wX6_con (by decide) lX6_con (by decide) s3.1) (exN (by decide)) rfl ?_
        refine C.mono hf (fun _ _ => KR.g (fun b19 h17 hf le18 => ?_))
        replace s3 := s3.le sc3 (le18)
        replace s8 := s8.le sc8 (le18)
        obtain ⟨k20, hf⟩ := hf
        refine x_getJ (pc' := 87) (dX13_named 40 rfl rfl) g366 q2137 (Or.inl rfl) rfl (hf_of 53 k20 rfl (by decide) m53_366) ?_
        refine x_aload_n (pc' := 88) 1 (dX13_named 41 rfl rfl) rfl rfl rfl ?_
        refine x_getR (pc' := 91) (dX13_named 42 rfl rfl) g122 q884 (Or.inl rfl) rfl (hf_of 11 s8.1 rfl (by decide) m11_122) (s8.2 2 _ rfl rfl).1 ?_
        refine x_iload_n (pc' := 92) 2 (dX13_named 43 rfl rfl) rfl rfl rfl ?_
        refine x_inv (pc' := 95) (ν := mX6_con) (av := [_, _]) (st := [_, _]) rfl rfl (dX13_named 44 rfl rfl) (Nat.le_of_ble_eq_true rfl) wX6_con q220 (inv_V (k := 4) (dX13_named 44 rfl rfl) q3395 q3113 q3114 wX6_con (by decide) lX6_con (by decide) s3.1) (exN (by decide)) rfl ?_
        refine C.mono hf (fun _ _ => KR.g (fun b23 h21 hf le22 => ?_))
        have k20 := leK le22 k20 (by decide)
        replace s3 := s3.le sc3 (le22)
        replace s8 := s8.le sc8 (le22)
        obtain ⟨k24, hf⟩ := hf
        refine x_getJ (pc' := 98) (dX13_named 45 rfl rfl) g367 q2140 (Or.inl rfl) rfl (hf_of 53 k24 rfl (by decide) m53_367) ?_
        refine x_inv (pc' := 101) (ν := mX13_name) (av := [_, _, _]) (st := []) rfl rfl (dX13_named 46 rfl rfl) (Nat.le_of_ble_eq_true rfl) wX13_name q227 (inv_V (k := 11) (dX13_named 46 rfl rfl) q3361 q3363 qs63 wX13_name (by decide) lX13_name (by decide) s8.1) (exN (by decide)) rfl ?_
        refine C.mono hf (fun _ _ => KV.g (fun h25 hf le26 => ?_))
        have k20 := leK le26 k20 (by decide)
        have k24 := leK le26 k24 (by decide)
        replace s3 := s3.le sc3 (le26)
        replace s8 := s8.le sc8 (le26)
        exact X.sub [1, 2, 3, 4, 5, 0] rfl (by simp) hf
      · replace hf := hf.2 c16
        refine x_aload_n (pc' := 67) 1 (dX13_named 31 rfl rfl) rfl rfl rfl ?_
        refine x_ldcS (pc' := 69) (tx := "ref") (i := 1) (dX13_named 32 rfl rfl) (List.mem_of_getElem? (i := 38) rfl) rfl ?_
        refine x_inv (pc' := 72) (ν := mX13_put_2) (av := [_, _]) (st := []) rfl rfl (dX13_named 33 rfl rfl) (Nat.le_of_ble_eq_true rfl) wX13_put_2 q227 (inv_V (k := 11) (dX13_named 33 rfl rfl) q3354 q3356 qs62 wX13_put_2 (by decide) lX13_put_2 (by decide) s8.1) (exN (by decide)) rfl ?_
        refine C.mono hf (fun _ _ => KV.g (fun h27 hf le28 => ?_))
        replace s3 := s3.le sc3 (le28)
        replace s8 := s8.le sc8 (le28)
        refine x_goto (tgt := 101) (dX13_named 34 rfl rfl) (by decide) ?_
        exact X.sub [1, 2, 3, 4, 5, 0] rfl (by simp) hf
    · replace hf := hf.2 c15
      refine x_aload_n (pc' := 56) 1 (dX13_named 26 rfl rfl) rfl rfl rfl ?_
      refine x_bipush (pc' := 58) (v := 40) (dX13_named 27 rfl rfl) (by decide) rfl ?_
      refine x_inv (pc' := 61) (ν := mX13_put) (av := [_, _]) (st := []) rfl rfl (dX13_named 28 rfl rfl) (Nat.le_of_ble_eq_true rfl) wX13_put q227 (inv_V (k := 11) (dX13_named 28 rfl rfl) q3340 q3342 qs60 wX13_put (by decide) lX13_put (by decide) s8.1) (exN (by decide)) rfl ?_
      refine C.mono hf (fun _ _ => KV.g (fun h29 hf le30 => ?_))
      replace s3 := s3.le sc3 (le30)
      replace s8 := s8.le sc8 (le30)
      refine x_iload (pc' := 63) 5 (dX13_named 29 rfl rfl) rfl rfl ?_
      refine x_if_eq (pc' := 66) (tgt := 75) (dX13_named 30 rfl rfl) (by decide) rfl (fun c31 => ?_) (fun c31 => ?_)
      · replace hf := hf.1 c31
        refine x_aload_n (pc' := 76) 1 (dX13_named 35 rfl rfl) rfl rfl rfl ?_
        refine x_aload_n (pc' := 77) 1 (dX13_named 36 rfl rfl) rfl rfl rfl ?_
        refine x_getR (pc' := 80) (dX13_named 37 rfl rfl) g122 q884 (Or.inl rfl) rfl (hf_of 11 s8.1 rfl (by decide) m11_122) (s8.2 2 _ rfl rfl).1 ?_
        refine x_iload_n (pc' := 81) 2 (dX13_named 38 rfl rfl) rfl rfl rfl ?_
        refine x_inv (pc' := 84) (ν := mX6_con) (av := [_, _]) (st := [_]) rfl rfl (dX13_named 39 rfl rfl) (Nat.le_of_ble_eq_true rfl) wX6_con q220 (inv_V (k := 4) (dX13_named 39 rfl rfl) q3395 q3113 q3114 wX6_con (by decide) lX6_con (by decide) s3.1) (exN (by decide)) rfl ?_
        refine C.mono hf (fun _ _ => KR.g (fun b34 h32 hf le33 => ?_))
        replace s3 := s3.le sc3 (le33)
        replace s8 := s8.le sc8 (le33)
        obtain ⟨k35, hf⟩ := hf
        refine x_getJ (pc' := 87) (dX13_named 40 rfl rfl) g366 q2137 (Or.inl rfl) rfl (hf_of 53 k35 rfl (by decide) m53_366) ?_
        refine x_aload_n (pc' := 88) 1 (dX13_named 41 rfl rfl) rfl rfl rfl ?_
        refine x_getR (pc' := 91) (dX13_named 42 rfl rfl) g122 q884 (Or.inl rfl) rfl (hf_of 11 s8.1 rfl (by decide) m11_122) (s8.2 2 _ rfl rfl).1 ?_
        refine x_iload_n (pc' := 92) 2 (dX13_named 43 rfl rfl) rfl rfl rfl ?_
        refine x_inv (pc' := 95) (ν := mX6_con) (av := [_, _]) (st := [_, _]) rfl rfl (dX13_named 44 rfl rfl) (Nat.le_of_ble_eq_true rfl) wX6_con q220 (inv_V (k := 4) (dX13_named 44 rfl rfl) q3395 q3113 q3114 wX6_con (by decide) lX6_con (by decide) s3.1) (exN (by decide)) rfl ?_
        refine C.mono hf (fun _ _ => KR.g (fun b38 h36 hf le37 => ?_))
        have k35 := leK le37 k35 (by decide)
        replace s3 := s3.le sc3 (le37)
        replace s8 := s8.le sc8 (le37)
        obtain ⟨k39, hf⟩ := hf
        refine x_getJ (pc' := 98) (dX13_named 45 rfl rfl) g367 q2140 (Or.inl rfl) rfl (hf_of 53 k39 rfl (by decide) m53_367) ?_
        refine x_inv (pc' := 101) (ν := mX13_name) (av := [_, _, _]) (st := []) rfl rfl (dX13_named 46 rfl rfl) (Nat.le_of_ble_eq_true rfl) wX13_name q227 (inv_V (k := 11) (dX13_named 46 rfl rfl) q3361 q3363 qs63 wX13_name (by decide) lX13_name (by decide) s8.1) (exN (by decide)) rfl ?_
        refine C.mono hf (fun _ _ => KV.g (fun h40 hf le41 => ?_))
        have k35 := leK le41 k35 (by decide)
        have k39 := leK le41 k39 (by decide)
        replace s3 := s3.le sc3 (le41)
        replace s8 := s8.le sc8 (le41)
        exact X.sub [1, 2, 3, 4, 5, 0] rfl (by simp) hf
      · replace hf := hf.2 c31
        refine x_aload_n (pc' := 67) 1 (dX13_named 31 rfl rfl) rfl rfl rfl ?_
        refine x_ldcS (pc' := 69) (tx := "ref") (i := 1) (dX13_named 32 rfl rfl) (List.mem_of_getElem? (i := 38) rfl) rfl ?_
        refine x_inv (pc' := 72) (ν := mX13_put_2) (av := [_, _]) (st := []) rfl rfl (dX13_named 33 rfl rfl) (Nat.le_of_ble_eq_true rfl) wX13_put_2 q227 (inv_V (k := 11) (dX13_named 33 rfl rfl) q3354 q3356 qs62 wX13_put_2 (by decide) lX13_put_2 (by decide) s8.1) (exN (by decide)) rfl ?_
        refine C.mono hf (fun _ _ => KV.g (fun h42 hf le43 => ?_))
        replace s3 := s3.le sc3 (le43)
        replace s8 := s8.le sc8 (le43)
        refine x_goto (tgt := 101) (dX13_named 34 rfl rfl) (by decide) ?_
        exact X.sub [1, 2, 3, 4, 5, 0] rfl (by simp) hf
theorem bX13_named_101 (G : Gh) (d : Nat) (h : AH) (Q : Outcome → AH → Prop) (l1 : Int32) (l2 : Int32) (l3 : Int32) (l4 : Int32) (l5 : Int32) (s3 : So 3 (gW G) h) (s8 : So 8 (gW G) h) (hf : (l5 = 0 → (Q (.returned none) h)) ∧ (¬ l5 = 0 → (C G mX13_put d [.ref (gW G 8), .int (32)] h (KV Q (fun h3 => (l4 = 0 → (C G mX6_has d [.ref (gW G 3), .int (l1)] h3 (KI Q (fun x8 h6 => C G mX13_value_2 d [.ref (gW G 8), .int (x8), .int (l2 + 1), .int (1)] h6 (KV Q (fun h9 => (l3 = 0 → (Q (.returned none) h9)) ∧ (¬ l3 = 0 → (C G mX13_put d [.ref (gW G 8), .int (41)] h9 (KV Q (fun h13 => Q (.returned none) h13)))))))))) ∧ (¬ l4 = 0 → (C G mX6_head d [.ref (gW G 3), .int (l1)] h3 (KI Q (fun x17 h15 => C G mX13_value_2 d [.ref (gW G 8), .int (x17), .int (l2 + 1), .int (1)] h15 (KV Q (fun h18 => (l3 = 0 → (Q (.returned none) h18)) ∧ (¬ l3 = 0 → (C G mX13_put d [.ref (gW G 8), .int (41)] h18 (KV Q (fun h22 => Q (.returned none) h22))))))))))))))) : X G mX13_named (d + 1) none [] 101 [(0, .ref (gW G 8)), (1, .int (l1)), (2, .int (l2)), (3, .int (l3)), (4, .int (l4)), (5, .int (l5))] [] h Q := by
  refine x_iload (pc' := 103) 5 (dX13_named 47 rfl rfl) rfl rfl ?_
  refine x_if_eq (pc' := 106) (tgt := 144) (dX13_named 48 rfl rfl) (by decide) rfl (fun c1 => ?_) (fun c1 => ?_)
  · replace hf := hf.1 c1
    refine x_iload (pc' := 146) 5 (dX13_named 69 rfl rfl) rfl rfl ?_
    refine x_if_eq (pc' := 149) (tgt := 159) (dX13_named 70 rfl rfl) (by decide) rfl (fun c2 => ?_) (fun c2 => ?_)
    · exact x_vret (dX13_named 76 rfl rfl) rfl hf
    · exact absurd c1 c2
  · replace hf := hf.2 c1
    refine x_aload_n (pc' := 107) 0 (dX13_named 49 rfl rfl) rfl rfl rfl ?_
    refine x_bipush (pc' := 109) (v := 32) (dX13_named 50 rfl rfl) (by decide) rfl ?_
    refine x_inv (pc' := 112) (ν := mX13_put) (av := [_, _]) (st := []) rfl rfl (dX13_named 51 rfl rfl) (Nat.le_of_ble_eq_true rfl) wX13_put q227 (inv_V (k := 11) (dX13_named 51 rfl rfl) q3340 q3342 qs60 wX13_put (by decide) lX13_put (by decide) s8.1) (exN (by decide)) rfl ?_
    refine C.mono hf (fun _ _ => KV.g (fun h3 hf le4 => ?_))
    replace s3 := s3.le sc3 (le4)
    replace s8 := s8.le sc8 (le4)
    refine x_aload_n (pc' := 113) 0 (dX13_named 52 rfl rfl) rfl rfl rfl ?_
    refine x_iload (pc' := 115) 4 (dX13_named 53 rfl rfl) rfl rfl ?_
    refine x_if_eq (pc' := 118) (tgt := 129) (dX13_named 54 rfl rfl) (by decide) rfl (fun c5 => ?_) (fun c5 => ?_)
    · replace hf := hf.1 c5
      refine x_aload_n (pc' := 130) 0 (dX13_named 60 rfl rfl) rfl rfl rfl ?_
      refine x_getR (pc' := 133) (dX13_named 61 rfl rfl) g122 q884 (Or.inl rfl) rfl (hf_of 11 s8.1 rfl (by decide) m11_122) (s8.2 2 _ rfl rfl).1 ?_
      refine x_iload_n (pc' := 134) 1 (dX13_named 62 rfl rfl) rfl rfl rfl ?_
      refine x_inv (pc' := 137) (ν := mX6_has) (av := [_, _]) (st := [_]) rfl rfl (dX13_named 63 rfl rfl) (Nat.le_of_ble_eq_true rfl) wX6_has q220 (inv_V (k := 4) (dX13_named 63 rfl rfl) q3397 q3118 q3119 wX6_has (by decide) lX6_has (by decide) s3.1) (exN (by decide)) rfl ?_
      refine C.mono hf (fun _ _ => KI.g (fun x8 h6 hf le7 => ?_))
      replace s3 := s3.le sc3 (le7)
      replace s8 := s8.le sc8 (le7)
      refine x_iload_n (pc' := 138) 2 (dX13_named 64 rfl rfl) rfl rfl rfl ?_
      refine x_iconst (pc' := 139) (v := 1) (dX13_named 65 rfl rfl) (by decide) rfl ?_
      refine x_iadd (pc' := 140) (dX13_named 66 rfl rfl) rfl ?_
      refine x_iconst (pc' := 141) (v := 1) (dX13_named 67 rfl rfl) (by decide) rfl ?_
      refine x_inv (pc' := 144) (ν := mX13_value_2) (av := [_, _, _, _]) (st := []) rfl rfl (dX13_named 68 rfl rfl) (Nat.le_of_ble_eq_true rfl) wX13_value_2 q227 (inv_V (k := 11) (dX13_named 68 rfl rfl) q3370 q3372 qs64 wX13_value_2 (by decide) lX13_value_2 (by decide) s8.1) (exN (by decide)) rfl ?_
      refine C.mono hf (fun _ _ => KV.g (fun h9 hf le10 => ?_))
      replace s3 := s3.le sc3 (le10)
      replace s8 := s8.le sc8 (le10)
      refine x_iload (pc' := 146) 5 (dX13_named 69 rfl rfl) rfl rfl ?_
      refine x_if_eq (pc' := 149) (tgt := 159) (dX13_named 70 rfl rfl) (by decide) rfl (fun c11 => ?_) (fun c11 => ?_)
      · exact absurd c11 c1
      · refine x_iload_n (pc' := 150) 3 (dX13_named 71 rfl rfl) rfl rfl rfl ?_
        refine x_if_eq (pc' := 153) (tgt := 159) (dX13_named 72 rfl rfl) (by decide) rfl (fun c12 => ?_) (fun c12 => ?_)
        · replace hf := hf.1 c12
          exact x_vret (dX13_named 76 rfl rfl) rfl hf
        · replace hf := hf.2 c12
          refine x_aload_n (pc' := 154) 0 (dX13_named 73 rfl rfl) rfl rfl rfl ?_
          refine x_bipush (pc' := 156) (v := 41) (dX13_named 74 rfl rfl) (by decide) rfl ?_
          refine x_inv (pc' := 159) (ν := mX13_put) (av := [_, _]) (st := []) rfl rfl (dX13_named 75 rfl rfl) (Nat.le_of_ble_eq_true rfl) wX13_put q227 (inv_V (k := 11) (dX13_named 75 rfl rfl) q3340 q3342 qs60 wX13_put (by decide) lX13_put (by decide) s8.1) (exN (by decide)) rfl ?_
          refine C.mono hf (fun _ _ => KV.g (fun h13 hf le14 => ?_))
          replace s3 := s3.le sc3 (le14)
          replace s8 := s8.le sc8 (le14)
          exact x_vret (dX13_named 76 rfl rfl) rfl hf
    · replace hf := hf.2 c5
      refine x_aload_n (pc' := 119) 0 (dX13_named 55 rfl rfl) rfl rfl rfl ?_
      refine x_getR (pc' := 122) (dX13_named 56 rfl rfl) g122 q884 (Or.inl rfl) rfl (hf_of 11 s8.1 rfl (by decide) m11_122) (s8.2 2 _ rfl rfl).1 ?_
      refine x_iload_n (pc' := 123) 1 (dX13_named 57 rfl rfl) rfl rfl rfl ?_
      refine x_inv (pc' := 126) (ν := mX6_head) (av := [_, _]) (st := [_]) rfl rfl (dX13_named 58 rfl rfl) (Nat.le_of_ble_eq_true rfl) wX6_head q220 (inv_V (k := 4) (dX13_named 58 rfl rfl) q3389 q3132 q3133 wX6_head (by decide) lX6_head (by decide) s3.1) (exN (by decide)) rfl ?_
      refine C.mono hf (fun _ _ => KI.g (fun x17 h15 hf le16 => ?_))
      replace s3 := s3.le sc3 (le16)
      replace s8 := s8.le sc8 (le16)
      refine x_goto (tgt := 137) (dX13_named 59 rfl rfl) (by decide) ?_
      refine x_iload_n (pc' := 138) 2 (dX13_named 64 rfl rfl) rfl rfl rfl ?_
      refine x_iconst (pc' := 139) (v := 1) (dX13_named 65 rfl rfl) (by decide) rfl ?_
      refine x_iadd (pc' := 140) (dX13_named 66 rfl rfl) rfl ?_
      refine x_iconst (pc' := 141) (v := 1) (dX13_named 67 rfl rfl) (by decide) rfl ?_
      refine x_inv (pc' := 144) (ν := mX13_value_2) (av := [_, _, _, _]) (st := []) rfl rfl (dX13_named 68 rfl rfl) (Nat.le_of_ble_eq_true rfl) wX13_value_2 q227 (inv_V (k := 11) (dX13_named 68 rfl rfl) q3370 q3372 qs64 wX13_value_2 (by decide) lX13_value_2 (by decide) s8.1) (exN (by decide)) rfl ?_
      refine C.mono hf (fun _ _ => KV.g (fun h18 hf le19 => ?_))
      replace s3 := s3.le sc3 (le19)
      replace s8 := s8.le sc8 (le19)
      refine x_iload (pc' := 146) 5 (dX13_named 69 rfl rfl) rfl rfl ?_
      refine x_if_eq (pc' := 149) (tgt := 159) (dX13_named 70 rfl rfl) (by decide) rfl (fun c20 => ?_) (fun c20 => ?_)
      · exact absurd c20 c1
      · refine x_iload_n (pc' := 150) 3 (dX13_named 71 rfl rfl) rfl rfl rfl ?_
        refine x_if_eq (pc' := 153) (tgt := 159) (dX13_named 72 rfl rfl) (by decide) rfl (fun c21 => ?_) (fun c21 => ?_)
        · replace hf := hf.1 c21
          exact x_vret (dX13_named 76 rfl rfl) rfl hf
        · replace hf := hf.2 c21
          refine x_aload_n (pc' := 154) 0 (dX13_named 73 rfl rfl) rfl rfl rfl ?_
          refine x_bipush (pc' := 156) (v := 41) (dX13_named 74 rfl rfl) (by decide) rfl ?_
          refine x_inv (pc' := 159) (ν := mX13_put) (av := [_, _]) (st := []) rfl rfl (dX13_named 75 rfl rfl) (Nat.le_of_ble_eq_true rfl) wX13_put q227 (inv_V (k := 11) (dX13_named 75 rfl rfl) q3340 q3342 qs60 wX13_put (by decide) lX13_put (by decide) s8.1) (exN (by decide)) rfl ?_
          refine C.mono hf (fun _ _ => KV.g (fun h22 hf le23 => ?_))
          replace s3 := s3.le sc3 (le23)
          replace s8 := s8.le sc8 (le23)
          exact x_vret (dX13_named 76 rfl rfl) rfl hf
theorem bX13_letter (G : Gh) (d : Nat) (h : AH) (Q : Outcome → AH → Prop) (p1 : Int32) (s8 : So 8 (gW G) h) (hf : vp_in p1 2000 ∧ (Q (.returned (some (.int ((aI h (gW G 1119) p1.toNatClampNeg) &&& 255)))) h)) : C G mX13_letter d [.ref (gW G 8), .int (p1)] h Q := by
  refine C.of_X (by decide +kernel) (Nat.le_of_ble_eq_true rfl) wX13_letter ?_
  show X G mX13_letter d none [] 0 [(0, .ref (gW G 8)), (1, .int (p1))] [] h Q
  refine x_aload_n (pc' := 1) 0 (dX13_letter 0 rfl rfl) rfl rfl rfl ?_
  refine x_getR (pc' := 4) (dX13_letter 1 rfl rfl) g119 q880 (Or.inl rfl) rfl (hf_of 11 s8.1 rfl (by decide) m11_119) (s8.2 0 _ rfl rfl).1 ?_
  refine x_iload_n (pc' := 5) 1 (dX13_letter 2 rfl rfl) rfl rfl rfl ?_
  obtain ⟨i1, hf⟩ := hf
  refine x_bald (pc' := 6) (dX13_letter 3 rfl rfl) rfl (s8.2 0 _ rfl rfl).2.1 (by rw [(s8.2 0 _ rfl rfl).2.2.2 (by decide)]; exact i1) ?_
  refine x_sipush (pc' := 9) (v := 255) (dX13_letter 4 rfl rfl) (by decide) rfl ?_
  refine x_iand (pc' := 10) (dX13_letter 5 rfl rfl) rfl ?_
  exact x_iret (dX13_letter 6 rfl rfl) rfl hf
theorem bX14_init (G : Gh) (d : Nat) (hd1 : 1 ≤ d) (h : AH) (Q : Outcome → AH → Prop) (a0 : Nat) (p1 : Int64) (p3 : Int64) (hf : hK h a0 = 13 ∧ (∀ h2, h2 = pJ h a0 125 p1 → (∀ h3, h3 = pJ h2 a0 126 p3 → (Q (.returned none) h3)))) : C G mX14_init d [.ref (a0), .long (p1), .long (p3)] h Q := by
  refine C.of_X (by decide +kernel) (Nat.le_of_ble_eq_true rfl) wX14_init ?_
  show X G mX14_init d (some a0) [] 0 [(0, .ref (a0)), (1, .long (p1)), (3, .long (p3))] [] h Q
  refine x_aload_n (pc' := 1) 0 (dX14_init 0 rfl rfl) rfl rfl rfl ?_
  refine x_objInit (pc' := 4) (dX14_init 1 rfl rfl) q916 q288 q289 (by decide) (by omega) rfl ?_
  refine x_aload_n (pc' := 5) 0 (dX14_init 2 rfl rfl) rfl rfl rfl ?_
  refine x_lload_n (pc' := 6) 1 (dX14_init 3 rfl rfl) rfl rfl rfl ?_
  obtain ⟨k1, hf⟩ := hf
  refine x_putJ (pc' := 9) (dX14_init 4 rfl rfl) g125 q917 (Or.inl rfl) (Or.inr ⟨rfl, rfl, rfl, rfl⟩) (Or.inr rfl) rfl (hf_of 12 k1 rfl (by decide) m12_125) (fun h2 e5 => ?_)
  replace hf := hf h2 e5
  replace k1 : hK h2 a0 = 13 := by rw [e5]; exact k1
  refine x_aload_n (pc' := 10) 0 (dX14_init 5 rfl rfl) rfl rfl rfl ?_
  refine x_lload_n (pc' := 11) 2 (dX14_init 6 rfl rfl) rfl rfl rfl ?_
  refine x_putJ (pc' := 14) (dX14_init 7 rfl rfl) g126 q920 (Or.inl rfl) (Or.inr ⟨rfl, rfl, rfl, rfl⟩) (Or.inr rfl) rfl (hf_of 12 k1 rfl (by decide) m12_126) (fun h3 e4 => ?_)
  replace hf := hf h3 e4
  replace k1 : hK h3 a0 = 13 := by rw [e4]; exact k1
  exact x_vret (dX14_init 8 rfl rfl) rfl hf
theorem bX16_init (G : Gh) (d : Nat) (hd1 : 1 ≤ d) (h : AH) (Q : Outcome → AH → Prop) (a0 : Nat) (p1 : Int32) (hf : HF h a0 297 0 ∧ (∀ h2, h2 = pI h a0 297 ((-1)) → (HF h2 a0 296 0 ∧ (∀ h4, h4 = pI h2 a0 296 p1 → (Q (.returned none) h4))))) : C G mX16_init d [.ref (a0), .int (p1)] h Q := by
  refine C.of_X (by decide +kernel) (Nat.le_of_ble_eq_true rfl) wX16_init ?_
  show X G mX16_init d (some a0) [] 0 [(0, .ref (a0)), (1, .int (p1))] [] h Q
  refine x_aload_n (pc' := 1) 0 (dX16_init 0 rfl rfl) rfl rfl rfl ?_
  refine x_objInit (pc' := 4) (dX16_init 1 rfl rfl) q1523 q288 q289 (by decide) (by omega) rfl ?_
  refine x_aload_n (pc' := 5) 0 (dX16_init 2 rfl rfl) rfl rfl rfl ?_
  refine x_iconst (pc' := 6) (v := -1) (dX16_init 3 rfl rfl) (by decide) rfl ?_
  obtain ⟨u1, hf⟩ := hf
  refine x_putI (pc' := 9) (dX16_init 4 rfl rfl) g297 q1545 (Or.inl rfl) (Or.inl rfl) (Or.inr rfl) rfl u1 (fun h2 e6 => ?_)
  replace hf := hf h2 e6
  refine x_aload_n (pc' := 10) 0 (dX16_init 5 rfl rfl) rfl rfl rfl ?_
  refine x_iload_n (pc' := 11) 1 (dX16_init 6 rfl rfl) rfl rfl rfl ?_
  obtain ⟨u3, hf⟩ := hf
  refine x_putI (pc' := 14) (dX16_init 7 rfl rfl) g296 q1526 (Or.inl rfl) (Or.inr ⟨rfl, rfl, rfl, rfl⟩) (Or.inr rfl) rfl u3 (fun h4 e5 => ?_)
  replace hf := hf h4 e5
  exact x_vret (dX16_init 8 rfl rfl) rfl hf
theorem bX16_isCon (G : Gh) (d : Nat) (h : AH) (Q : Outcome → AH → Prop) (a0 : Nat) (hf : Q (.returned (some (.int 0))) h) : C G mX16_isCon d [.ref (a0)] h Q := by
  refine C.of_X (by decide +kernel) (Nat.le_of_ble_eq_true rfl) wX16_isCon ?_
  show X G mX16_isCon d none [] 0 [(0, .ref (a0))] [] h Q
  refine x_iconst (pc' := 1) (v := 0) (dX16_isCon 0 rfl rfl) (by decide) rfl ?_
  exact x_zret (ty := .boolean) (dX16_isCon 1 rfl rfl) rfl (by decide) hf
theorem bX16_isStill (G : Gh) (d : Nat) (h : AH) (Q : Outcome → AH → Prop) (a0 : Nat) (hf : Q (.returned (some (.int 0))) h) : C G mX16_isStill d [.ref (a0)] h Q := by
  refine C.of_X (by decide +kernel) (Nat.le_of_ble_eq_true rfl) wX16_isStill ?_
  show X G mX16_isStill d none [] 0 [(0, .ref (a0))] [] h Q
  refine x_iconst (pc' := 1) (v := 0) (dX16_isStill 0 rfl rfl) (by decide) rfl ?_
  exact x_zret (ty := .boolean) (dX16_isStill 1 rfl rfl) rfl (by decide) hf
theorem bX16_resume (G : Gh) (d : Nat) (h : AH) (Q : Outcome → AH → Prop) (a0 : Nat) (p2 : Int32) (p3 : Int32) (p4 : Int32) (hf : Q (.returned none) h) : C G mX16_resume d [.ref (a0), .ref (gW G 3), .int (p2), .int (p3), .int (p4)] h Q := by
  refine C.of_X (by decide +kernel) (Nat.le_of_ble_eq_true rfl) wX16_resume ?_
  show X G mX16_resume d none [] 0 [(0, .ref (a0)), (1, .ref (gW G 3)), (2, .int (p2)), (3, .int (p3)), (4, .int (p4))] [] h Q
  exact x_vret (dX16_resume 0 rfl rfl) rfl hf
theorem bX17_init (G : Gh) (d : Nat) (h : AH) (Q : Outcome → AH → Prop) (a0 : Nat) (p1 : Int32) (p2 : Nat) (p3 : Option Nat) (hf : OC p3 (C G mX16_init d [.ref (a0), .int (p1)] h (KV Q (fun h1 => hK h1 a0 = 17 ∧ (∀ h4, h4 = pR h1 a0 298 (some p2) → (∀ h5, h5 = pR h4 a0 299 none → (Q (.returned none) h5)))))) (fun p3v => C G mX16_init d [.ref (a0), .int (p1)] h (KV Q (fun h8 => hK h8 a0 = 17 ∧ (∀ h11, h11 = pR h8 a0 298 (some p2) → (∀ h12, h12 = pR h11 a0 299 (some p3v) → (Q (.returned none) h12))))))) : C G mX17_init (d + 1) [.ref (a0), .int (p1), .ref (p2), va_rf p3] h Q := by
  refine C.of_X (by decide) (by cases p3 <;> exact Nat.le_of_ble_eq_true rfl) wX17_init ?_
  show X G mX17_init (d + 1) (some a0) [] 0 [(0, .ref (a0)), (1, .int (p1)), (2, .ref (p2)), (3, va_rf p3)] [] h Q
  rcases p3 with _ | p3v
  · replace hf := hf.1 rfl
    refine x_aload_n (pc' := 1) 0 (dX17_init 0 rfl rfl) rfl rfl rfl ?_
    refine x_iload_n (pc' := 2) 1 (dX17_init 1 rfl rfl) rfl rfl rfl ?_
    refine x_inv (pc' := 5) (ν := mX16_init) (av := [_, _]) (st := []) rfl rfl (dX17_init 2 rfl rfl) (Nat.le_of_ble_eq_true rfl) wX16_init q237 (inv_I (dX17_init 2 rfl rfl) q1730 q1521 q1522 rfl (by decide) lX16_init) (fun b hb => by exact Or.inr (by rw [← hb]; rfl)) rfl ?_
    refine C.mono hf (fun _ _ => KV.g (fun h1 hf le2 => ?_))
    refine x_aload_n (pc' := 6) 0 (dX17_init 3 rfl rfl) rfl rfl rfl ?_
    refine x_aload_n (pc' := 7) 2 (dX17_init 4 rfl rfl) rfl rfl rfl ?_
    obtain ⟨k3, hf⟩ := hf
    refine x_putR (pc' := 10) (dX17_init 5 rfl rfl) g298 q1731 (Or.inl rfl) (Or.inr ⟨rfl, rfl, rfl, rfl⟩) (Or.inr rfl) rfl (hf_of 16 k3 rfl (by decide) m16_298) (fun h4 e7 => ?_)
    replace hf := hf h4 e7
    replace k3 : hK h4 a0 = 17 := by rw [e7]; exact k3
    refine x_aload_n (pc' := 11) 0 (dX17_init 6 rfl rfl) rfl rfl rfl ?_
    refine x_aload_nN (pc' := 12) 3 (dX17_init 7 rfl rfl) rfl rfl rfl ?_
    refine x_putN (pc' := 15) (dX17_init 8 rfl rfl) g299 q1733 (Or.inl rfl) (Or.inr ⟨rfl, rfl, rfl, rfl⟩) (Or.inr rfl) rfl (hf_of 16 k3 rfl (by decide) m16_299) (fun h5 e6 => ?_)
    replace hf := hf h5 e6
    replace k3 : hK h5 a0 = 17 := by rw [e6]; exact k3
    exact x_vret (dX17_init 9 rfl rfl) rfl hf
  · replace hf := hf.2 _ rfl
    refine x_aload_n (pc' := 1) 0 (dX17_init 0 rfl rfl) rfl rfl rfl ?_
    refine x_iload_n (pc' := 2) 1 (dX17_init 1 rfl rfl) rfl rfl rfl ?_
    refine x_inv (pc' := 5) (ν := mX16_init) (av := [_, _]) (st := []) rfl rfl (dX17_init 2 rfl rfl) (Nat.le_of_ble_eq_true rfl) wX16_init q237 (inv_I (dX17_init 2 rfl rfl) q1730 q1521 q1522 rfl (by decide) lX16_init) (fun b hb => by exact Or.inr (by rw [← hb]; rfl)) rfl ?_
    refine C.mono hf (fun _ _ => KV.g (fun h8 hf le9 => ?_))
    refine x_aload_n (pc' := 6) 0 (dX17_init 3 rfl rfl) rfl rfl rfl ?_
    refine x_aload_n (pc' := 7) 2 (dX17_init 4 rfl rfl) rfl rfl rfl ?_
    obtain ⟨k10, hf⟩ := hf
    refine x_putR (pc' := 10) (dX17_init 5 rfl rfl) g298 q1731 (Or.inl rfl) (Or.inr ⟨rfl, rfl, rfl, rfl⟩) (Or.inr rfl) rfl (hf_of 16 k10 rfl (by decide) m16_298) (fun h11 e14 => ?_)
    replace hf := hf h11 e14
    replace k10 : hK h11 a0 = 17 := by rw [e14]; exact k10
    refine x_aload_n (pc' := 11) 0 (dX17_init 6 rfl rfl) rfl rfl rfl ?_
    refine x_aload_n (pc' := 12) 3 (dX17_init 7 rfl rfl) rfl rfl rfl ?_
    refine x_putR (pc' := 15) (dX17_init 8 rfl rfl) g299 q1733 (Or.inl rfl) (Or.inr ⟨rfl, rfl, rfl, rfl⟩) (Or.inr rfl) rfl (hf_of 16 k10 rfl (by decide) m16_299) (fun h12 e13 => ?_)
    replace hf := hf h12 e13
    replace k10 : hK h12 a0 = 17 := by rw [e13]; exact k10
    exact x_vret (dX17_init 9 rfl rfl) rfl hf
theorem bX17_resolve (G : Gh) (d : Nat) (h : AH) (Q : Outcome → AH → Prop) (a0 : Nat) (s4 : So 4 (gW G) h) (hf : ∀ x1 : Int32, x1 = fI h (gW G 4) 83 → (C G mX9_namesMany d [.ref (gW G 4)] h (KI Q (fun x4 h2 => C G mX9_consMany d [.ref (gW G 4)] h2 (KI Q (fun x7 h5 => X G mX17_resolve (d + 1) none [] 19 [(0, .ref (a0)), (1, .ref (gW G 4)), (2, .int (x1)), (3, .int (x4)), (4, .int (x7)), (5, .int (0))] [] h5 Q)))))) : C G mX17_resolve (d + 1) [.ref (a0), .ref (gW G 4)] h Q := by
  refine C.of_X (by decide +kernel) (Nat.le_of_ble_eq_true rfl) wX17_resolve ?_
  show X G mX17_resolve (d + 1) none [] 0 [(0, .ref (a0)), (1, .ref (gW G 4))] [] h Q
  refine x_aload_n (pc' := 1) 1 (dX17_resolve 0 rfl rfl) rfl rfl rfl ?_
  refine x_getI (pc' := 4) (dX17_resolve 1 rfl rfl) g83 q687 (Or.inl rfl) rfl (hf_of 7 s4.1 rfl (by decide) m7_83) ?_
  replace hf := hf _ rfl
  refine x_istore_n (pc' := 5) (dX17_resolve 2 rfl rfl) rfl (by decide) rfl rfl ?_
  refine x_aload_n (pc' := 6) 2 (dX17_resolve 3 rfl rfl) rfl rfl rfl ?_
  refine x_inv (pc' := 9) (ν := mX9_namesMany) (av := [_]) (st := []) rfl rfl (dX17_resolve 4 rfl rfl) (Nat.le_of_ble_eq_true rfl) wX9_namesMany q223 (inv_V (k := 7) (dX17_resolve 4 rfl rfl) q2028 q2029 q2030 wX9_namesMany (by decide) lX9_namesMany (by decide) s4.1) (exN (by decide)) rfl ?_
  refine C.mono hf (fun _ _ => KI.g (fun x4 h2 hf le3 => ?_))
  replace s4 := s4.le sc4 (le3)
  refine x_istore_n (pc' := 10) (dX17_resolve 5 rfl rfl) rfl (by decide) rfl rfl ?_
  refine x_aload_n (pc' := 11) 3 (dX17_resolve 6 rfl rfl) rfl rfl rfl ?_
  refine x_inv (pc' := 14) (ν := mX9_consMany) (av := [_]) (st := []) rfl rfl (dX17_resolve 7 rfl rfl) (Nat.le_of_ble_eq_true rfl) wX9_consMany q223 (inv_V (k := 7) (dX17_resolve 7 rfl rfl) q2032 q2033 q2034 wX9_consMany (by decide) lX9_consMany (by decide) s4.1) (exN (by decide)) rfl ?_
  refine C.mono hf (fun _ _ => KI.g (fun x7 h5 hf le6 => ?_))
  replace s4 := s4.le sc4 (le6)
  refine x_istore (pc' := 16) (dX17_resolve 8 rfl rfl) (by decide) rfl rfl ?_
  refine x_iconst (pc' := 17) (v := 0) (dX17_resolve 9 rfl rfl) (by decide) rfl ?_
  refine x_istore (pc' := 19) (dX17_resolve 10 rfl rfl) (by decide) rfl rfl ?_
  exact X.sub [4, 5, 3, 2, 1, 0] rfl (by simp) hf
theorem bX17_resolve_19 (G : Gh) (d : Nat) (h : AH) (Q : Outcome → AH → Prop) (l0 : Nat) (l2 : Int32) (l3 : Int32) (l4 : Int32) (l5 : Int32) (s4 : So 4 (gW G) h) (hf : hK h l0 = 17 ∧ (∃ b2, fR h l0 298 = some b2 ∧ (hK h b2 = 6 ∧ (((fI h b2 78) ≤ l5 → (OC (fR h l0 299) (Q (.returned none) h) (fun b6 => OC (fR h l0 299) (False) (fun b8 => ∃ (k : Nat) (ν : Mu), VT ⟨"LetMill$Exp", "resolve", "(LLetMill$Scope;)V"⟩ VMExp_resolve k ν ∧ hK h b8 = k + 1 ∧ C G ν d [.ref (b8), .ref (gW G 4)] h (KV Q (fun h10 => C G mX9_back d [.ref (gW G 4), .int (l2)] h10 (KV Q (fun h12 => C G mX9_backTypes d [.ref (gW G 4), .int (l3), .int (l4)] h12 (KV Q (fun h14 => Q (.returned none) h14)))))))))) ∧ (¬ ((fI h b2 78) ≤ l5) → (∃ b19, fR h l0 298 = some b19 ∧ (hK h b19 = 6 ∧ (C G mX7_dec d [.ref (b19), .int (l5)] h (KR Q (fun b24 h21 => ∃ (k : Nat) (ν : Mu), VT ⟨"LetMill$Dec", "resolve", "(LLetMill$Scope;)V"⟩ VMDec_resolve k ν ∧ hK h21 b24 = k + 1 ∧ C G ν d [.ref (b24), .ref (gW G 4)] h21 (KV Q (fun h25 => ∀ x27 : Int32, x27 = l5 + 1 → (X G mX17_resolve (d + 1) none [] 19 [(0, .ref (l0)), (1, .ref (gW G 4)), (2, .int (l2)), (3, .int (l3)), (4, .int (l4)), (5, .int (x27))] [] h25 Q))))))))))))) : X G mX17_resolve (d + 1) none [] 19 [(0, .ref (l0)), (1, .ref (gW G 4)), (2, .int (l2)), (3, .int (l3)), (4, .int (l4)), (5, .int (l5))] [] h Q := by
  refine x_iload (pc' := 21) 5 (dX17_resolve 11 rfl rfl) rfl rfl ?_
  refine x_aload_n (pc' := 22) 0 (dX17_resolve 12 rfl rfl) rfl rfl rfl ?_
  obtain ⟨k1, hf⟩ := hf
  obtain ⟨b2, e3, hf⟩ := hf
  refine x_getR (pc' := 25) (dX17_resolve 13 rfl rfl) g298 q1731 (Or.inl rfl) rfl (hf_of 16 k1 rfl (by decide) m16_298) e3 ?_
  obtain ⟨k4, hf⟩ := hf
  refine x_getI (pc' := 28) (dX17_resolve 14 rfl rfl) g78 q572 (Or.inl rfl) rfl (hf_of 5 k4 rfl (by decide) m5_78) ?_
  refine x_icmp_ge (pc' := 31) (tgt := 50) (dX17_resolve 15 rfl rfl) (by decide) rfl (fun c5 => ?_) (fun c5 => ?_)
  · replace hf := hf.1 c5
    refine x_aload_n (pc' := 51) 0 (dX17_resolve 24 rfl rfl) rfl rfl rfl ?_
    obtain ⟨ho0, ho1⟩ := hf
    rcases hr : fR _ l0 299 with _ | b6
    · replace hf := ho0 hr
      refine x_getN (pc' := 54) (dX17_resolve 25 rfl rfl) g299 q1733 (Or.inl rfl) rfl (hf_of 16 k1 rfl (by decide) m16_299) hr ?_
      refine x_ifnonnullN (pc' := 57) (dX17_resolve 26 rfl rfl) rfl ?_
      exact x_vret (dX17_resolve 27 rfl rfl) rfl hf
    · replace hf := ho1 _ hr
      refine x_getR (pc' := 54) (dX17_resolve 25 rfl rfl) g299 q1733 (Or.inl rfl) rfl (hf_of 16 k1 rfl (by decide) m16_299) hr ?_
      refine x_ifnonnull (tgt := 58) (dX17_resolve 26 rfl rfl) (by decide) ?_
      refine x_aload_n (pc' := 59) 0 (dX17_resolve 28 rfl rfl) rfl rfl rfl ?_
      obtain ⟨ho0, ho1⟩ := hf
      rcases hr : fR _ l0 299 with _ | b8
      · replace hf := ho0 hr
        refine x_getN (pc' := 62) (dX17_resolve 29 rfl rfl) g299 q1733 (Or.inl rfl) rfl (hf_of 16 k1 rfl (by decide) m16_299) hr ?_
        refine x_aload_n (pc' := 63) 1 (dX17_resolve 30 rfl rfl) rfl rfl rfl ?_
        exact hf.elim
      · replace hf := ho1 _ hr
        refine x_getR (pc' := 62) (dX17_resolve 29 rfl rfl) g299 q1733 (Or.inl rfl) rfl (hf_of 16 k1 rfl (by decide) m16_299) hr ?_
        refine x_aload_n (pc' := 63) 1 (dX17_resolve 30 rfl rfl) rfl rfl rfl ?_
        obtain ⟨k, ν, ⟨v0, v1, v2, v3, v4, v5, v6, v7⟩, k16, hf⟩ := hf
        refine x_inv (pc' := 66) (ν := ν) (st := []) rfl (sub_tr v7 rfl) (dX17_resolve 31 rfl rfl) (by have := v5; simp only [List.map, List.sum_cons, List.sum_nil, Value.category]; omega) v1 v2 (inv_U (k := k) (av := [_]) (dX17_resolve 31 rfl rfl) q2316 q2251 (by decide) v3 v4 (by decide) (show _ = some 1 by decide +kernel) v0 k16) (exN v6) rfl ?_
        refine C.mono hf (fun _ _ => KV.g (fun h10 hf le11 => ?_))
        replace le11 := Le.nx v6 le11
        have k1 := leK le11 k1 (by decide)
        have k4 := leK le11 k4 (by decide)
        replace s4 := s4.le sc4 (le11)
        refine x_aload_n (pc' := 67) 1 (dX17_resolve 32 rfl rfl) rfl rfl rfl ?_
        refine x_iload_n (pc' := 68) 2 (dX17_resolve 33 rfl rfl) rfl rfl rfl ?_
        refine x_inv (pc' := 71) (ν := mX9_back) (av := [_, _]) (st := []) rfl rfl (dX17_resolve 34 rfl rfl) (Nat.le_of_ble_eq_true rfl) wX9_back q223 (inv_V (k := 7) (dX17_resolve 34 rfl rfl) q2317 q2308 q2309 wX9_back (by decide) lX9_back (by decide) s4.1) (exN (by decide)) rfl ?_
        refine C.mono hf (fun _ _ => KV.g (fun h12 hf le13 => ?_))
        have k1 := leK le13 k1 (by decide)
        have k4 := leK le13 k4 (by decide)
        replace s4 := s4.le sc4 (le13)
        refine x_aload_n (pc' := 72) 1 (dX17_resolve 35 rfl rfl) rfl rfl rfl ?_
        refine x_iload_n (pc' := 73) 3 (dX17_resolve 36 rfl rfl) rfl rfl rfl ?_
        refine x_iload (pc' := 75) 4 (dX17_resolve 37 rfl rfl) rfl rfl ?_
        refine x_inv (pc' := 78) (ν := mX9_backTypes) (av := [_, _, _]) (st := []) rfl rfl (dX17_resolve 38 rfl rfl) (Nat.le_of_ble_eq_true rfl) wX9_backTypes q223 (inv_V (k := 7) (dX17_resolve 38 rfl rfl) q2318 q2319 q2320 wX9_backTypes (by decide) lX9_backTypes (by decide) s4.1) (exN (by decide)) rfl ?_
        refine C.mono hf (fun _ _ => KV.g (fun h14 hf le15 => ?_))
        have k1 := leK le15 k1 (by decide)
        have k4 := leK le15 k4 (by decide)
        replace s4 := s4.le sc4 (le15)
        exact x_vret (dX17_resolve 39 rfl rfl) rfl hf
  · replace hf := hf.2 c5
    refine x_aload_n (pc' := 32) 0 (dX17_resolve 16 rfl rfl) rfl rfl rfl ?_
    obtain ⟨b19, e20, hf⟩ := hf
    refine x_getR (pc' := 35) (dX17_resolve 17 rfl rfl) g298 q1731 (Or.inl rfl) rfl (hf_of 16 k1 rfl (by decide) m16_298) e20 ?_
    refine x_iload (pc' := 37) 5 (dX17_resolve 18 rfl rfl) rfl rfl ?_
    obtain ⟨k23, hf⟩ := hf
    refine x_inv (pc' := 40) (ν := mX7_dec) (av := [_, _]) (st := []) rfl rfl (dX17_resolve 19 rfl rfl) (Nat.le_of_ble_eq_true rfl) wX7_dec q221 (inv_V (k := 5) (dX17_resolve 19 rfl rfl) q2036 q2037 q2038 wX7_dec (by decide) lX7_dec (by decide) k23) (exN (by decide)) rfl ?_
    refine C.mono hf (fun _ _ => KR.g (fun b24 h21 hf le22 => ?_))
    have k1 := leK le22 k1 (by decide)
    have k4 := leK le22 k4 (by decide)
    have k23 := leK le22 k23 (by decide)
    replace s4 := s4.le sc4 (le22)
    refine x_aload_n (pc' := 41) 1 (dX17_resolve 20 rfl rfl) rfl rfl rfl ?_
    obtain ⟨k, ν, ⟨v0, v1, v2, v3, v4, v5, v6, v7⟩, k28, hf⟩ := hf
    refine x_inv (pc' := 44) (ν := ν) (st := []) rfl (sub_tr v7 rfl) (dX17_resolve 21 rfl rfl) (by have := v5; simp only [List.map, List.sum_cons, List.sum_nil, Value.category]; omega) v1 v2 (inv_U (k := k) (av := [_]) (dX17_resolve 21 rfl rfl) q2041 q2043 (by decide) v3 v4 (by decide) (show _ = some 1 by decide +kernel) v0 k28) (exN v6) rfl ?_
    refine C.mono hf (fun _ _ => KV.g (fun h25 hf le26 => ?_))
    replace le26 := Le.nx v6 le26
    have k1 := leK le26 k1 (by decide)
    have k4 := leK le26 k4 (by decide)
    have k23 := leK le26 k23 (by decide)
    replace s4 := s4.le sc4 (le26)
    replace hf := hf _ rfl
    refine x_iinc (pc' := 47) 5 (dX17_resolve 22 rfl rfl) rfl (by rfl) (by decide) rfl rfl ?_
    refine x_goto (tgt := 19) (dX17_resolve 23 rfl rfl) (by decide) ?_
    exact X.sub [1, 2, 3, 4, 5, 0] rfl (by simp) hf
theorem bX17_infer (G : Gh) (d : Nat) (h : AH) (Q : Outcome → AH → Prop) (a0 : Nat) (s6 : So 6 (gW G) h) (hf : ∀ x1 : Int32, x1 = fI h (gW G 6) 112 → (X G mX17_infer (d + 1) none [] 7 [(0, .ref (a0)), (1, .ref (gW G 6)), (2, .int (x1)), (3, .int (0))] [] h Q)) : C G mX17_infer (d + 1) [.ref (a0), .ref (gW G 6)] h Q := by
  refine C.of_X (by decide +kernel) (Nat.le_of_ble_eq_true rfl) wX17_infer ?_
  show X G mX17_infer (d + 1) none [] 0 [(0, .ref (a0)), (1, .ref (gW G 6))] [] h Q
  refine x_aload_n (pc' := 1) 1 (dX17_infer 0 rfl rfl) rfl rfl rfl ?_
  refine x_getI (pc' := 4) (dX17_infer 1 rfl rfl) g112 q835 (Or.inl rfl) rfl (hf_of 9 s6.1 rfl (by decide) m9_112) ?_
  replace hf := hf _ rfl
  refine x_istore_n (pc' := 5) (dX17_infer 2 rfl rfl) rfl (by decide) rfl rfl ?_
  refine x_iconst (pc' := 6) (v := 0) (dX17_infer 3 rfl rfl) (by decide) rfl ?_
  refine x_istore_n (pc' := 7) (dX17_infer 4 rfl rfl) rfl (by decide) rfl rfl ?_
  exact X.sub [2, 3, 1, 0] rfl (by simp) hf
theorem bX17_infer_7 (G : Gh) (d : Nat) (h : AH) (Q : Outcome → AH → Prop) (l0 : Nat) (l2 : Int32) (l3 : Int32) (s2 : So 2 (gW G) h) (s6 : So 6 (gW G) h) (hf : hK h l0 = 17 ∧ (∃ b2, fR h l0 298 = some b2 ∧ (hK h b2 = 6 ∧ (((fI h b2 78) ≤ l3 → (OC (fR h l0 299) (Q (.returned (some (.int (fI h (gW G 2) 44)))) h) (fun b6 => OC (fR h l0 299) (False) (fun b8 => ∃ (k : Nat) (ν : Mu), VT ⟨"LetMill$Exp", "infer", "(LLetMill$Typer;)I"⟩ VMExp_infer k ν ∧ hK h b8 = k + 1 ∧ C G ν d [.ref (b8), .ref (gW G 6)] h (KI Q (fun x12 h10 => ∀ h13, h13 = pI h10 (gW G 6) 112 l2 → (Q (.returned (some (.int x12))) h13))))))) ∧ (¬ ((fI h b2 78) ≤ l3) → (∃ b18, fR h l0 298 = some b18 ∧ (hK h b18 = 6 ∧ (C G mX7_dec d [.ref (b18), .int (l3)] h (KR Q (fun b23 h20 => ∃ (k : Nat) (ν : Mu), VT ⟨"LetMill$Dec", "infer", "(LLetMill$Typer;)V"⟩ VMDec_infer k ν ∧ hK h20 b23 = k + 1 ∧ C G ν d [.ref (b23), .ref (gW G 6)] h20 (KV Q (fun h24 => ∀ x26 : Int32, x26 = l3 + 1 → (X G mX17_infer (d + 1) none [] 7 [(0, .ref (l0)), (1, .ref (gW G 6)), (2, .int (l2)), (3, .int (x26))] [] h24 Q))))))))))))) : X G mX17_infer (d + 1) none [] 7 [(0, .ref (l0)), (1, .ref (gW G 6)), (2, .int (l2)), (3, .int (l3))] [] h Q := by
  refine x_iload_n (pc' := 8) 3 (dX17_infer 5 rfl rfl) rfl rfl rfl ?_
  refine x_aload_n (pc' := 9) 0 (dX17_infer 6 rfl rfl) rfl rfl rfl ?_
  obtain ⟨k1, hf⟩ := hf
  obtain ⟨b2, e3, hf⟩ := hf
  refine x_getR (pc' := 12) (dX17_infer 7 rfl rfl) g298 q1731 (Or.inl rfl) rfl (hf_of 16 k1 rfl (by decide) m16_298) e3 ?_
  obtain ⟨k4, hf⟩ := hf
  refine x_getI (pc' := 15) (dX17_infer 8 rfl rfl) g78 q572 (Or.inl rfl) rfl (hf_of 5 k4 rfl (by decide) m5_78) ?_
  refine x_icmp_ge (pc' := 18) (tgt := 36) (dX17_infer 9 rfl rfl) (by decide) rfl (fun c5 => ?_) (fun c5 => ?_)
  · replace hf := hf.1 c5
    refine x_aload_n (pc' := 37) 0 (dX17_infer 18 rfl rfl) rfl rfl rfl ?_
    obtain ⟨ho0, ho1⟩ := hf
    rcases hr : fR _ l0 299 with _ | b6
    · replace hf := ho0 hr
      refine x_getN (pc' := 40) (dX17_infer 19 rfl rfl) g299 q1733 (Or.inl rfl) rfl (hf_of 16 k1 rfl (by decide) m16_299) hr ?_
      refine x_ifnonnullN (pc' := 43) (dX17_infer 20 rfl rfl) rfl ?_
      refine x_aload_n (pc' := 44) 1 (dX17_infer 21 rfl rfl) rfl rfl rfl ?_
      refine x_getR (pc' := 47) (dX17_infer 22 rfl rfl) g108 q816 (Or.inl rfl) rfl (hf_of 9 s6.1 rfl (by decide) m9_108) (s6.2 0 _ rfl rfl).1 ?_
      refine x_getI (pc' := 50) (dX17_infer 23 rfl rfl) g44 q505 (Or.inl rfl) rfl (hf_of 2 s2.1 rfl (by decide) m2_44) ?_
      exact x_iret (dX17_infer 24 rfl rfl) rfl hf
    · replace hf := ho1 _ hr
      refine x_getR (pc' := 40) (dX17_infer 19 rfl rfl) g299 q1733 (Or.inl rfl) rfl (hf_of 16 k1 rfl (by decide) m16_299) hr ?_
      refine x_ifnonnull (tgt := 51) (dX17_infer 20 rfl rfl) (by decide) ?_
      refine x_aload_n (pc' := 52) 0 (dX17_infer 25 rfl rfl) rfl rfl rfl ?_
      obtain ⟨ho0, ho1⟩ := hf
      rcases hr : fR _ l0 299 with _ | b8
      · replace hf := ho0 hr
        refine x_getN (pc' := 55) (dX17_infer 26 rfl rfl) g299 q1733 (Or.inl rfl) rfl (hf_of 16 k1 rfl (by decide) m16_299) hr ?_
        refine x_aload_n (pc' := 56) 1 (dX17_infer 27 rfl rfl) rfl rfl rfl ?_
        exact hf.elim
      · replace hf := ho1 _ hr
        refine x_getR (pc' := 55) (dX17_infer 26 rfl rfl) g299 q1733 (Or.inl rfl) rfl (hf_of 16 k1 rfl (by decide) m16_299) hr ?_
        refine x_aload_n (pc' := 56) 1 (dX17_infer 27 rfl rfl) rfl rfl rfl ?_
        obtain ⟨k, ν, ⟨v0, v1, v2, v3, v4, v5, v6, v7⟩, k15, hf⟩ := hf
        refine x_inv (pc' := 59) (ν := ν) (st := []) rfl (sub_tr v7 rfl) (dX17_infer 28 rfl rfl) (by have := v5; simp only [List.map, List.sum_cons, List.sum_nil, Value.category]; omega) v1 v2 (inv_U (k := k) (av := [_]) (dX17_infer 28 rfl rfl) q2759 q2512 (by decide) v3 v4 (by decide) (show _ = some 1 by decide +kernel) v0 k15) (exN v6) rfl ?_
        refine C.mono hf (fun _ _ => KI.g (fun x12 h10 hf le11 => ?_))
        replace le11 := Le.nx v6 le11
        have k1 := leK le11 k1 (by decide)
        have k4 := leK le11 k4 (by decide)
        replace s2 := s2.le sc2 (le11)
        replace s6 := s6.le sc6 (le11)
        refine x_istore_n (pc' := 60) (dX17_infer 29 rfl rfl) rfl (by decide) rfl rfl ?_
        refine x_aload_n (pc' := 61) 2 (dX17_infer 30 rfl rfl) rfl rfl rfl ?_
        refine x_iload_n (pc' := 62) 3 (dX17_infer 31 rfl rfl) rfl rfl rfl ?_
        refine x_putI (pc' := 65) (dX17_infer 32 rfl rfl) g112 q835 (Or.inl rfl) (Or.inl rfl) (Or.inl (by decide)) rfl (hf_of 9 s6.1 rfl (by decide) m9_112) (fun h13 e14 => ?_)
        replace hf := hf h13 e14
        replace k1 : hK h13 l0 = 17 := by rw [e14]; exact k1
        replace k4 : hK h13 b2 = 6 := by rw [e14]; exact k4
        replace s2 : So 2 (gW G) h13 := by rw [e14]; exact s2.le sc2 (pI_le (Or.inl rfl))
        replace s6 : So 6 (gW G) h13 := by rw [e14]; exact s6.le sc6 (pI_le (Or.inl rfl))
        refine x_iload_n (pc' := 66) 0 (dX17_infer 33 rfl rfl) rfl rfl rfl ?_
        exact x_iret (dX17_infer 34 rfl rfl) rfl hf
  · replace hf := hf.2 c5
    refine x_aload_n (pc' := 19) 0 (dX17_infer 10 rfl rfl) rfl rfl rfl ?_
    obtain ⟨b18, e19, hf⟩ := hf
    refine x_getR (pc' := 22) (dX17_infer 11 rfl rfl) g298 q1731 (Or.inl rfl) rfl (hf_of 16 k1 rfl (by decide) m16_298) e19 ?_
    refine x_iload_n (pc' := 23) 3 (dX17_infer 12 rfl rfl) rfl rfl rfl ?_
    obtain ⟨k22, hf⟩ := hf
    refine x_inv (pc' := 26) (ν := mX7_dec) (av := [_, _]) (st := []) rfl rfl (dX17_infer 13 rfl rfl) (Nat.le_of_ble_eq_true rfl) wX7_dec q221 (inv_V (k := 5) (dX17_infer 13 rfl rfl) q2036 q2037 q2038 wX7_dec (by decide) lX7_dec (by decide) k22) (exN (by decide)) rfl ?_
    refine C.mono hf (fun _ _ => KR.g (fun b23 h20 hf le21 => ?_))
    have k1 := leK le21 k1 (by decide)
    have k4 := leK le21 k4 (by decide)
    have k22 := leK le21 k22 (by decide)
    replace s2 := s2.le sc2 (le21)
    replace s6 := s6.le sc6 (le21)
    refine x_aload_n (pc' := 27) 1 (dX17_infer 14 rfl rfl) rfl rfl rfl ?_
    obtain ⟨k, ν, ⟨v0, v1, v2, v3, v4, v5, v6, v7⟩, k27, hf⟩ := hf
    refine x_inv (pc' := 30) (ν := ν) (st := []) rfl (sub_tr v7 rfl) (dX17_infer 15 rfl rfl) (by have := v5; simp only [List.map, List.sum_cons, List.sum_nil, Value.category]; omega) v1 v2 (inv_U (k := k) (av := [_]) (dX17_infer 15 rfl rfl) q2637 q2330 (by decide) v3 v4 (by decide) (show _ = some 1 by decide +kernel) v0 k27) (exN v6) rfl ?_
    refine C.mono hf (fun _ _ => KV.g (fun h24 hf le25 => ?_))
    replace le25 := Le.nx v6 le25
    have k1 := leK le25 k1 (by decide)
    have k4 := leK le25 k4 (by decide)
    have k22 := leK le25 k22 (by decide)
    replace s2 := s2.le sc2 (le25)
    replace s6 := s6.le sc6 (le25)
    replace hf := hf _ rfl
    refine x_iinc (pc' := 33) 3 (dX17_infer 16 rfl rfl) rfl (by rfl) (by decide) rfl rfl ?_
    refine x_goto (tgt := 7) (dX17_infer 17 rfl rfl) (by decide) ?_
    exact X.sub [1, 2, 3, 0] rfl (by simp) hf
theorem bX17_begin (G : Gh) (d : Nat) (h : AH) (Q : Outcome → AH → Prop) (a0 : Nat) (p2 : Int32) (s3 : So 3 (gW G) h) (hf : hK h a0 = 17 ∧ (OC (fR h a0 299) (C G mX17_go d [.ref (a0), .ref (gW G 3), .int (0), .int (p2)] h (KV Q (fun h4 => Q (.returned none) h4))) (fun b2 => C G mX6_pay d [.ref (gW G 3), .int (1)] h (KI Q (fun x8 h6 => (x8 = 0 → (Q (.returned none) h6)) ∧ (¬ x8 = 0 → (C G mX17_go d [.ref (a0), .ref (gW G 3), .int (0), .int (p2)] h6 (KV Q (fun h10 => Q (.returned none) h10))))))))) : C G mX17_begin (d + 1) [.ref (a0), .ref (gW G 3), .int (p2)] h Q := by
  refine C.of_X (by decide +kernel) (Nat.le_of_ble_eq_true rfl) wX17_begin ?_
  show X G mX17_begin (d + 1) none [] 0 [(0, .ref (a0)), (1, .ref (gW G 3)), (2, .int (p2))] [] h Q
  refine x_aload_n (pc' := 1) 0 (dX17_begin 0 rfl rfl) rfl rfl rfl ?_
  obtain ⟨k1, hf⟩ := hf
  obtain ⟨ho0, ho1⟩ := hf
  rcases hr : fR _ a0 299 with _ | b2
  · replace hf := ho0 hr
    refine x_getN (pc' := 4) (dX17_begin 1 rfl rfl) g299 q1733 (Or.inl rfl) rfl (hf_of 16 k1 rfl (by decide) m16_299) hr ?_
    refine x_ifnullN (tgt := 15) (dX17_begin 2 rfl rfl) (by decide) ?_
    refine x_aload_n (pc' := 16) 0 (dX17_begin 7 rfl rfl) rfl rfl rfl ?_
    refine x_aload_n (pc' := 17) 1 (dX17_begin 8 rfl rfl) rfl rfl rfl ?_
    refine x_iconst (pc' := 18) (v := 0) (dX17_begin 9 rfl rfl) (by decide) rfl ?_
    refine x_iload_n (pc' := 19) 2 (dX17_begin 10 rfl rfl) rfl rfl rfl ?_
    refine x_inv (pc' := 22) (ν := mX17_go) (av := [_, _, _, _]) (st := []) rfl rfl (dX17_begin 11 rfl rfl) (Nat.le_of_ble_eq_true rfl) wX17_go q238 (inv_V (k := 16) (dX17_begin 11 rfl rfl) q2968 q2970 qs55 wX17_go (by decide) lX17_go (by decide) k1) (exN (by decide)) rfl ?_
    refine C.mono hf (fun _ _ => KV.g (fun h4 hf le5 => ?_))
    have k1 := leK le5 k1 (by decide)
    replace s3 := s3.le sc3 (le5)
    exact x_vret (dX17_begin 12 rfl rfl) rfl hf
  · replace hf := ho1 _ hr
    refine x_getR (pc' := 4) (dX17_begin 1 rfl rfl) g299 q1733 (Or.inl rfl) rfl (hf_of 16 k1 rfl (by decide) m16_299) hr ?_
    refine x_ifnull (pc' := 7) (dX17_begin 2 rfl rfl) rfl ?_
    refine x_aload_n (pc' := 8) 1 (dX17_begin 3 rfl rfl) rfl rfl rfl ?_
    refine x_iconst (pc' := 9) (v := 1) (dX17_begin 4 rfl rfl) (by decide) rfl ?_
    refine x_inv (pc' := 12) (ν := mX6_pay) (av := [_, _]) (st := []) rfl rfl (dX17_begin 5 rfl rfl) (Nat.le_of_ble_eq_true rfl) wX6_pay q220 (inv_V (k := 4) (dX17_begin 5 rfl rfl) q2967 q2891 q2892 wX6_pay (by decide) lX6_pay (by decide) s3.1) (exN (by decide)) rfl ?_
    refine C.mono hf (fun _ _ => KI.g (fun x8 h6 hf le7 => ?_))
    have k1 := leK le7 k1 (by decide)
    replace s3 := s3.le sc3 (le7)
    refine x_if_eq (pc' := 15) (tgt := 22) (dX17_begin 6 rfl rfl) (by decide) rfl (fun c9 => ?_) (fun c9 => ?_)
    · replace hf := hf.1 c9
      exact x_vret (dX17_begin 12 rfl rfl) rfl hf
    · replace hf := hf.2 c9
      refine x_aload_n (pc' := 16) 0 (dX17_begin 7 rfl rfl) rfl rfl rfl ?_
      refine x_aload_n (pc' := 17) 1 (dX17_begin 8 rfl rfl) rfl rfl rfl ?_
      refine x_iconst (pc' := 18) (v := 0) (dX17_begin 9 rfl rfl) (by decide) rfl ?_
      refine x_iload_n (pc' := 19) 2 (dX17_begin 10 rfl rfl) rfl rfl rfl ?_
      refine x_inv (pc' := 22) (ν := mX17_go) (av := [_, _, _, _]) (st := []) rfl rfl (dX17_begin 11 rfl rfl) (Nat.le_of_ble_eq_true rfl) wX17_go q238 (inv_V (k := 16) (dX17_begin 11 rfl rfl) q2968 q2970 qs55 wX17_go (by decide) lX17_go (by decide) k1) (exN (by decide)) rfl ?_
      refine C.mono hf (fun _ _ => KV.g (fun h10 hf le11 => ?_))
      have k1 := leK le11 k1 (by decide)
      replace s3 := s3.le sc3 (le11)
      exact x_vret (dX17_begin 12 rfl rfl) rfl hf
theorem bX17_go (G : Gh) (d : Nat) (h : AH) (Q : Outcome → AH → Prop) (a0 : Nat) (p2 : Int32) (p3 : Int32) (hf : X G mX17_go (d + 1) none [] 6 [(0, .ref (a0)), (1, .ref (gW G 3)), (4, .int (p3)), (5, .int (p2))] [] h Q) : C G mX17_go (d + 1) [.ref (a0), .ref (gW G 3), .int (p2), .int (p3)] h Q := by
  refine C.of_X (by decide +kernel) (Nat.le_of_ble_eq_true rfl) wX17_go ?_
  show X G mX17_go (d + 1) none [] 0 [(0, .ref (a0)), (1, .ref (gW G 3)), (2, .int (p2)), (3, .int (p3))] [] h Q
  refine x_iload_n (pc' := 1) 3 (dX17_go 0 rfl rfl) rfl rfl rfl ?_
  refine x_istore (pc' := 3) (dX17_go 1 rfl rfl) (by decide) rfl rfl ?_
  refine x_iload_n (pc' := 4) 3 (dX17_go 2 rfl rfl) rfl rfl rfl ?_
  refine x_istore (pc' := 6) (dX17_go 3 rfl rfl) (by decide) rfl rfl ?_
  exact X.sub [2, 3, 1, 0] rfl (by simp) hf
theorem bX17_go_6 (G : Gh) (d : Nat) (h : AH) (Q : Outcome → AH → Prop) (l0 : Nat) (l4 : Int32) (l5 : Int32) (s3 : So 3 (gW G) h) (hf : hK h l0 = 17 ∧ (∃ b2, fR h l0 298 = some b2 ∧ (hK h b2 = 6 ∧ (((fI h b2 78) ≤ l5 → (C G mX6_isOver d [.ref (gW G 3)] h (KI Q (fun x8 h6 => (x8 = 0 → (OC (fR h6 l0 299) (C G mX6_done d [.ref (gW G 3), .int (l4)] h6 (KV Q (fun h12 => Q (.returned none) h12))) (fun b10 => OC (fR h6 l0 299) (C G mX6_next d [.ref (gW G 3), .null, .int (l4)] h6 (KV Q (fun h16 => Q (.returned none) h16))) (fun b14 => C G mX6_next d [.ref (gW G 3), .ref (b14), .int (l4)] h6 (KV Q (fun h18 => Q (.returned none) h18)))))) ∧ (¬ x8 = 0 → (Q (.returned none) h6)))))) ∧ (¬ ((fI h b2 78) ≤ l5) → (C G mX6_isOver d [.ref (gW G 3)] h (KI Q (fun x22 h20 => (x22 = 0 → (∃ b38, fR h20 l0 298 = some b38 ∧ (hK h20 b38 = 6 ∧ (C G mX7_dec d [.ref (b38), .int (l5)] h20 (KR Q (fun b43 h40 => ∃ (k : Nat) (ν : Mu), VT yX29_exp VMDec_exp k ν ∧ hK h40 b43 = k + 1 ∧ C G ν d [.ref (b43)] h40 (KN Q (fun h44 => ∃ (k : Nat) (ν : Mu), VT ⟨"LetMill$Dec", "begin", "(LLetMill$Machine;I)I"⟩ VMDec_begin k ν ∧ hK h44 b43 = k + 1 ∧ C G ν d [.ref (b43), .ref (gW G 3), .int (l4)] h44 (KI Q (fun x49 h47 => ∀ x50 : Int32, x50 = l5 + 1 → (X G mX17_go (d + 1) none [] 6 [(0, .ref (l0)), (1, .ref (gW G 3)), (4, .int (x49)), (5, .int (x50))] [] h47 Q)))) (fun b46 h44 => C G mX6_frame d [.ref (gW G 3), .ref (l0), .int (l5), .int (l4)] h44 (KV Q (fun h54 => ∃ (k : Nat) (ν : Mu), VT yX29_exp VMDec_exp k ν ∧ hK h54 b43 = k + 1 ∧ C G ν d [.ref (b43)] h54 (KN Q (fun h56 => C G mX6_next d [.ref (gW G 3), .null, .int (l4)] h56 (KV Q (fun h59 => Q (.returned none) h59))) (fun b58 h56 => C G mX6_next d [.ref (gW G 3), .ref (b58), .int (l4)] h56 (KV Q (fun h61 => Q (.returned none) h61)))))))))))))) ∧ (¬ x22 = 0 → (C G mX6_isOver d [.ref (gW G 3)] h20 (KI Q (fun x26 h24 => (x26 = 0 → (OC (fR h24 l0 299) (C G mX6_done d [.ref (gW G 3), .int (l4)] h24 (KV Q (fun h30 => Q (.returned none) h30))) (fun b28 => OC (fR h24 l0 299) (C G mX6_next d [.ref (gW G 3), .null, .int (l4)] h24 (KV Q (fun h34 => Q (.returned none) h34))) (fun b32 => C G mX6_next d [.ref (gW G 3), .ref (b32), .int (l4)] h24 (KV Q (fun h36 => Q (.returned none) h36)))))) ∧ (¬ x26 = 0 → (Q (.returned none) h24)))))))))))))) : X G mX17_go (d + 1) none [] 6 [(0, .ref (l0)), (1, .ref (gW G 3)), (4, .int (l4)), (5, .int (l5))] [] h Q := by
  refine x_iload (pc' := 8) 3 (dX17_go 4 rfl rfl) rfl rfl ?_
  refine x_aload_n (pc' := 9) 0 (dX17_go 5 rfl rfl) rfl rfl rfl ?_
  obtain ⟨k1, hf⟩ := hf
  obtain ⟨b2, e3, hf⟩ := hf
  refine x_getR (pc' := 12) (dX17_go 6 rfl rfl) g298 q1731 (Or.inl rfl) rfl (hf_of 16 k1 rfl (by decide) m16_298) e3 ?_
  obtain ⟨k4, hf⟩ := hf
  refine x_getI (pc' := 15) (dX17_go 7 rfl rfl) g78 q572 (Or.inl rfl) rfl (hf_of 5 k4 rfl (by decide) m5_78) ?_
  refine x_icmp_ge (pc' := 18) (tgt := 81) (dX17_go 8 rfl rfl) (by decide) rfl (fun c5 => ?_) (fun c5 => ?_)
  · replace hf := hf.1 c5
    refine x_aload_n (pc' := 82) 1 (dX17_go 38 rfl rfl) rfl rfl rfl ?_
    refine x_inv (pc' := 85) (ν := mX6_isOver) (av := [_]) (st := []) rfl rfl (dX17_go 39 rfl rfl) (Nat.le_of_ble_eq_true rfl) wX6_isOver q220 (inv_V (k := 4) (dX17_go 39 rfl rfl) q2972 q2973 q2974 wX6_isOver (by decide) lX6_isOver (by decide) s3.1) (exN (by decide)) rfl ?_
    refine C.mono hf (fun _ _ => KI.g (fun x8 h6 hf le7 => ?_))
    have k1 := leK le7 k1 (by decide)
    have k4 := leK le7 k4 (by decide)
    replace s3 := s3.le sc3 (le7)
    refine x_if_eq (pc' := 88) (tgt := 89) (dX17_go 40 rfl rfl) (by decide) rfl (fun c9 => ?_) (fun c9 => ?_)
    · replace hf := hf.1 c9
      refine x_aload_n (pc' := 90) 0 (dX17_go 42 rfl rfl) rfl rfl rfl ?_
      obtain ⟨ho0, ho1⟩ := hf
      rcases hr : fR _ l0 299 with _ | b10
      · replace hf := ho0 hr
        refine x_getN (pc' := 93) (dX17_go 43 rfl rfl) g299 q1733 (Or.inl rfl) rfl (hf_of 16 k1 rfl (by decide) m16_299) hr ?_
        refine x_ifnonnullN (pc' := 96) (dX17_go 44 rfl rfl) rfl ?_
        refine x_aload_n (pc' := 97) 1 (dX17_go 45 rfl rfl) rfl rfl rfl ?_
        refine x_iload (pc' := 99) 2 (dX17_go 46 rfl rfl) rfl rfl ?_
        refine x_inv (pc' := 102) (ν := mX6_done) (av := [_, _]) (st := []) rfl rfl (dX17_go 47 rfl rfl) (Nat.le_of_ble_eq_true rfl) wX6_done q220 (inv_V (k := 4) (dX17_go 47 rfl rfl) q3015 q3016 q3017 wX6_done (by decide) lX6_done (by decide) s3.1) (exN (by decide)) rfl ?_
        refine C.mono hf (fun _ _ => KV.g (fun h12 hf le13 => ?_))
        have k1 := leK le13 k1 (by decide)
        have k4 := leK le13 k4 (by decide)
        replace s3 := s3.le sc3 (le13)
        refine x_goto (tgt := 115) (dX17_go 48 rfl rfl) (by decide) ?_
        exact x_vret (dX17_go 54 rfl rfl) rfl hf
      · replace hf := ho1 _ hr
        refine x_getR (pc' := 93) (dX17_go 43 rfl rfl) g299 q1733 (Or.inl rfl) rfl (hf_of 16 k1 rfl (by decide) m16_299) hr ?_
        refine x_ifnonnull (tgt := 105) (dX17_go 44 rfl rfl) (by decide) ?_
        refine x_aload_n (pc' := 106) 1 (dX17_go 49 rfl rfl) rfl rfl rfl ?_
        refine x_aload_n (pc' := 107) 0 (dX17_go 50 rfl rfl) rfl rfl rfl ?_
        obtain ⟨ho0, ho1⟩ := hf
        rcases hr : fR _ l0 299 with _ | b14
        · replace hf := ho0 hr
          refine x_getN (pc' := 110) (dX17_go 51 rfl rfl) g299 q1733 (Or.inl rfl) rfl (hf_of 16 k1 rfl (by decide) m16_299) hr ?_
          refine x_iload (pc' := 112) 2 (dX17_go 52 rfl rfl) rfl rfl ?_
          refine x_inv (pc' := 115) (ν := mX6_next) (av := [_, _, _]) (st := []) rfl rfl (dX17_go 53 rfl rfl) (Nat.le_of_ble_eq_true rfl) wX6_next q220 (inv_V (k := 4) (dX17_go 53 rfl rfl) q2986 q2881 q2882 wX6_next (by decide) lX6_next (by decide) s3.1) (exN (by decide)) rfl ?_
          refine C.mono hf (fun _ _ => KV.g (fun h16 hf le17 => ?_))
          have k1 := leK le17 k1 (by decide)
          have k4 := leK le17 k4 (by decide)
          replace s3 := s3.le sc3 (le17)
          exact x_vret (dX17_go 54 rfl rfl) rfl hf
        · replace hf := ho1 _ hr
          refine x_getR (pc' := 110) (dX17_go 51 rfl rfl) g299 q1733 (Or.inl rfl) rfl (hf_of 16 k1 rfl (by decide) m16_299) hr ?_
          refine x_iload (pc' := 112) 2 (dX17_go 52 rfl rfl) rfl rfl ?_
          refine x_inv (pc' := 115) (ν := mX6_next) (av := [_, _, _]) (st := []) rfl rfl (dX17_go 53 rfl rfl) (Nat.le_of_ble_eq_true rfl) wX6_next q220 (inv_V (k := 4) (dX17_go 53 rfl rfl) q2986 q2881 q2882 wX6_next (by decide) lX6_next (by decide) s3.1) (exN (by decide)) rfl ?_
          refine C.mono hf (fun _ _ => KV.g (fun h18 hf le19 => ?_))
          have k1 := leK le19 k1 (by decide)
          have k4 := leK le19 k4 (by decide)
          replace s3 := s3.le sc3 (le19)
          exact x_vret (dX17_go 54 rfl rfl) rfl hf
    · replace hf := hf.2 c9
      exact x_vret (dX17_go 41 rfl rfl) rfl hf
  · replace hf := hf.2 c5
    refine x_aload_n (pc' := 19) 1 (dX17_go 9 rfl rfl) rfl rfl rfl ?_
    refine x_inv (pc' := 22) (ν := mX6_isOver) (av := [_]) (st := []) rfl rfl (dX17_go 10 rfl rfl) (Nat.le_of_ble_eq_true rfl) wX6_isOver q220 (inv_V (k := 4) (dX17_go 10 rfl rfl) q2972 q2973 q2974 wX6_isOver (by decide) lX6_isOver (by decide) s3.1) (exN (by decide)) rfl ?_
    refine C.mono hf (fun _ _ => KI.g (fun x22 h20 hf le21 => ?_))
    have k1 := leK le21 k1 (by decide)
    have k4 := leK le21 k4 (by decide)
    replace s3 := s3.le sc3 (le21)
    refine x_if_ne (pc' := 25) (tgt := 81) (dX17_go 11 rfl rfl) (by decide) rfl (fun c23 => ?_) (fun c23 => ?_)
    · replace hf := hf.2 c23
      refine x_aload_n (pc' := 82) 1 (dX17_go 38 rfl rfl) rfl rfl rfl ?_
      refine x_inv (pc' := 85) (ν := mX6_isOver) (av := [_]) (st := []) rfl rfl (dX17_go 39 rfl rfl) (Nat.le_of_ble_eq_true rfl) wX6_isOver q220 (inv_V (k := 4) (dX17_go 39 rfl rfl) q2972 q2973 q2974 wX6_isOver (by decide) lX6_isOver (by decide) s3.1) (exN (by decide)) rfl ?_
      refine C.mono hf (fun _ _ => KI.g (fun x26 h24 hf le25 => ?_))
      have k1 := leK le25 k1 (by decide)
      have k4 := leK le25 k4 (by decide)
      replace s3 := s3.le sc3 (le25)
      refine x_if_eq (pc' := 88) (tgt := 89) (dX17_go 40 rfl rfl) (by decide) rfl (fun c27 => ?_) (fun c27 => ?_)
      · replace hf := hf.1 c27
        refine x_aload_n (pc' := 90) 0 (dX17_go 42 rfl rfl) rfl rfl rfl ?_
        obtain ⟨ho0, ho1⟩ := hf
        rcases hr : fR _ l0 299 with _ | b28
        · replace hf := ho0 hr
          refine x_getN (pc' := 93) (dX17_go 43 rfl rfl) g299 q1733 (Or.inl rfl) rfl (hf_of 16 k1 rfl (by decide) m16_299) hr ?_
          refine x_ifnonnullN (pc' := 96) (dX17_go 44 rfl rfl) rfl ?_
          refine x_aload_n (pc' := 97) 1 (dX17_go 45 rfl rfl) rfl rfl rfl ?_
          refine x_iload (pc' := 99) 2 (dX17_go 46 rfl rfl) rfl rfl ?_
          refine x_inv (pc' := 102) (ν := mX6_done) (av := [_, _]) (st := []) rfl rfl (dX17_go 47 rfl rfl) (Nat.le_of_ble_eq_true rfl) wX6_done q220 (inv_V (k := 4) (dX17_go 47 rfl rfl) q3015 q3016 q3017 wX6_done (by decide) lX6_done (by decide) s3.1) (exN (by decide)) rfl ?_
          refine C.mono hf (fun _ _ => KV.g (fun h30 hf le31 => ?_))
          have k1 := leK le31 k1 (by decide)
          have k4 := leK le31 k4 (by decide)
          replace s3 := s3.le sc3 (le31)
          refine x_goto (tgt := 115) (dX17_go 48 rfl rfl) (by decide) ?_
          exact x_vret (dX17_go 54 rfl rfl) rfl hf
        · replace hf := ho1 _ hr
          refine x_getR (pc' := 93) (dX17_go 43 rfl rfl) g299 q1733 (Or.inl rfl) rfl (hf_of 16 k1 rfl (by decide) m16_299) hr ?_
          refine x_ifnonnull (tgt := 105) (dX17_go 44 rfl rfl) (by decide) ?_
          refine x_aload_n (pc' := 106) 1 (dX17_go 49 rfl rfl) rfl rfl rfl ?_
          refine x_aload_n (pc' := 107) 0 (dX17_go 50 rfl rfl) rfl rfl rfl ?_
          obtain ⟨ho0, ho1⟩ := hf
          rcases hr : fR _ l0 299 with _ | b32
          · replace hf := ho0 hr
            refine x_getN (pc' := 110) (dX17_go 51 rfl rfl) g299 q1733 (Or.inl rfl) rfl (hf_of 16 k1 rfl (by decide) m16_299) hr ?_
            refine x_iload (pc' := 112) 2 (dX17_go 52 rfl rfl) rfl rfl ?_
            refine x_inv (pc' := 115) (ν := mX6_next) (av := [_, _, _]) (st := []) rfl rfl (dX17_go 53 rfl rfl) (Nat.le_of_ble_eq_true rfl) wX6_next q220 (inv_V (k := 4) (dX17_go 53 rfl rfl) q2986 q2881 q2882 wX6_next (by decide) lX6_next (by decide) s3.1) (exN (by decide)) rfl ?_
            refine C.mono hf (fun _ _ => KV.g (fun h34 hf le35 => ?_))
            have k1 := leK le35 k1 (by decide)
            have k4 := leK le35 k4 (by decide)
            replace s3 := s3.le sc3 (le35)
            exact x_vret (dX17_go 54 rfl rfl) rfl hf
          · replace hf := ho1 _ hr
            refine x_getR (pc' := 110) (dX17_go 51 rfl rfl) g299 q1733 (Or.inl rfl) rfl (hf_of 16 k1 rfl (by decide) m16_299) hr ?_
            refine x_iload (pc' := 112) 2 (dX17_go 52 rfl rfl) rfl rfl ?_
            refine x_inv (pc' := 115) (ν := mX6_next) (av := [_, _, _]) (st := []) rfl rfl (dX17_go 53 rfl rfl) (Nat.le_of_ble_eq_true rfl) wX6_next q220 (inv_V (k := 4) (dX17_go 53 rfl rfl) q2986 q2881 q2882 wX6_next (by decide) lX6_next (by decide) s3.1) (exN (by decide)) rfl ?_
            refine C.mono hf (fun _ _ => KV.g (fun h36 hf le37 => ?_))
            have k1 := leK le37 k1 (by decide)
            have k4 := leK le37 k4 (by decide)
            replace s3 := s3.le sc3 (le37)
            exact x_vret (dX17_go 54 rfl rfl) rfl hf
      · replace hf := hf.2 c27
        exact x_vret (dX17_go 41 rfl rfl) rfl hf
    · replace hf := hf.1 (Classical.not_not.mp c23)
      replace c23 := Classical.not_not.mp c23
      refine x_aload_n (pc' := 26) 0 (dX17_go 12 rfl rfl) rfl rfl rfl ?_
      obtain ⟨b38, e39, hf⟩ := hf
      refine x_getR (pc' := 29) (dX17_go 13 rfl rfl) g298 q1731 (Or.inl rfl) rfl (hf_of 16 k1 rfl (by decide) m16_298) e39 ?_
      refine x_iload (pc' := 31) 3 (dX17_go 14 rfl rfl) rfl rfl ?_
      obtain ⟨k42, hf⟩ := hf
      refine x_inv (pc' := 34) (ν := mX7_dec) (av := [_, _]) (st := []) rfl rfl (dX17_go 15 rfl rfl) (Nat.le_of_ble_eq_true rfl) wX7_dec q221 (inv_V (k := 5) (dX17_go 15 rfl rfl) q2036 q2037 q2038 wX7_dec (by decide) lX7_dec (by decide) k42) (exN (by decide)) rfl ?_
      refine C.mono hf (fun _ _ => KR.g (fun b43 h40 hf le41 => ?_))
      have k1 := leK le41 k1 (by decide)
      have k4 := leK le41 k4 (by decide)
      have k42 := leK le41 k42 (by decide)
      replace s3 := s3.le sc3 (le41)
      refine x_astore (pc' := 36) (dX17_go 16 rfl rfl) (by decide) rfl rfl ?_
      refine x_aload (pc' := 38) 0 (dX17_go 17 rfl rfl) rfl rfl ?_
      obtain ⟨k, ν, ⟨v0, v1, v2, v3, v4, v5, v6, v7⟩, k66, hf⟩ := hf
      refine x_inv (pc' := 41) (ν := ν) (st := []) rfl (sub_tr v7 rfl) (dX17_go 18 rfl rfl) (by have := v5; simp only [List.map, List.sum_cons, List.sum_nil, Value.category]; omega) v1 v2 (inv_O (ξ := mX29_exp) (k := k) (av := []) (dX17_go 18 rfl rfl) q2976 q2978 q2977 q2984 v3 v4 (by decide) lX29_exp v0 k66) (exN v6) rfl ?_
      refine C.mono hf (fun _ _ => KN.g (fun h44 hf le45 => ?_) (fun b46 h44 hf le45 => ?_))
      · replace le45 := Le.nx v6 le45
        have k1 := leK le45 k1 (by decide)
        have k4 := leK le45 k4 (by decide)
        have k42 := leK le45 k42 (by decide)
        replace s3 := s3.le sc3 (le45)
        refine x_ifnullN (tgt := 65) (dX17_go 19 rfl rfl) (by decide) ?_
        refine x_aload (pc' := 67) 0 (dX17_go 31 rfl rfl) rfl rfl ?_
        refine x_aload_n (pc' := 68) 2 (dX17_go 32 rfl rfl) rfl rfl rfl ?_
        refine x_iload (pc' := 70) 3 (dX17_go 33 rfl rfl) rfl rfl ?_
        obtain ⟨k, ν, ⟨v0, v1, v2, v3, v4, v5, v6, v7⟩, k51, hf⟩ := hf
        refine x_inv (pc' := 73) (ν := ν) (st := []) rfl (sub_tr v7 rfl) (dX17_go 34 rfl rfl) (by have := v5; simp only [List.map, List.sum_cons, List.sum_nil, Value.category]; omega) v1 v2 (inv_U (k := k) (av := [_, _]) (dX17_go 34 rfl rfl) q2987 q2989 (by decide) v3 v4 (by decide) (show _ = some 2 by decide +kernel) v0 k51) (exN v6) rfl ?_
        refine C.mono hf (fun _ _ => KI.g (fun x49 h47 hf le48 => ?_))
        replace le48 := Le.nx v6 le48
        have k1 := leK le48 k1 (by decide)
        have k4 := leK le48 k4 (by decide)
        have k42 := leK le48 k42 (by decide)
        replace s3 := s3.le sc3 (le48)
        refine x_istore (pc' := 75) (dX17_go 35 rfl rfl) (by decide) rfl rfl ?_
        replace hf := hf _ rfl
        refine x_iinc (pc' := 78) 4 (dX17_go 36 rfl rfl) rfl (by rfl) (by decide) rfl rfl ?_
        refine x_goto (tgt := 6) (dX17_go 37 rfl rfl) (by decide) ?_
        exact X.sub [3, 4, 1, 0] rfl (by simp) hf
      · replace le45 := Le.nx v6 le45
        have k1 := leK le45 k1 (by decide)
        have k4 := leK le45 k4 (by decide)
        have k42 := leK le45 k42 (by decide)
        replace s3 := s3.le sc3 (le45)
        refine x_ifnull (pc' := 44) (dX17_go 19 rfl rfl) rfl ?_
        refine x_aload_n (pc' := 45) 2 (dX17_go 20 rfl rfl) rfl rfl rfl ?_
        refine x_aload_n (pc' := 46) 1 (dX17_go 21 rfl rfl) rfl rfl rfl ?_
        refine x_iload (pc' := 48) 4 (dX17_go 22 rfl rfl) rfl rfl ?_
        refine x_iload (pc' := 50) 3 (dX17_go 23 rfl rfl) rfl rfl ?_
        refine x_inv (pc' := 53) (ν := mX6_frame) (av := [_, _, _, _]) (st := []) rfl rfl (dX17_go 24 rfl rfl) (Nat.le_of_ble_eq_true rfl) wX6_frame q220 (inv_V (k := 4) (dX17_go 24 rfl rfl) q2985 q2899 q2900 wX6_frame (by decide) lX6_frame (by decide) s3.1) (exN (by decide)) rfl ?_
        refine C.mono hf (fun _ _ => KV.g (fun h54 hf le55 => ?_))
        have k1 := leK le55 k1 (by decide)
        have k4 := leK le55 k4 (by decide)
        have k42 := leK le55 k42 (by decide)
        replace s3 := s3.le sc3 (le55)
        refine x_aload_n (pc' := 54) 2 (dX17_go 25 rfl rfl) rfl rfl rfl ?_
        refine x_aload (pc' := 56) 0 (dX17_go 26 rfl rfl) rfl rfl ?_
        obtain ⟨k, ν, ⟨v0, v1, v2, v3, v4, v5, v6, v7⟩, k63, hf⟩ := hf
        refine x_inv (pc' := 59) (ν := ν) (st := [_]) rfl (sub_tr v7 rfl) (dX17_go 27 rfl rfl) (by have := v5; simp only [List.map, List.sum_cons, List.sum_nil, Value.category]; omega) v1 v2 (inv_O (ξ := mX29_exp) (k := k) (av := []) (dX17_go 27 rfl rfl) q2976 q2978 q2977 q2984 v3 v4 (by decide) lX29_exp v0 k63) (exN v6) rfl ?_
        refine C.mono hf (fun _ _ => KN.g (fun h56 hf le57 => ?_) (fun b58 h56 hf le57 => ?_))
        · replace le57 := Le.nx v6 le57
          have k1 := leK le57 k1 (by decide)
          have k4 := leK le57 k4 (by decide)
          have k42 := leK le57 k42 (by decide)
          replace s3 := s3.le sc3 (le57)
          refine x_iload (pc' := 61) 3 (dX17_go 28 rfl rfl) rfl rfl ?_
          refine x_inv (pc' := 64) (ν := mX6_next) (av := [_, _, _]) (st := []) rfl rfl (dX17_go 29 rfl rfl) (Nat.le_of_ble_eq_true rfl) wX6_next q220 (inv_V (k := 4) (dX17_go 29 rfl rfl) q2986 q2881 q2882 wX6_next (by decide) lX6_next (by decide) s3.1) (exN (by decide)) rfl ?_
          refine C.mono hf (fun _ _ => KV.g (fun h59 hf le60 => ?_))
          have k1 := leK le60 k1 (by decide)
          have k4 := leK le60 k4 (by decide)
          have k42 := leK le60 k42 (by decide)
          replace s3 := s3.le sc3 (le60)
          exact x_vret (dX17_go 30 rfl rfl) rfl hf
        · replace le57 := Le.nx v6 le57
          have k1 := leK le57 k1 (by decide)
          have k4 := leK le57 k4 (by decide)
          have k42 := leK le57 k42 (by decide)
          replace s3 := s3.le sc3 (le57)
          refine x_iload (pc' := 61) 3 (dX17_go 28 rfl rfl) rfl rfl ?_
          refine x_inv (pc' := 64) (ν := mX6_next) (av := [_, _, _]) (st := []) rfl rfl (dX17_go 29 rfl rfl) (Nat.le_of_ble_eq_true rfl) wX6_next q220 (inv_V (k := 4) (dX17_go 29 rfl rfl) q2986 q2881 q2882 wX6_next (by decide) lX6_next (by decide) s3.1) (exN (by decide)) rfl ?_
          refine C.mono hf (fun _ _ => KV.g (fun h61 hf le62 => ?_))
          have k1 := leK le62 k1 (by decide)
          have k4 := leK le62 k4 (by decide)
          have k42 := leK le62 k42 (by decide)
          replace s3 := s3.le sc3 (le62)
          exact x_vret (dX17_go 30 rfl rfl) rfl hf
theorem bX17_resume (G : Gh) (d : Nat) (h : AH) (Q : Outcome → AH → Prop) (a0 : Nat) (p2 : Int32) (p3 : Int32) (p4 : Int32) (s3 : So 3 (gW G) h) (hf : hK h a0 = 17 ∧ (∃ b2, fR h a0 298 = some b2 ∧ (hK h b2 = 6 ∧ (C G mX7_dec d [.ref (b2), .int (p2)] h (KR Q (fun b7 h4 => hK h4 b7 = 28 ∧ (∃ b9, fR h4 b7 314 = some b9 ∧ (∃ (k : Nat) (ν : Mu), VT ⟨"LetMill$Pat", "fits", "(LLetMill$Machine;I)Z"⟩ VMPat_fits k ν ∧ hK h4 b9 = k + 1 ∧ C G ν d [.ref (b9), .ref (gW G 3), .int (p4)] h4 (KI Q (fun x13 h11 => (x13 = 0 → (C G mX6_fail d [.ref (gW G 3), .int (1)] h11 (KV Q (fun h25 => Q (.returned none) h25)))) ∧ (¬ x13 = 0 → (∃ b15, fR h11 b7 314 = some b15 ∧ (∃ (k : Nat) (ν : Mu), VT yX19_bind VMPat_bind k ν ∧ hK h11 b15 = k + 1 ∧ C G ν d [.ref (b15), .ref (gW G 3), .int (p4), .int (p3)] h11 (KI Q (fun x19 h17 => C G mX17_go d [.ref (a0), .ref (gW G 3), .int (p2 + 1), .int (x19)] h17 (KV Q (fun h20 => Q (.returned none) h20))))))))))))))))) : C G mX17_resume (d + 1) [.ref (a0), .ref (gW G 3), .int (p2), .int (p3), .int (p4)] h Q := by
  refine C.of_X (by decide +kernel) (Nat.le_of_ble_eq_true rfl) wX17_resume ?_
  show X G mX17_resume (d + 1) none [] 0 [(0, .ref (a0)), (1, .ref (gW G 3)), (2, .int (p2)), (3, .int (p3)), (4, .int (p4))] [] h Q
  refine x_aload_n (pc' := 1) 0 (dX17_resume 0 rfl rfl) rfl rfl rfl ?_
  obtain ⟨k1, hf⟩ := hf
  obtain ⟨b2, e3, hf⟩ := hf
  refine x_getR (pc' := 4) (dX17_resume 1 rfl rfl) g298 q1731 (Or.inl rfl) rfl (hf_of 16 k1 rfl (by decide) m16_298) e3 ?_
  refine x_iload_n (pc' := 5) 2 (dX17_resume 2 rfl rfl) rfl rfl rfl ?_
  obtain ⟨k6, hf⟩ := hf
  refine x_inv (pc' := 8) (ν := mX7_dec) (av := [_, _]) (st := []) rfl rfl (dX17_resume 3 rfl rfl) (Nat.le_of_ble_eq_true rfl) wX7_dec q221 (inv_V (k := 5) (dX17_resume 3 rfl rfl) q2036 q2037 q2038 wX7_dec (by decide) lX7_dec (by decide) k6) (exN (by decide)) rfl ?_
  refine C.mono hf (fun _ _ => KR.g (fun b7 h4 hf le5 => ?_))
  have k1 := leK le5 k1 (by decide)
  have k6 := leK le5 k6 (by decide)
  replace s3 := s3.le sc3 (le5)
  obtain ⟨k8, hf⟩ := hf
  refine x_castS (pc' := 11) (k := 27) (dX17_resume 4 rfl rfl) q3238 (by decide) k8 rfl ?_
  refine x_astore (pc' := 13) (dX17_resume 5 rfl rfl) (by decide) rfl rfl ?_
  refine x_aload (pc' := 15) 0 (dX17_resume 6 rfl rfl) rfl rfl ?_
  obtain ⟨b9, e10, hf⟩ := hf
  refine x_getR (pc' := 18) (dX17_resume 7 rfl rfl) g314 q1824 (Or.inl rfl) rfl (hf_of 27 k8 rfl (by decide) m27_314) e10 ?_
  refine x_aload_n (pc' := 19) 2 (dX17_resume 8 rfl rfl) rfl rfl rfl ?_
  refine x_iload (pc' := 21) 5 (dX17_resume 9 rfl rfl) rfl rfl ?_
  obtain ⟨k, ν, ⟨v0, v1, v2, v3, v4, v5, v6, v7⟩, k27, hf⟩ := hf
  refine x_inv (pc' := 24) (ν := ν) (st := []) rfl (sub_tr v7 rfl) (dX17_resume 10 rfl rfl) (by have := v5; simp only [List.map, List.sum_cons, List.sum_nil, Value.category]; omega) v1 v2 (inv_U (k := k) (av := [_, _]) (dX17_resume 10 rfl rfl) q3239 q3105 (by decide) v3 v4 (by decide) (show _ = some 2 by decide +kernel) v0 k27) (exN v6) rfl ?_
  refine C.mono hf (fun _ _ => KI.g (fun x13 h11 hf le12 => ?_))
  replace le12 := Le.nx v6 le12
  have k1 := leK le12 k1 (by decide)
  have k6 := leK le12 k6 (by decide)
  have k8 := leK le12 k8 (by decide)
  replace s3 := s3.le sc3 (le12)
  refine x_if_ne (pc' := 27) (tgt := 33) (dX17_resume 11 rfl rfl) (by decide) rfl (fun c14 => ?_) (fun c14 => ?_)
  · replace hf := hf.2 c14
    refine x_aload_n (pc' := 34) 1 (dX17_resume 16 rfl rfl) rfl rfl rfl ?_
    refine x_aload_n (pc' := 35) 2 (dX17_resume 17 rfl rfl) rfl rfl rfl ?_
    refine x_iload_n (pc' := 36) 3 (dX17_resume 18 rfl rfl) rfl rfl rfl ?_
    refine x_iconst (pc' := 37) (v := 1) (dX17_resume 19 rfl rfl) (by decide) rfl ?_
    refine x_iadd (pc' := 38) (dX17_resume 20 rfl rfl) rfl ?_
    refine x_aload (pc' := 40) 0 (dX17_resume 21 rfl rfl) rfl rfl ?_
    obtain ⟨b15, e16, hf⟩ := hf
    refine x_getR (pc' := 43) (dX17_resume 22 rfl rfl) g314 q1824 (Or.inl rfl) rfl (hf_of 27 k8 rfl (by decide) m27_314) e16 ?_
    refine x_aload_n (pc' := 44) 2 (dX17_resume 23 rfl rfl) rfl rfl rfl ?_
    refine x_iload (pc' := 46) 5 (dX17_resume 24 rfl rfl) rfl rfl ?_
    refine x_iload_n (pc' := 47) 4 (dX17_resume 25 rfl rfl) rfl rfl rfl ?_
    obtain ⟨k, ν, ⟨v0, v1, v2, v3, v4, v5, v6, v7⟩, k22, hf⟩ := hf
    refine x_inv (pc' := 50) (ν := ν) (st := [_, _, _]) rfl (sub_tr v7 rfl) (dX17_resume 26 rfl rfl) (by have := v5; simp only [List.map, List.sum_cons, List.sum_nil, Value.category]; omega) v1 v2 (inv_O (ξ := mX19_bind) (k := k) (av := [_, _, _]) (dX17_resume 26 rfl rfl) q3241 q3167 q3166 q3195 v3 v4 (by decide) lX19_bind v0 k22) (exN v6) rfl ?_
    refine C.mono hf (fun _ _ => KI.g (fun x19 h17 hf le18 => ?_))
    replace le18 := Le.nx v6 le18
    have k1 := leK le18 k1 (by decide)
    have k6 := leK le18 k6 (by decide)
    have k8 := leK le18 k8 (by decide)
    replace s3 := s3.le sc3 (le18)
    refine x_inv (pc' := 53) (ν := mX17_go) (av := [_, _, _, _]) (st := []) rfl rfl (dX17_resume 27 rfl rfl) (Nat.le_of_ble_eq_true rfl) wX17_go q238 (inv_V (k := 16) (dX17_resume 27 rfl rfl) q2968 q2970 qs55 wX17_go (by decide) lX17_go (by decide) k1) (exN (by decide)) rfl ?_
    refine C.mono hf (fun _ _ => KV.g (fun h20 hf le21 => ?_))
    have k1 := leK le21 k1 (by decide)
    have k6 := leK le21 k6 (by decide)
    have k8 := leK le21 k8 (by decide)
    replace s3 := s3.le sc3 (le21)
    exact x_vret (dX17_resume 28 rfl rfl) rfl hf
  · replace hf := hf.1 (Classical.not_not.mp c14)
    replace c14 := Classical.not_not.mp c14
    refine x_aload_n (pc' := 28) 2 (dX17_resume 12 rfl rfl) rfl rfl rfl ?_
    refine x_iconst (pc' := 29) (v := 1) (dX17_resume 13 rfl rfl) (by decide) rfl ?_
    refine x_inv (pc' := 32) (ν := mX6_fail) (av := [_, _]) (st := []) rfl rfl (dX17_resume 14 rfl rfl) (Nat.le_of_ble_eq_true rfl) wX6_fail q220 (inv_V (k := 4) (dX17_resume 14 rfl rfl) q3240 q2895 q2896 wX6_fail (by decide) lX6_fail (by decide) s3.1) (exN (by decide)) rfl ?_
    refine C.mono hf (fun _ _ => KV.g (fun h25 hf le26 => ?_))
    have k1 := leK le26 k1 (by decide)
    have k6 := leK le26 k6 (by decide)
    have k8 := leK le26 k8 (by decide)
    replace s3 := s3.le sc3 (le26)
    exact x_vret (dX17_resume 15 rfl rfl) rfl hf
theorem bX18_init (G : Gh) (d : Nat) (h : AH) (Q : Outcome → AH → Prop) (a0 : Nat) (p1 : Int32) (p2 : Int32) (hf : C G mJ6_init d [.ref (a0)] h (KV Q (fun h1 => hK h1 a0 = 18 ∧ (∀ h4, h4 = pI h1 a0 300 p1 → (∀ h5, h5 = pI h4 a0 301 p2 → (Q (.returned none) h5)))))) : C G mX18_init (d + 1) [.ref (a0), .int (p1), .int (p2)] h Q := by
  refine C.of_X (by decide +kernel) (Nat.le_of_ble_eq_true rfl) wX18_init ?_
  show X G mX18_init (d + 1) (some a0) [] 0 [(0, .ref (a0)), (1, .int (p1)), (2, .int (p2))] [] h Q
  refine x_aload_n (pc' := 1) 0 (dX18_init 0 rfl rfl) rfl rfl rfl ?_
  refine x_inv (pc' := 4) (ν := mJ6_init) (av := [_]) (st := []) rfl rfl (dX18_init 1 rfl rfl) (Nat.le_of_ble_eq_true rfl) wJ6_init q232 (inv_I (dX18_init 1 rfl rfl) q1305 q1094 q1095 rfl (by decide) lJ6_init) (fun b hb => by exact Or.inr (by rw [← hb]; rfl)) rfl ?_
  refine C.mono hf (fun _ _ => KV.g (fun h1 hf le2 => ?_))
  refine x_aload_n (pc' := 5) 0 (dX18_init 2 rfl rfl) rfl rfl rfl ?_
  refine x_iload_n (pc' := 6) 1 (dX18_init 3 rfl rfl) rfl rfl rfl ?_
  obtain ⟨k3, hf⟩ := hf
  refine x_putI (pc' := 9) (dX18_init 4 rfl rfl) g300 q1306 (Or.inl rfl) (Or.inr ⟨rfl, rfl, rfl, rfl⟩) (Or.inr rfl) rfl (hf_of 17 k3 rfl (by decide) m17_300) (fun h4 e7 => ?_)
  replace hf := hf h4 e7
  replace k3 : hK h4 a0 = 18 := by rw [e7]; exact k3
  refine x_aload_n (pc' := 10) 0 (dX18_init 5 rfl rfl) rfl rfl rfl ?_
  refine x_iload_n (pc' := 11) 2 (dX18_init 6 rfl rfl) rfl rfl rfl ?_
  refine x_putI (pc' := 14) (dX18_init 7 rfl rfl) g301 q1308 (Or.inl rfl) (Or.inr ⟨rfl, rfl, rfl, rfl⟩) (Or.inr rfl) rfl (hf_of 17 k3 rfl (by decide) m17_301) (fun h5 e6 => ?_)
  replace hf := hf h5 e6
  replace k3 : hK h5 a0 = 18 := by rw [e6]; exact k3
  exact x_vret (dX18_init 8 rfl rfl) rfl hf
theorem bX19_init (G : Gh) (d : Nat) (hd1 : 1 ≤ d) (h : AH) (Q : Outcome → AH → Prop) (a0 : Nat) (p1 : Int32) (hf : HF h a0 302 0 ∧ (∀ h2, h2 = pI h a0 302 p1 → (Q (.returned none) h2))) : C G mX19_init d [.ref (a0), .int (p1)] h Q := by
  refine C.of_X (by decide +kernel) (Nat.le_of_ble_eq_true rfl) wX19_init ?_
  show X G mX19_init d (some a0) [] 0 [(0, .ref (a0)), (1, .int (p1))] [] h Q
  refine x_aload_n (pc' := 1) 0 (dX19_init 0 rfl rfl) rfl rfl rfl ?_
  refine x_objInit (pc' := 4) (dX19_init 1 rfl rfl) q1346 q288 q289 (by decide) (by omega) rfl ?_
  refine x_aload_n (pc' := 5) 0 (dX19_init 2 rfl rfl) rfl rfl rfl ?_
  refine x_iload_n (pc' := 6) 1 (dX19_init 3 rfl rfl) rfl rfl rfl ?_
  obtain ⟨u1, hf⟩ := hf
  refine x_putI (pc' := 9) (dX19_init 4 rfl rfl) g302 q1347 (Or.inl rfl) (Or.inr ⟨rfl, rfl, rfl, rfl⟩) (Or.inr rfl) rfl u1 (fun h2 e3 => ?_)
  replace hf := hf h2 e3
  exact x_vret (dX19_init 5 rfl rfl) rfl hf
theorem bX19_bind (G : Gh) (d : Nat) (h : AH) (Q : Outcome → AH → Prop) (a0 : Nat) (p2 : Int32) (p3 : Int32) (hf : Q (.returned (some (.int p3))) h) : C G mX19_bind d [.ref (a0), .ref (gW G 3), .int (p2), .int (p3)] h Q := by
  refine C.of_X (by decide +kernel) (Nat.le_of_ble_eq_true rfl) wX19_bind ?_
  show X G mX19_bind d none [] 0 [(0, .ref (a0)), (1, .ref (gW G 3)), (2, .int (p2)), (3, .int (p3))] [] h Q
  refine x_iload_n (pc' := 1) 3 (dX19_bind 0 rfl rfl) rfl rfl rfl ?_
  exact x_iret (dX19_bind 1 rfl rfl) rfl hf
theorem bX20_init (G : Gh) (d : Nat) (h : AH) (Q : Outcome → AH → Prop) (a0 : Nat) (p1 : Int32) (p2 : Option Nat) (hf : OC p2 (C G mX19_init d [.ref (a0), .int (p1)] h (KV Q (fun h1 => hK h1 a0 = 19 ∧ (∀ h4, h4 = pR h1 a0 303 none → (Q (.returned none) h4))))) (fun p2v => C G mX19_init d [.ref (a0), .int (p1)] h (KV Q (fun h6 => hK h6 a0 = 19 ∧ (∀ h9, h9 = pR h6 a0 303 (some p2v) → (Q (.returned none) h9)))))) : C G mX20_init (d + 1) [.ref (a0), .int (p1), va_rf p2] h Q := by
  refine C.of_X (by decide) (by cases p2 <;> exact Nat.le_of_ble_eq_true rfl) wX20_init ?_
  show X G mX20_init (d + 1) (some a0) [] 0 [(0, .ref (a0)), (1, .int (p1)), (2, va_rf p2)] [] h Q
  rcases p2 with _ | p2v
  · replace hf := hf.1 rfl
    refine x_aload_n (pc' := 1) 0 (dX20_init 0 rfl rfl) rfl rfl rfl ?_
    refine x_iload_n (pc' := 2) 1 (dX20_init 1 rfl rfl) rfl rfl rfl ?_
    refine x_inv (pc' := 5) (ν := mX19_init) (av := [_, _]) (st := []) rfl rfl (dX20_init 2 rfl rfl) (Nat.le_of_ble_eq_true rfl) wX19_init q240 (inv_I (dX20_init 2 rfl rfl) q1374 q1344 q1345 rfl (by decide) lX19_init) (fun b hb => by exact Or.inr (by rw [← hb]; rfl)) rfl ?_
    refine C.mono hf (fun _ _ => KV.g (fun h1 hf le2 => ?_))
    refine x_aload_n (pc' := 6) 0 (dX20_init 3 rfl rfl) rfl rfl rfl ?_
    refine x_aload_nN (pc' := 7) 2 (dX20_init 4 rfl rfl) rfl rfl rfl ?_
    obtain ⟨k3, hf⟩ := hf
    refine x_putN (pc' := 10) (dX20_init 5 rfl rfl) g303 q1375 (Or.inl rfl) (Or.inr ⟨rfl, rfl, rfl, rfl⟩) (Or.inr rfl) rfl (hf_of 18 k3 rfl (by decide) m18_303) (fun h4 e5 => ?_)
    replace hf := hf h4 e5
    replace k3 : hK h4 a0 = 19 := by rw [e5]; exact k3
    exact x_vret (dX20_init 6 rfl rfl) rfl hf
  · replace hf := hf.2 _ rfl
    refine x_aload_n (pc' := 1) 0 (dX20_init 0 rfl rfl) rfl rfl rfl ?_
    refine x_iload_n (pc' := 2) 1 (dX20_init 1 rfl rfl) rfl rfl rfl ?_
    refine x_inv (pc' := 5) (ν := mX19_init) (av := [_, _]) (st := []) rfl rfl (dX20_init 2 rfl rfl) (Nat.le_of_ble_eq_true rfl) wX19_init q240 (inv_I (dX20_init 2 rfl rfl) q1374 q1344 q1345 rfl (by decide) lX19_init) (fun b hb => by exact Or.inr (by rw [← hb]; rfl)) rfl ?_
    refine C.mono hf (fun _ _ => KV.g (fun h6 hf le7 => ?_))
    refine x_aload_n (pc' := 6) 0 (dX20_init 3 rfl rfl) rfl rfl rfl ?_
    refine x_aload_n (pc' := 7) 2 (dX20_init 4 rfl rfl) rfl rfl rfl ?_
    obtain ⟨k8, hf⟩ := hf
    refine x_putR (pc' := 10) (dX20_init 5 rfl rfl) g303 q1375 (Or.inl rfl) (Or.inr ⟨rfl, rfl, rfl, rfl⟩) (Or.inr rfl) rfl (hf_of 18 k8 rfl (by decide) m18_303) (fun h9 e10 => ?_)
    replace hf := hf h9 e10
    replace k8 : hK h9 a0 = 19 := by rw [e10]; exact k8
    exact x_vret (dX20_init 6 rfl rfl) rfl hf
theorem bX20_resolveFrom (G : Gh) (d : Nat) (h : AH) (Q : Outcome → AH → Prop) (a0 : Nat) (p2 : Int32) (s4 : So 4 (gW G) h) (hf : hK h a0 = 19 ∧ (C G mX9_con d [.ref (gW G 4), .int (fI h a0 302)] h (KN Q (fun h2 => ∀ h5, h5 = pR h2 a0 304 none → (OC (fR h5 a0 304) (OC (fR h5 a0 303) (Q (.returned none) h5) (fun b8 => OC (fR h5 a0 303) (False) (fun b10 => ∃ (k : Nat) (ν : Mu), VT ⟨"LetMill$Pat", "resolveFrom", "(LLetMill$Scope;I)V"⟩ VMPat_resolveFrom k ν ∧ hK h5 b10 = k + 1 ∧ C G ν d [.ref (b10), .ref (gW G 4), .int (p2)] h5 (KV Q (fun h12 => Q (.returned none) h12))))) (fun b6 => OC (fR h5 a0 304) (False) (fun b17 => hK h5 b17 = 54 ∧ (OC (fR h5 a0 303) (((fI h5 b17 371) = 0 → (OC (fR h5 a0 303) (Q (.returned none) h5) (fun b23 => OC (fR h5 a0 303) (False) (fun b25 => ∃ (k : Nat) (ν : Mu), VT ⟨"LetMill$Pat", "resolveFrom", "(LLetMill$Scope;I)V"⟩ VMPat_resolveFrom k ν ∧ hK h5 b25 = k + 1 ∧ C G ν d [.ref (b25), .ref (gW G 4), .int (p2)] h5 (KV Q (fun h27 => Q (.returned none) h27)))))) ∧ (¬ ((fI h5 b17 371) = 0) → (C G mX9_found d [.ref (gW G 4), .int (4), .int (fI h5 a0 302)] h5 (KV Q (fun h32 => OC (fR h32 a0 303) (Q (.returned none) h32) (fun b34 => OC (fR h32 a0 303) (False) (fun b36 => ∃ (k : Nat) (ν : Mu), VT ⟨"LetMill$Pat", "resolveFrom", "(LLetMill$Scope;I)V"⟩ VMPat_resolveFrom k ν ∧ hK h32 b36 = k + 1 ∧ C G ν d [.ref (b36), .ref (gW G 4), .int (p2)] h32 (KV Q (fun h38 => Q (.returned none) h38))))))))) (fun b20 => ((fI h5 b17 371) = 1 → (OC (fR h5 a0 303) (Q (.returned none) h5) (fun b44 => OC (fR h5 a0 303) (False) (fun b46 => ∃ (k : Nat) (ν : Mu), VT ⟨"LetMill$Pat", "resolveFrom", "(LLetMill$Scope;I)V"⟩ VMPat_resolveFrom k ν ∧ hK h5 b46 = k + 1 ∧ C G ν d [.ref (b46), .ref (gW G 4), .int (p2)] h5 (KV Q (fun h48 => Q (.returned none) h48)))))) ∧ (¬ ((fI h5 b17 371) = 1) → (C G mX9_found d [.ref (gW G 4), .int (4), .int (fI h5 a0 302)] h5 (KV Q (fun h53 => OC (fR h53 a0 303) (Q (.returned none) h53) (fun b55 => OC (fR h53 a0 303) (False) (fun b57 => ∃ (k : Nat) (ν : Mu), VT ⟨"LetMill$Pat", "resolveFrom", "(LLetMill$Scope;I)V"⟩ VMPat_resolveFrom k ν ∧ hK h53 b57 = k + 1 ∧ C G ν d [.ref (b57), .ref (gW G 4), .int (p2)] h53 (KV Q (fun h59 => Q (.returned none) h59)))))))))))))) (fun b4 h2 => ∀ h65, h65 = pR h2 a0 304 (some b4) → (OC (fR h65 a0 304) (OC (fR h65 a0 303) (Q (.returned none) h65) (fun b68 => OC (fR h65 a0 303) (False) (fun b70 => ∃ (k : Nat) (ν : Mu), VT ⟨"LetMill$Pat", "resolveFrom", "(LLetMill$Scope;I)V"⟩ VMPat_resolveFrom k ν ∧ hK h65 b70 = k + 1 ∧ C G ν d [.ref (b70), .ref (gW G 4), .int (p2)] h65 (KV Q (fun h72 => Q (.returned none) h72))))) (fun b66 => OC (fR h65 a0 304) (False) (fun b77 => hK h65 b77 = 54 ∧ (OC (fR h65 a0 303) (((fI h65 b77 371) = 0 → (OC (fR h65 a0 303) (Q (.returned none) h65) (fun b83 => OC (fR h65 a0 303) (False) (fun b85 => ∃ (k : Nat) (ν : Mu), VT ⟨"LetMill$Pat", "resolveFrom", "(LLetMill$Scope;I)V"⟩ VMPat_resolveFrom k ν ∧ hK h65 b85 = k + 1 ∧ C G ν d [.ref (b85), .ref (gW G 4), .int (p2)] h65 (KV Q (fun h87 => Q (.returned none) h87)))))) ∧ (¬ ((fI h65 b77 371) = 0) → (C G mX9_found d [.ref (gW G 4), .int (4), .int (fI h65 a0 302)] h65 (KV Q (fun h92 => OC (fR h92 a0 303) (Q (.returned none) h92) (fun b94 => OC (fR h92 a0 303) (False) (fun b96 => ∃ (k : Nat) (ν : Mu), VT ⟨"LetMill$Pat", "resolveFrom", "(LLetMill$Scope;I)V"⟩ VMPat_resolveFrom k ν ∧ hK h92 b96 = k + 1 ∧ C G ν d [.ref (b96), .ref (gW G 4), .int (p2)] h92 (KV Q (fun h98 => Q (.returned none) h98))))))))) (fun b80 => ((fI h65 b77 371) = 1 → (OC (fR h65 a0 303) (Q (.returned none) h65) (fun b104 => OC (fR h65 a0 303) (False) (fun b106 => ∃ (k : Nat) (ν : Mu), VT ⟨"LetMill$Pat", "resolveFrom", "(LLetMill$Scope;I)V"⟩ VMPat_resolveFrom k ν ∧ hK h65 b106 = k + 1 ∧ C G ν d [.ref (b106), .ref (gW G 4), .int (p2)] h65 (KV Q (fun h108 => Q (.returned none) h108)))))) ∧ (¬ ((fI h65 b77 371) = 1) → (C G mX9_found d [.ref (gW G 4), .int (4), .int (fI h65 a0 302)] h65 (KV Q (fun h113 => OC (fR h113 a0 303) (Q (.returned none) h113) (fun b115 => OC (fR h113 a0 303) (False) (fun b117 => ∃ (k : Nat) (ν : Mu), VT ⟨"LetMill$Pat", "resolveFrom", "(LLetMill$Scope;I)V"⟩ VMPat_resolveFrom k ν ∧ hK h113 b117 = k + 1 ∧ C G ν d [.ref (b117), .ref (gW G 4), .int (p2)] h113 (KV Q (fun h119 => Q (.returned none) h119))))))))))))))))) : C G mX20_resolveFrom (d + 1) [.ref (a0), .ref (gW G 4), .int (p2)] h Q := by
  refine C.of_X (by decide +kernel) (Nat.le_of_ble_eq_true rfl) wX20_resolveFrom ?_
  show X G mX20_resolveFrom (d + 1) none [] 0 [(0, .ref (a0)), (1, .ref (gW G 4)), (2, .int (p2))] [] h Q
  refine x_aload_n (pc' := 1) 0 (dX20_resolveFrom 0 rfl rfl) rfl rfl rfl ?_
  refine x_aload_n (pc' := 2) 1 (dX20_resolveFrom 1 rfl rfl) rfl rfl rfl ?_
  refine x_aload_n (pc' := 3) 0 (dX20_resolveFrom 2 rfl rfl) rfl rfl rfl ?_
  obtain ⟨k1, hf⟩ := hf
  refine x_getI (pc' := 6) (dX20_resolveFrom 3 rfl rfl) g302 q1348 (Or.inr q1349) rfl (hf_of 18 k1 rfl (by decide) m18_302) ?_
  refine x_inv (pc' := 9) (ν := mX9_con) (av := [_, _]) (st := [_]) rfl rfl (dX20_resolveFrom 4 rfl rfl) (Nat.le_of_ble_eq_true rfl) wX9_con q223 (inv_V (k := 7) (dX20_resolveFrom 4 rfl rfl) q2216 q2217 q2218 wX9_con (by decide) lX9_con (by decide) s4.1) (exN (by decide)) rfl ?_
  refine C.mono hf (fun _ _ => KN.g (fun h2 hf le3 => ?_) (fun b4 h2 hf le3 => ?_))
  · have k1 := leK le3 k1 (by decide)
    replace s4 := s4.le sc4 (le3)
    refine x_putN (pc' := 12) (dX20_resolveFrom 5 rfl rfl) g304 q1376 (Or.inl rfl) (Or.inl rfl) (Or.inl (by decide)) rfl (hf_of 18 k1 rfl (by decide) m18_304) (fun h5 e64 => ?_)
    replace hf := hf h5 e64
    replace k1 : hK h5 a0 = 19 := by rw [e64]; exact k1
    replace s4 : So 4 (gW G) h5 := by rw [e64]; exact s4.le sc4 (pR_le (Or.inl rfl))
    refine x_aload_n (pc' := 13) 0 (dX20_resolveFrom 6 rfl rfl) rfl rfl rfl ?_
    obtain ⟨ho0, ho1⟩ := hf
    rcases hr : fR _ a0 304 with _ | b6
    · replace hf := ho0 hr
      refine x_getN (pc' := 16) (dX20_resolveFrom 7 rfl rfl) g304 q1376 (Or.inl rfl) rfl (hf_of 18 k1 rfl (by decide) m18_304) hr ?_
      refine x_ifnullN (tgt := 50) (dX20_resolveFrom 8 rfl rfl) (by decide) ?_
      refine x_aload_n (pc' := 51) 0 (dX20_resolveFrom 24 rfl rfl) rfl rfl rfl ?_
      obtain ⟨ho0, ho1⟩ := hf
      rcases hr : fR _ a0 303 with _ | b8
      · replace hf := ho0 hr
        refine x_getN (pc' := 54) (dX20_resolveFrom 25 rfl rfl) g303 q1375 (Or.inl rfl) rfl (hf_of 18 k1 rfl (by decide) m18_303) hr ?_
        refine x_ifnullN (tgt := 66) (dX20_resolveFrom 26 rfl rfl) (by decide) ?_
        exact x_vret (dX20_resolveFrom 32 rfl rfl) rfl hf
      · replace hf := ho1 _ hr
        refine x_getR (pc' := 54) (dX20_resolveFrom 25 rfl rfl) g303 q1375 (Or.inl rfl) rfl (hf_of 18 k1 rfl (by decide) m18_303) hr ?_
        refine x_ifnull (pc' := 57) (dX20_resolveFrom 26 rfl rfl) rfl ?_
        refine x_aload_n (pc' := 58) 0 (dX20_resolveFrom 27 rfl rfl) rfl rfl rfl ?_
        obtain ⟨ho0, ho1⟩ := hf
        rcases hr : fR _ a0 303 with _ | b10
        · replace hf := ho0 hr
          refine x_getN (pc' := 61) (dX20_resolveFrom 28 rfl rfl) g303 q1375 (Or.inl rfl) rfl (hf_of 18 k1 rfl (by decide) m18_303) hr ?_
          refine x_aload_n (pc' := 62) 1 (dX20_resolveFrom 29 rfl rfl) rfl rfl rfl ?_
          refine x_iload_n (pc' := 63) 2 (dX20_resolveFrom 30 rfl rfl) rfl rfl rfl ?_
          exact hf.elim
        · replace hf := ho1 _ hr
          refine x_getR (pc' := 61) (dX20_resolveFrom 28 rfl rfl) g303 q1375 (Or.inl rfl) rfl (hf_of 18 k1 rfl (by decide) m18_303) hr ?_
          refine x_aload_n (pc' := 62) 1 (dX20_resolveFrom 29 rfl rfl) rfl rfl rfl ?_
          refine x_iload_n (pc' := 63) 2 (dX20_resolveFrom 30 rfl rfl) rfl rfl rfl ?_
          obtain ⟨k, ν, ⟨v0, v1, v2, v3, v4, v5, v6, v7⟩, k14, hf⟩ := hf
          refine x_inv (pc' := 66) (ν := ν) (st := []) rfl (sub_tr v7 rfl) (dX20_resolveFrom 31 rfl rfl) (by have := v5; simp only [List.map, List.sum_cons, List.sum_nil, Value.category]; omega) v1 v2 (inv_U (k := k) (av := [_, _]) (dX20_resolveFrom 31 rfl rfl) q2222 q2209 (by decide) v3 v4 (by decide) (show _ = some 2 by decide +kernel) v0 k14) (exN v6) rfl ?_
          refine C.mono hf (fun _ _ => KV.g (fun h12 hf le13 => ?_))
          replace le13 := Le.nx v6 le13
          have k1 := leK le13 k1 (by decide)
          replace s4 := s4.le sc4 (le13)
          exact x_vret (dX20_resolveFrom 32 rfl rfl) rfl hf
    · replace hf := ho1 _ hr
      refine x_getR (pc' := 16) (dX20_resolveFrom 7 rfl rfl) g304 q1376 (Or.inl rfl) rfl (hf_of 18 k1 rfl (by decide) m18_304) hr ?_
      refine x_ifnull (pc' := 19) (dX20_resolveFrom 8 rfl rfl) rfl ?_
      refine x_aload_n (pc' := 20) 0 (dX20_resolveFrom 9 rfl rfl) rfl rfl rfl ?_
      obtain ⟨ho0, ho1⟩ := hf
      rcases hr : fR _ a0 304 with _ | b17
      · replace hf := ho0 hr
        refine x_getN (pc' := 23) (dX20_resolveFrom 10 rfl rfl) g304 q1376 (Or.inl rfl) rfl (hf_of 18 k1 rfl (by decide) m18_304) hr ?_
        exact hf.elim
      · replace hf := ho1 _ hr
        refine x_getR (pc' := 23) (dX20_resolveFrom 10 rfl rfl) g304 q1376 (Or.inl rfl) rfl (hf_of 18 k1 rfl (by decide) m18_304) hr ?_
        obtain ⟨k19, hf⟩ := hf
        refine x_getZ (pc' := 26) (dX20_resolveFrom 11 rfl rfl) g371 q2147 (Or.inl rfl) rfl (hf_of 53 k19 rfl (by decide) m53_371) ?_
        refine x_aload_n (pc' := 27) 0 (dX20_resolveFrom 12 rfl rfl) rfl rfl rfl ?_
        obtain ⟨ho0, ho1⟩ := hf
        rcases hr : fR _ a0 303 with _ | b20
        · replace hf := ho0 hr
          refine x_getN (pc' := 30) (dX20_resolveFrom 13 rfl rfl) g303 q1375 (Or.inl rfl) rfl (hf_of 18 k1 rfl (by decide) m18_303) hr ?_
          refine x_ifnullN (tgt := 37) (dX20_resolveFrom 14 rfl rfl) (by decide) ?_
          refine x_iconst (pc' := 38) (v := 0) (dX20_resolveFrom 17 rfl rfl) (by decide) rfl ?_
          refine x_icmp_eq (pc' := 41) (tgt := 50) (dX20_resolveFrom 18 rfl rfl) (by decide) rfl (fun c22 => ?_) (fun c22 => ?_)
          · replace hf := hf.1 c22
            refine x_aload_n (pc' := 51) 0 (dX20_resolveFrom 24 rfl rfl) rfl rfl rfl ?_
            obtain ⟨ho0, ho1⟩ := hf
            rcases hr : fR _ a0 303 with _ | b23
            · replace hf := ho0 hr
              refine x_getN (pc' := 54) (dX20_resolveFrom 25 rfl rfl) g303 q1375 (Or.inl rfl) rfl (hf_of 18 k1 rfl (by decide) m18_303) hr ?_
              refine x_ifnullN (tgt := 66) (dX20_resolveFrom 26 rfl rfl) (by decide) ?_
              exact x_vret (dX20_resolveFrom 32 rfl rfl) rfl hf
            · replace hf := ho1 _ hr
              refine x_getR (pc' := 54) (dX20_resolveFrom 25 rfl rfl) g303 q1375 (Or.inl rfl) rfl (hf_of 18 k1 rfl (by decide) m18_303) hr ?_
              refine x_ifnull (pc' := 57) (dX20_resolveFrom 26 rfl rfl) rfl ?_
              refine x_aload_n (pc' := 58) 0 (dX20_resolveFrom 27 rfl rfl) rfl rfl rfl ?_
              obtain ⟨ho0, ho1⟩ := hf
              rcases hr : fR _ a0 303 with _ | b25
              · replace hf := ho0 hr
                refine x_getN (pc' := 61) (dX20_resolveFrom 28 rfl rfl) g303 q1375 (Or.inl rfl) rfl (hf_of 18 k1 rfl (by decide) m18_303) hr ?_
                refine x_aload_n (pc' := 62) 1 (dX20_resolveFrom 29 rfl rfl) rfl rfl rfl ?_
                refine x_iload_n (pc' := 63) 2 (dX20_resolveFrom 30 rfl rfl) rfl rfl rfl ?_
                exact hf.elim
              · replace hf := ho1 _ hr
                refine x_getR (pc' := 61) (dX20_resolveFrom 28 rfl rfl) g303 q1375 (Or.inl rfl) rfl (hf_of 18 k1 rfl (by decide) m18_303) hr ?_
                refine x_aload_n (pc' := 62) 1 (dX20_resolveFrom 29 rfl rfl) rfl rfl rfl ?_
                refine x_iload_n (pc' := 63) 2 (dX20_resolveFrom 30 rfl rfl) rfl rfl rfl ?_
                obtain ⟨k, ν, ⟨v0, v1, v2, v3, v4, v5, v6, v7⟩, k29, hf⟩ := hf
                refine x_inv (pc' := 66) (ν := ν) (st := []) rfl (sub_tr v7 rfl) (dX20_resolveFrom 31 rfl rfl) (by have := v5; simp only [List.map, List.sum_cons, List.sum_nil, Value.category]; omega) v1 v2 (inv_U (k := k) (av := [_, _]) (dX20_resolveFrom 31 rfl rfl) q2222 q2209 (by decide) v3 v4 (by decide) (show _ = some 2 by decide +kernel) v0 k29) (exN v6) rfl ?_
                refine C.mono hf (fun _ _ => KV.g (fun h27 hf le28 => ?_))
                replace le28 := Le.nx v6 le28
                have k1 := leK le28 k1 (by decide)
                have k19 := leK le28 k19 (by decide)
                replace s4 := s4.le sc4 (le28)
                exact x_vret (dX20_resolveFrom 32 rfl rfl) rfl hf
          · replace hf := hf.2 c22
            refine x_aload_n (pc' := 42) 1 (dX20_resolveFrom 19 rfl rfl) rfl rfl rfl ?_
            refine x_iconst (pc' := 43) (v := 4) (dX20_resolveFrom 20 rfl rfl) (by decide) rfl ?_
            refine x_aload_n (pc' := 44) 0 (dX20_resolveFrom 21 rfl rfl) rfl rfl rfl ?_
            refine x_getI (pc' := 47) (dX20_resolveFrom 22 rfl rfl) g302 q1348 (Or.inr q1349) rfl (hf_of 18 k1 rfl (by decide) m18_302) ?_
            refine x_inv (pc' := 50) (ν := mX9_found) (av := [_, _, _]) (st := []) rfl rfl (dX20_resolveFrom 23 rfl rfl) (Nat.le_of_ble_eq_true rfl) wX9_found q223 (inv_V (k := 7) (dX20_resolveFrom 23 rfl rfl) q2221 q2061 q2062 wX9_found (by decide) lX9_found (by decide) s4.1) (exN (by decide)) rfl ?_
            refine C.mono hf (fun _ _ => KV.g (fun h32 hf le33 => ?_))
            have k1 := leK le33 k1 (by decide)
            have k19 := leK le33 k19 (by decide)
            replace s4 := s4.le sc4 (le33)
            refine x_aload_n (pc' := 51) 0 (dX20_resolveFrom 24 rfl rfl) rfl rfl rfl ?_
            obtain ⟨ho0, ho1⟩ := hf
            rcases hr : fR _ a0 303 with _ | b34
            · replace hf := ho0 hr
              refine x_getN (pc' := 54) (dX20_resolveFrom 25 rfl rfl) g303 q1375 (Or.inl rfl) rfl (hf_of 18 k1 rfl (by decide) m18_303) hr ?_
              refine x_ifnullN (tgt := 66) (dX20_resolveFrom 26 rfl rfl) (by decide) ?_
              exact x_vret (dX20_resolveFrom 32 rfl rfl) rfl hf
            · replace hf := ho1 _ hr
              refine x_getR (pc' := 54) (dX20_resolveFrom 25 rfl rfl) g303 q1375 (Or.inl rfl) rfl (hf_of 18 k1 rfl (by decide) m18_303) hr ?_
              refine x_ifnull (pc' := 57) (dX20_resolveFrom 26 rfl rfl) rfl ?_
              refine x_aload_n (pc' := 58) 0 (dX20_resolveFrom 27 rfl rfl) rfl rfl rfl ?_
              obtain ⟨ho0, ho1⟩ := hf
              rcases hr : fR _ a0 303 with _ | b36
              · replace hf := ho0 hr
                refine x_getN (pc' := 61) (dX20_resolveFrom 28 rfl rfl) g303 q1375 (Or.inl rfl) rfl (hf_of 18 k1 rfl (by decide) m18_303) hr ?_
                refine x_aload_n (pc' := 62) 1 (dX20_resolveFrom 29 rfl rfl) rfl rfl rfl ?_
                refine x_iload_n (pc' := 63) 2 (dX20_resolveFrom 30 rfl rfl) rfl rfl rfl ?_
                exact hf.elim
              · replace hf := ho1 _ hr
                refine x_getR (pc' := 61) (dX20_resolveFrom 28 rfl rfl) g303 q1375 (Or.inl rfl) rfl (hf_of 18 k1 rfl (by decide) m18_303) hr ?_
                refine x_aload_n (pc' := 62) 1 (dX20_resolveFrom 29 rfl rfl) rfl rfl rfl ?_
                refine x_iload_n (pc' := 63) 2 (dX20_resolveFrom 30 rfl rfl) rfl rfl rfl ?_
                obtain ⟨k, ν, ⟨v0, v1, v2, v3, v4, v5, v6, v7⟩, k40, hf⟩ := hf
                refine x_inv (pc' := 66) (ν := ν) (st := []) rfl (sub_tr v7 rfl) (dX20_resolveFrom 31 rfl rfl) (by have := v5; simp only [List.map, List.sum_cons, List.sum_nil, Value.category]; omega) v1 v2 (inv_U (k := k) (av := [_, _]) (dX20_resolveFrom 31 rfl rfl) q2222 q2209 (by decide) v3 v4 (by decide) (show _ = some 2 by decide +kernel) v0 k40) (exN v6) rfl ?_
                refine C.mono hf (fun _ _ => KV.g (fun h38 hf le39 => ?_))
                replace le39 := Le.nx v6 le39
                have k1 := leK le39 k1 (by decide)
                have k19 := leK le39 k19 (by decide)
                replace s4 := s4.le sc4 (le39)
                exact x_vret (dX20_resolveFrom 32 rfl rfl) rfl hf
        · replace hf := ho1 _ hr
          refine x_getR (pc' := 30) (dX20_resolveFrom 13 rfl rfl) g303 q1375 (Or.inl rfl) rfl (hf_of 18 k1 rfl (by decide) m18_303) hr ?_
          refine x_ifnull (pc' := 33) (dX20_resolveFrom 14 rfl rfl) rfl ?_
          refine x_iconst (pc' := 34) (v := 1) (dX20_resolveFrom 15 rfl rfl) (by decide) rfl ?_
          refine x_goto (tgt := 38) (dX20_resolveFrom 16 rfl rfl) (by decide) ?_
          refine x_icmp_eq (pc' := 41) (tgt := 50) (dX20_resolveFrom 18 rfl rfl) (by decide) rfl (fun c43 => ?_) (fun c43 => ?_)
          · replace hf := hf.1 c43
            refine x_aload_n (pc' := 51) 0 (dX20_resolveFrom 24 rfl rfl) rfl rfl rfl ?_
            obtain ⟨ho0, ho1⟩ := hf
            rcases hr : fR _ a0 303 with _ | b44
            · replace hf := ho0 hr
              refine x_getN (pc' := 54) (dX20_resolveFrom 25 rfl rfl) g303 q1375 (Or.inl rfl) rfl (hf_of 18 k1 rfl (by decide) m18_303) hr ?_
              refine x_ifnullN (tgt := 66) (dX20_resolveFrom 26 rfl rfl) (by decide) ?_
              exact x_vret (dX20_resolveFrom 32 rfl rfl) rfl hf
            · replace hf := ho1 _ hr
              refine x_getR (pc' := 54) (dX20_resolveFrom 25 rfl rfl) g303 q1375 (Or.inl rfl) rfl (hf_of 18 k1 rfl (by decide) m18_303) hr ?_
              refine x_ifnull (pc' := 57) (dX20_resolveFrom 26 rfl rfl) rfl ?_
              refine x_aload_n (pc' := 58) 0 (dX20_resolveFrom 27 rfl rfl) rfl rfl rfl ?_
              obtain ⟨ho0, ho1⟩ := hf
              rcases hr : fR _ a0 303 with _ | b46
              · replace hf := ho0 hr
                refine x_getN (pc' := 61) (dX20_resolveFrom 28 rfl rfl) g303 q1375 (Or.inl rfl) rfl (hf_of 18 k1 rfl (by decide) m18_303) hr ?_
                refine x_aload_n (pc' := 62) 1 (dX20_resolveFrom 29 rfl rfl) rfl rfl rfl ?_
                refine x_iload_n (pc' := 63) 2 (dX20_resolveFrom 30 rfl rfl) rfl rfl rfl ?_
                exact hf.elim
              · replace hf := ho1 _ hr
                refine x_getR (pc' := 61) (dX20_resolveFrom 28 rfl rfl) g303 q1375 (Or.inl rfl) rfl (hf_of 18 k1 rfl (by decide) m18_303) hr ?_
                refine x_aload_n (pc' := 62) 1 (dX20_resolveFrom 29 rfl rfl) rfl rfl rfl ?_
                refine x_iload_n (pc' := 63) 2 (dX20_resolveFrom 30 rfl rfl) rfl rfl rfl ?_
                obtain ⟨k, ν, ⟨v0, v1, v2, v3, v4, v5, v6, v7⟩, k50, hf⟩ := hf
                refine x_inv (pc' := 66) (ν := ν) (st := []) rfl (sub_tr v7 rfl) (dX20_resolveFrom 31 rfl rfl) (by have := v5; simp only [List.map, List.sum_cons, List.sum_nil, Value.category]; omega) v1 v2 (inv_U (k := k) (av := [_, _]) (dX20_resolveFrom 31 rfl rfl) q2222 q2209 (by decide) v3 v4 (by decide) (show _ = some 2 by decide +kernel) v0 k50) (exN v6) rfl ?_
                refine C.mono hf (fun _ _ => KV.g (fun h48 hf le49 => ?_))
                replace le49 := Le.nx v6 le49
                have k1 := leK le49 k1 (by decide)
                have k19 := leK le49 k19 (by decide)
                replace s4 := s4.le sc4 (le49)
                exact x_vret (dX20_resolveFrom 32 rfl rfl) rfl hf
          · replace hf := hf.2 c43
            refine x_aload_n (pc' := 42) 1 (dX20_resolveFrom 19 rfl rfl) rfl rfl rfl ?_
            refine x_iconst (pc' := 43) (v := 4) (dX20_resolveFrom 20 rfl rfl) (by decide) rfl ?_
            refine x_aload_n (pc' := 44) 0 (dX20_resolveFrom 21 rfl rfl) rfl rfl rfl ?_
            refine x_getI (pc' := 47) (dX20_resolveFrom 22 rfl rfl) g302 q1348 (Or.inr q1349) rfl (hf_of 18 k1 rfl (by decide) m18_302) ?_
            refine x_inv (pc' := 50) (ν := mX9_found) (av := [_, _, _]) (st := []) rfl rfl (dX20_resolveFrom 23 rfl rfl) (Nat.le_of_ble_eq_true rfl) wX9_found q223 (inv_V (k := 7) (dX20_resolveFrom 23 rfl rfl) q2221 q2061 q2062 wX9_found (by decide) lX9_found (by decide) s4.1) (exN (by decide)) rfl ?_
            refine C.mono hf (fun _ _ => KV.g (fun h53 hf le54 => ?_))
            have k1 := leK le54 k1 (by decide)
            have k19 := leK le54 k19 (by decide)
            replace s4 := s4.le sc4 (le54)
            refine x_aload_n (pc' := 51) 0 (dX20_resolveFrom 24 rfl rfl) rfl rfl rfl ?_
            obtain ⟨ho0, ho1⟩ := hf
            rcases hr : fR _ a0 303 with _ | b55
            · replace hf := ho0 hr
              refine x_getN (pc' := 54) (dX20_resolveFrom 25 rfl rfl) g303 q1375 (Or.inl rfl) rfl (hf_of 18 k1 rfl (by decide) m18_303) hr ?_
              refine x_ifnullN (tgt := 66) (dX20_resolveFrom 26 rfl rfl) (by decide) ?_
              exact x_vret (dX20_resolveFrom 32 rfl rfl) rfl hf
            · replace hf := ho1 _ hr
              refine x_getR (pc' := 54) (dX20_resolveFrom 25 rfl rfl) g303 q1375 (Or.inl rfl) rfl (hf_of 18 k1 rfl (by decide) m18_303) hr ?_
              refine x_ifnull (pc' := 57) (dX20_resolveFrom 26 rfl rfl) rfl ?_
              refine x_aload_n (pc' := 58) 0 (dX20_resolveFrom 27 rfl rfl) rfl rfl rfl ?_
              obtain ⟨ho0, ho1⟩ := hf
              rcases hr : fR _ a0 303 with _ | b57
              · replace hf := ho0 hr
                refine x_getN (pc' := 61) (dX20_resolveFrom 28 rfl rfl) g303 q1375 (Or.inl rfl) rfl (hf_of 18 k1 rfl (by decide) m18_303) hr ?_
                refine x_aload_n (pc' := 62) 1 (dX20_resolveFrom 29 rfl rfl) rfl rfl rfl ?_
                refine x_iload_n (pc' := 63) 2 (dX20_resolveFrom 30 rfl rfl) rfl rfl rfl ?_
                exact hf.elim
              · replace hf := ho1 _ hr
                refine x_getR (pc' := 61) (dX20_resolveFrom 28 rfl rfl) g303 q1375 (Or.inl rfl) rfl (hf_of 18 k1 rfl (by decide) m18_303) hr ?_
                refine x_aload_n (pc' := 62) 1 (dX20_resolveFrom 29 rfl rfl) rfl rfl rfl ?_
                refine x_iload_n (pc' := 63) 2 (dX20_resolveFrom 30 rfl rfl) rfl rfl rfl ?_
                obtain ⟨k, ν, ⟨v0, v1, v2, v3, v4, v5, v6, v7⟩, k61, hf⟩ := hf
                refine x_inv (pc' := 66) (ν := ν) (st := []) rfl (sub_tr v7 rfl) (dX20_resolveFrom 31 rfl rfl) (by have := v5; simp only [List.map, List.sum_cons, List.sum_nil, Value.category]; omega) v1 v2 (inv_U (k := k) (av := [_, _]) (dX20_resolveFrom 31 rfl rfl) q2222 q2209 (by decide) v3 v4 (by decide) (show _ = some 2 by decide +kernel) v0 k61) (exN v6) rfl ?_
                refine C.mono hf (fun _ _ => KV.g (fun h59 hf le60 => ?_))
                replace le60 := Le.nx v6 le60
                have k1 := leK le60 k1 (by decide)
                have k19 := leK le60 k19 (by decide)
                replace s4 := s4.le sc4 (le60)
                exact x_vret (dX20_resolveFrom 32 rfl rfl) rfl hf
  · have k1 := leK le3 k1 (by decide)
    replace s4 := s4.le sc4 (le3)
    refine x_putR (pc' := 12) (dX20_resolveFrom 5 rfl rfl) g304 q1376 (Or.inl rfl) (Or.inl rfl) (Or.inl (by decide)) rfl (hf_of 18 k1 rfl (by decide) m18_304) (fun h65 e124 => ?_)
    replace hf := hf h65 e124
    replace k1 : hK h65 a0 = 19 := by rw [e124]; exact k1
    replace s4 : So 4 (gW G) h65 := by rw [e124]; exact s4.le sc4 (pR_le (Or.inl rfl))
    refine x_aload_n (pc' := 13) 0 (dX20_resolveFrom 6 rfl rfl) rfl rfl rfl ?_
    obtain ⟨ho0, ho1⟩ := hf
    rcases hr : fR _ a0 304 with _ | b66
    · replace hf := ho0 hr
      refine x_getN (pc' := 16) (dX20_resolveFrom 7 rfl rfl) g304 q1376 (Or.inl rfl) rfl (hf_of 18 k1 rfl (by decide) m18_304) hr ?_
      refine x_ifnullN (tgt := 50) (dX20_resolveFrom 8 rfl rfl) (by decide) ?_
      refine x_aload_n (pc' := 51) 0 (dX20_resolveFrom 24 rfl rfl) rfl rfl rfl ?_
      obtain ⟨ho0, ho1⟩ := hf
      rcases hr : fR _ a0 303 with _ | b68
      · replace hf := ho0 hr
        refine x_getN (pc' := 54) (dX20_resolveFrom 25 rfl rfl) g303 q1375 (Or.inl rfl) rfl (hf_of 18 k1 rfl (by decide) m18_303) hr ?_
        refine x_ifnullN (tgt := 66) (dX20_resolveFrom 26 rfl rfl) (by decide) ?_
        exact x_vret (dX20_resolveFrom 32 rfl rfl) rfl hf
      · replace hf := ho1 _ hr
        refine x_getR (pc' := 54) (dX20_resolveFrom 25 rfl rfl) g303 q1375 (Or.inl rfl) rfl (hf_of 18 k1 rfl (by decide) m18_303) hr ?_
        refine x_ifnull (pc' := 57) (dX20_resolveFrom 26 rfl rfl) rfl ?_
        refine x_aload_n (pc' := 58) 0 (dX20_resolveFrom 27 rfl rfl) rfl rfl rfl ?_
        obtain ⟨ho0, ho1⟩ := hf
        rcases hr : fR _ a0 303 with _ | b70
        · replace hf := ho0 hr
          refine x_getN (pc' := 61) (dX20_resolveFrom 28 rfl rfl) g303 q1375 (Or.inl rfl) rfl (hf_of 18 k1 rfl (by decide) m18_303) hr ?_
          refine x_aload_n (pc' := 62) 1 (dX20_resolveFrom 29 rfl rfl) rfl rfl rfl ?_
          refine x_iload_n (pc' := 63) 2 (dX20_resolveFrom 30 rfl rfl) rfl rfl rfl ?_
          exact hf.elim
        · replace hf := ho1 _ hr
          refine x_getR (pc' := 61) (dX20_resolveFrom 28 rfl rfl) g303 q1375 (Or.inl rfl) rfl (hf_of 18 k1 rfl (by decide) m18_303) hr ?_
          refine x_aload_n (pc' := 62) 1 (dX20_resolveFrom 29 rfl rfl) rfl rfl rfl ?_
          refine x_iload_n (pc' := 63) 2 (dX20_resolveFrom 30 rfl rfl) rfl rfl rfl ?_
          obtain ⟨k, ν, ⟨v0, v1, v2, v3, v4, v5, v6, v7⟩, k74, hf⟩ := hf
          refine x_inv (pc' := 66) (ν := ν) (st := []) rfl (sub_tr v7 rfl) (dX20_resolveFrom 31 rfl rfl) (by have := v5; simp only [List.map, List.sum_cons, List.sum_nil, Value.category]; omega) v1 v2 (inv_U (k := k) (av := [_, _]) (dX20_resolveFrom 31 rfl rfl) q2222 q2209 (by decide) v3 v4 (by decide) (show _ = some 2 by decide +kernel) v0 k74) (exN v6) rfl ?_
          refine C.mono hf (fun _ _ => KV.g (fun h72 hf le73 => ?_))
          replace le73 := Le.nx v6 le73
          have k1 := leK le73 k1 (by decide)
          replace s4 := s4.le sc4 (le73)
          exact x_vret (dX20_resolveFrom 32 rfl rfl) rfl hf
    · replace hf := ho1 _ hr
      refine x_getR (pc' := 16) (dX20_resolveFrom 7 rfl rfl) g304 q1376 (Or.inl rfl) rfl (hf_of 18 k1 rfl (by decide) m18_304) hr ?_
      refine x_ifnull (pc' := 19) (dX20_resolveFrom 8 rfl rfl) rfl ?_
      refine x_aload_n (pc' := 20) 0 (dX20_resolveFrom 9 rfl rfl) rfl rfl rfl ?_
      obtain ⟨ho0, ho1⟩ := hf
      rcases hr : fR _ a0 304 with _ | b77
      · replace hf := ho0 hr
        refine x_getN (pc' := 23) (dX20_resolveFrom 10 rfl rfl) g304 q1376 (Or.inl rfl) rfl (hf_of 18 k1 rfl (by decide) m18_304) hr ?_
        exact hf.elim
      · replace hf := ho1 _ hr
        refine x_getR (pc' := 23) (dX20_resolveFrom 10 rfl rfl) g304 q1376 (Or.inl rfl) rfl (hf_of 18 k1 rfl (by decide) m18_304) hr ?_
        obtain ⟨k79, hf⟩ := hf
        refine x_getZ (pc' := 26) (dX20_resolveFrom 11 rfl rfl) g371 q2147 (Or.inl rfl) rfl (hf_of 53 k79 rfl (by decide) m53_371) ?_
        refine x_aload_n (pc' := 27) 0 (dX20_resolveFrom 12 rfl rfl) rfl rfl rfl ?_
        obtain ⟨ho0, ho1⟩ := hf
        rcases hr : fR _ a0 303 with _ | b80
        · replace hf := ho0 hr
          refine x_getN (pc' := 30) (dX20_resolveFrom 13 rfl rfl) g303 q1375 (Or.inl rfl) rfl (hf_of 18 k1 rfl (by decide) m18_303) hr ?_
          refine x_ifnullN (tgt := 37) (dX20_resolveFrom 14 rfl rfl) (by decide) ?_
          refine x_iconst (pc' := 38) (v := 0) (dX20_resolveFrom 17 rfl rfl) (by decide) rfl ?_
          refine x_icmp_eq (pc' := 41) (tgt := 50) (dX20_resolveFrom 18 rfl rfl) (by decide) rfl (fun c82 => ?_) (fun c82 => ?_)
          · replace hf := hf.1 c82
            refine x_aload_n (pc' := 51) 0 (dX20_resolveFrom 24 rfl rfl) rfl rfl rfl ?_
            obtain ⟨ho0, ho1⟩ := hf
            rcases hr : fR _ a0 303 with _ | b83
            · replace hf := ho0 hr
              refine x_getN (pc' := 54) (dX20_resolveFrom 25 rfl rfl) g303 q1375 (Or.inl rfl) rfl (hf_of 18 k1 rfl (by decide) m18_303) hr ?_
              refine x_ifnullN (tgt := 66) (dX20_resolveFrom 26 rfl rfl) (by decide) ?_
              exact x_vret (dX20_resolveFrom 32 rfl rfl) rfl hf
            · replace hf := ho1 _ hr
              refine x_getR (pc' := 54) (dX20_resolveFrom 25 rfl rfl) g303 q1375 (Or.inl rfl) rfl (hf_of 18 k1 rfl (by decide) m18_303) hr ?_
              refine x_ifnull (pc' := 57) (dX20_resolveFrom 26 rfl rfl) rfl ?_
              refine x_aload_n (pc' := 58) 0 (dX20_resolveFrom 27 rfl rfl) rfl rfl rfl ?_
              obtain ⟨ho0, ho1⟩ := hf
              rcases hr : fR _ a0 303 with _ | b85
              · replace hf := ho0 hr
                refine x_getN (pc' := 61) (dX20_resolveFrom 28 rfl rfl) g303 q1375 (Or.inl rfl) rfl (hf_of 18 k1 rfl (by decide) m18_303) hr ?_
                refine x_aload_n (pc' := 62) 1 (dX20_resolveFrom 29 rfl rfl) rfl rfl rfl ?_
                refine x_iload_n (pc' := 63) 2 (dX20_resolveFrom 30 rfl rfl) rfl rfl rfl ?_
                exact hf.elim
              · replace hf := ho1 _ hr
                refine x_getR (pc' := 61) (dX20_resolveFrom 28 rfl rfl) g303 q1375 (Or.inl rfl) rfl (hf_of 18 k1 rfl (by decide) m18_303) hr ?_
                refine x_aload_n (pc' := 62) 1 (dX20_resolveFrom 29 rfl rfl) rfl rfl rfl ?_
                refine x_iload_n (pc' := 63) 2 (dX20_resolveFrom 30 rfl rfl) rfl rfl rfl ?_
                obtain ⟨k, ν, ⟨v0, v1, v2, v3, v4, v5, v6, v7⟩, k89, hf⟩ := hf
                refine x_inv (pc' := 66) (ν := ν) (st := []) rfl (sub_tr v7 rfl) (dX20_resolveFrom 31 rfl rfl) (by have := v5; simp only [List.map, List.sum_cons, List.sum_nil, Value.category]; omega) v1 v2 (inv_U (k := k) (av := [_, _]) (dX20_resolveFrom 31 rfl rfl) q2222 q2209 (by decide) v3 v4 (by decide) (show _ = some 2 by decide +kernel) v0 k89) (exN v6) rfl ?_
                refine C.mono hf (fun _ _ => KV.g (fun h87 hf le88 => ?_))
                replace le88 := Le.nx v6 le88
                have k1 := leK le88 k1 (by decide)
                have k79 := leK le88 k79 (by decide)
                replace s4 := s4.le sc4 (le88)
                exact x_vret (dX20_resolveFrom 32 rfl rfl) rfl hf
          · replace hf := hf.2 c82
            refine x_aload_n (pc' := 42) 1 (dX20_resolveFrom 19 rfl rfl) rfl rfl rfl ?_
            refine x_iconst (pc' := 43) (v := 4) (dX20_resolveFrom 20 rfl rfl) (by decide) rfl ?_
            refine x_aload_n (pc' := 44) 0 (dX20_resolveFrom 21 rfl rfl) rfl rfl rfl ?_
            refine x_getI (pc' := 47) (dX20_resolveFrom 22 rfl rfl) g302 q1348 (Or.inr q1349) rfl (hf_of 18 k1 rfl (by decide) m18_302) ?_
            refine x_inv (pc' := 50) (ν := mX9_found) (av := [_, _, _]) (st := []) rfl rfl (dX20_resolveFrom 23 rfl rfl) (Nat.le_of_ble_eq_true rfl) wX9_found q223 (inv_V (k := 7) (dX20_resolveFrom 23 rfl rfl) q2221 q2061 q2062 wX9_found (by decide) lX9_found (by decide) s4.1) (exN (by decide)) rfl ?_
            refine C.mono hf (fun _ _ => KV.g (fun h92 hf le93 => ?_))
            have k1 := leK le93 k1 (by decide)
            have k79 := leK le93 k79 (by decide)
            replace s4 := s4.le sc4 (le93)
            refine x_aload_n (pc' := 51) 0 (dX20_resolveFrom 24 rfl rfl) rfl rfl rfl ?_
            obtain ⟨ho0, ho1⟩ := hf
            rcases hr : fR _ a0 303 with _ | b94
            · replace hf := ho0 hr
              refine x_getN (pc' := 54) (dX20_resolveFrom 25 rfl rfl) g303 q1375 (Or.inl rfl) rfl (hf_of 18 k1 rfl (by decide) m18_303) hr ?_
              refine x_ifnullN (tgt := 66) (dX20_resolveFrom 26 rfl rfl) (by decide) ?_
              exact x_vret (dX20_resolveFrom 32 rfl rfl) rfl hf
            · replace hf := ho1 _ hr
              refine x_getR (pc' := 54) (dX20_resolveFrom 25 rfl rfl) g303 q1375 (Or.inl rfl) rfl (hf_of 18 k1 rfl (by decide) m18_303) hr ?_
              refine x_ifnull (pc' := 57) (dX20_resolveFrom 26 rfl rfl) rfl ?_
              refine x_aload_n (pc' := 58) 0 (dX20_resolveFrom 27 rfl rfl) rfl rfl rfl ?_
              obtain ⟨ho0, ho1⟩ := hf
              rcases hr : fR _ a0 303 with _ | b96
              · replace hf := ho0 hr
                refine x_getN (pc' := 61) (dX20_resolveFrom 28 rfl rfl) g303 q1375 (Or.inl rfl) rfl (hf_of 18 k1 rfl (by decide) m18_303) hr ?_
                refine x_aload_n (pc' := 62) 1 (dX20_resolveFrom 29 rfl rfl) rfl rfl rfl ?_
                refine x_iload_n (pc' := 63) 2 (dX20_resolveFrom 30 rfl rfl) rfl rfl rfl ?_
                exact hf.elim
              · replace hf := ho1 _ hr
                refine x_getR (pc' := 61) (dX20_resolveFrom 28 rfl rfl) g303 q1375 (Or.inl rfl) rfl (hf_of 18 k1 rfl (by decide) m18_303) hr ?_
                refine x_aload_n (pc' := 62) 1 (dX20_resolveFrom 29 rfl rfl) rfl rfl rfl ?_
                refine x_iload_n (pc' := 63) 2 (dX20_resolveFrom 30 rfl rfl) rfl rfl rfl ?_
                obtain ⟨k, ν, ⟨v0, v1, v2, v3, v4, v5, v6, v7⟩, k100, hf⟩ := hf
                refine x_inv (pc' := 66) (ν := ν) (st := []) rfl (sub_tr v7 rfl) (dX20_resolveFrom 31 rfl rfl) (by have := v5; simp only [List.map, List.sum_cons, List.sum_nil, Value.category]; omega) v1 v2 (inv_U (k := k) (av := [_, _]) (dX20_resolveFrom 31 rfl rfl) q2222 q2209 (by decide) v3 v4 (by decide) (show _ = some 2 by decide +kernel) v0 k100) (exN v6) rfl ?_
                refine C.mono hf (fun _ _ => KV.g (fun h98 hf le99 => ?_))
                replace le99 := Le.nx v6 le99
                have k1 := leK le99 k1 (by decide)
                have k79 := leK le99 k79 (by decide)
                replace s4 := s4.le sc4 (le99)
                exact x_vret (dX20_resolveFrom 32 rfl rfl) rfl hf
        · replace hf := ho1 _ hr
          refine x_getR (pc' := 30) (dX20_resolveFrom 13 rfl rfl) g303 q1375 (Or.inl rfl) rfl (hf_of 18 k1 rfl (by decide) m18_303) hr ?_
          refine x_ifnull (pc' := 33) (dX20_resolveFrom 14 rfl rfl) rfl ?_
          refine x_iconst (pc' := 34) (v := 1) (dX20_resolveFrom 15 rfl rfl) (by decide) rfl ?_
          refine x_goto (tgt := 38) (dX20_resolveFrom 16 rfl rfl) (by decide) ?_
          refine x_icmp_eq (pc' := 41) (tgt := 50) (dX20_resolveFrom 18 rfl rfl) (by decide) rfl (fun c103 => ?_) (fun c103 => ?_)
          · replace hf := hf.1 c103
            refine x_aload_n (pc' := 51) 0 (dX20_resolveFrom 24 rfl rfl) rfl rfl rfl ?_
            obtain ⟨ho0, ho1⟩ := hf
            rcases hr : fR _ a0 303 with _ | b104
            · replace hf := ho0 hr
              refine x_getN (pc' := 54) (dX20_resolveFrom 25 rfl rfl) g303 q1375 (Or.inl rfl) rfl (hf_of 18 k1 rfl (by decide) m18_303) hr ?_
              refine x_ifnullN (tgt := 66) (dX20_resolveFrom 26 rfl rfl) (by decide) ?_
              exact x_vret (dX20_resolveFrom 32 rfl rfl) rfl hf
            · replace hf := ho1 _ hr
              refine x_getR (pc' := 54) (dX20_resolveFrom 25 rfl rfl) g303 q1375 (Or.inl rfl) rfl (hf_of 18 k1 rfl (by decide) m18_303) hr ?_
              refine x_ifnull (pc' := 57) (dX20_resolveFrom 26 rfl rfl) rfl ?_
              refine x_aload_n (pc' := 58) 0 (dX20_resolveFrom 27 rfl rfl) rfl rfl rfl ?_
              obtain ⟨ho0, ho1⟩ := hf
              rcases hr : fR _ a0 303 with _ | b106
              · replace hf := ho0 hr
                refine x_getN (pc' := 61) (dX20_resolveFrom 28 rfl rfl) g303 q1375 (Or.inl rfl) rfl (hf_of 18 k1 rfl (by decide) m18_303) hr ?_
                refine x_aload_n (pc' := 62) 1 (dX20_resolveFrom 29 rfl rfl) rfl rfl rfl ?_
                refine x_iload_n (pc' := 63) 2 (dX20_resolveFrom 30 rfl rfl) rfl rfl rfl ?_
                exact hf.elim
              · replace hf := ho1 _ hr
                refine x_getR (pc' := 61) (dX20_resolveFrom 28 rfl rfl) g303 q1375 (Or.inl rfl) rfl (hf_of 18 k1 rfl (by decide) m18_303) hr ?_
                refine x_aload_n (pc' := 62) 1 (dX20_resolveFrom 29 rfl rfl) rfl rfl rfl ?_
                refine x_iload_n (pc' := 63) 2 (dX20_resolveFrom 30 rfl rfl) rfl rfl rfl ?_
                obtain ⟨k, ν, ⟨v0, v1, v2, v3, v4, v5, v6, v7⟩, k110, hf⟩ := hf
                refine x_inv (pc' := 66) (ν := ν) (st := []) rfl (sub_tr v7 rfl) (dX20_resolveFrom 31 rfl rfl) (by have := v5; simp only [List.map, List.sum_cons, List.sum_nil, Value.category]; omega) v1 v2 (inv_U (k := k) (av := [_, _]) (dX20_resolveFrom 31 rfl rfl) q2222 q2209 (by decide) v3 v4 (by decide) (show _ = some 2 by decide +kernel) v0 k110) (exN v6) rfl ?_
                refine C.mono hf (fun _ _ => KV.g (fun h108 hf le109 => ?_))
                replace le109 := Le.nx v6 le109
                have k1 := leK le109 k1 (by decide)
                have k79 := leK le109 k79 (by decide)
                replace s4 := s4.le sc4 (le109)
                exact x_vret (dX20_resolveFrom 32 rfl rfl) rfl hf
          · replace hf := hf.2 c103
            refine x_aload_n (pc' := 42) 1 (dX20_resolveFrom 19 rfl rfl) rfl rfl rfl ?_
            refine x_iconst (pc' := 43) (v := 4) (dX20_resolveFrom 20 rfl rfl) (by decide) rfl ?_
            refine x_aload_n (pc' := 44) 0 (dX20_resolveFrom 21 rfl rfl) rfl rfl rfl ?_
            refine x_getI (pc' := 47) (dX20_resolveFrom 22 rfl rfl) g302 q1348 (Or.inr q1349) rfl (hf_of 18 k1 rfl (by decide) m18_302) ?_
            refine x_inv (pc' := 50) (ν := mX9_found) (av := [_, _, _]) (st := []) rfl rfl (dX20_resolveFrom 23 rfl rfl) (Nat.le_of_ble_eq_true rfl) wX9_found q223 (inv_V (k := 7) (dX20_resolveFrom 23 rfl rfl) q2221 q2061 q2062 wX9_found (by decide) lX9_found (by decide) s4.1) (exN (by decide)) rfl ?_
            refine C.mono hf (fun _ _ => KV.g (fun h113 hf le114 => ?_))
            have k1 := leK le114 k1 (by decide)
            have k79 := leK le114 k79 (by decide)
            replace s4 := s4.le sc4 (le114)
            refine x_aload_n (pc' := 51) 0 (dX20_resolveFrom 24 rfl rfl) rfl rfl rfl ?_
            obtain ⟨ho0, ho1⟩ := hf
            rcases hr : fR _ a0 303 with _ | b115
            · replace hf := ho0 hr
              refine x_getN (pc' := 54) (dX20_resolveFrom 25 rfl rfl) g303 q1375 (Or.inl rfl) rfl (hf_of 18 k1 rfl (by decide) m18_303) hr ?_
              refine x_ifnullN (tgt := 66) (dX20_resolveFrom 26 rfl rfl) (by decide) ?_
              exact x_vret (dX20_resolveFrom 32 rfl rfl) rfl hf
            · replace hf := ho1 _ hr
              refine x_getR (pc' := 54) (dX20_resolveFrom 25 rfl rfl) g303 q1375 (Or.inl rfl) rfl (hf_of 18 k1 rfl (by decide) m18_303) hr ?_
              refine x_ifnull (pc' := 57) (dX20_resolveFrom 26 rfl rfl) rfl ?_
              refine x_aload_n (pc' := 58) 0 (dX20_resolveFrom 27 rfl rfl) rfl rfl rfl ?_
              obtain ⟨ho0, ho1⟩ := hf
              rcases hr : fR _ a0 303 with _ | b117
              · replace hf := ho0 hr
                refine x_getN (pc' := 61) (dX20_resolveFrom 28 rfl rfl) g303 q1375 (Or.inl rfl) rfl (hf_of 18 k1 rfl (by decide) m18_303) hr ?_
                refine x_aload_n (pc' := 62) 1 (dX20_resolveFrom 29 rfl rfl) rfl rfl rfl ?_
                refine x_iload_n (pc' := 63) 2 (dX20_resolveFrom 30 rfl rfl) rfl rfl rfl ?_
                exact hf.elim
              · replace hf := ho1 _ hr
                refine x_getR (pc' := 61) (dX20_resolveFrom 28 rfl rfl) g303 q1375 (Or.inl rfl) rfl (hf_of 18 k1 rfl (by decide) m18_303) hr ?_
                refine x_aload_n (pc' := 62) 1 (dX20_resolveFrom 29 rfl rfl) rfl rfl rfl ?_
                refine x_iload_n (pc' := 63) 2 (dX20_resolveFrom 30 rfl rfl) rfl rfl rfl ?_
                obtain ⟨k, ν, ⟨v0, v1, v2, v3, v4, v5, v6, v7⟩, k121, hf⟩ := hf
                refine x_inv (pc' := 66) (ν := ν) (st := []) rfl (sub_tr v7 rfl) (dX20_resolveFrom 31 rfl rfl) (by have := v5; simp only [List.map, List.sum_cons, List.sum_nil, Value.category]; omega) v1 v2 (inv_U (k := k) (av := [_, _]) (dX20_resolveFrom 31 rfl rfl) q2222 q2209 (by decide) v3 v4 (by decide) (show _ = some 2 by decide +kernel) v0 k121) (exN v6) rfl ?_
                refine C.mono hf (fun _ _ => KV.g (fun h119 hf le120 => ?_))
                replace le120 := Le.nx v6 le120
                have k1 := leK le120 k1 (by decide)
                have k79 := leK le120 k79 (by decide)
                replace s4 := s4.le sc4 (le120)
                exact x_vret (dX20_resolveFrom 32 rfl rfl) rfl hf
theorem bX20_infer (G : Gh) (d : Nat) (h : AH) (Q : Outcome → AH → Prop) (a0 : Nat) (s2 : So 2 (gW G) h) (s6 : So 6 (gW G) h) (hf : hK h a0 = 19 ∧ (OC (fR h a0 304) (False) (fun b2 => hK h b2 = 54 ∧ (∃ b5, fR h b2 373 = some b5 ∧ (C G mX3_read d [.ref (gW G 2), .ref (b5)] h (KI Q (fun x9 h7 => OC (fR h7 a0 303) (Q (.returned (some (.int x9))) h7) (fun b10 => OC (fR h7 a0 304) (False) (fun b12 => hK h7 b12 = 54 ∧ (∃ b15, fR h7 b12 372 = some b15 ∧ (C G mX3_readOn d [.ref (gW G 2), .ref (b15)] h7 (KI Q (fun x19 h17 => OC (fR h17 a0 303) (False) (fun b20 => ∃ (k : Nat) (ν : Mu), VT ⟨"LetMill$Pat", "infer", "(LLetMill$Typer;)I"⟩ VMPat_infer k ν ∧ hK h17 b20 = k + 1 ∧ C G ν d [.ref (b20), .ref (gW G 6)] h17 (KI Q (fun x24 h22 => OC (fR h22 a0 303) (False) (fun b25 => HF h22 b25 302 0 ∧ (C G mX11_same d [.ref (gW G 6), .int (x24), .int (x19), .int (fI h22 b25 302)] h22 (KV Q (fun h28 => Q (.returned (some (.int x9))) h28)))))))))))))))))))) : C G mX20_infer (d + 1) [.ref (a0), .ref (gW G 6)] h Q := by
  refine C.of_X (by decide +kernel) (Nat.le_of_ble_eq_true rfl) wX20_infer ?_
  show X G mX20_infer (d + 1) none [] 0 [(0, .ref (a0)), (1, .ref (gW G 6))] [] h Q
  refine x_aload_n (pc' := 1) 1 (dX20_infer 0 rfl rfl) rfl rfl rfl ?_
  refine x_getR (pc' := 4) (dX20_infer 1 rfl rfl) g108 q800 (Or.inl rfl) rfl (hf_of 9 s6.1 rfl (by decide) m9_108) (s6.2 0 _ rfl rfl).1 ?_
  refine x_aload_n (pc' := 5) 0 (dX20_infer 2 rfl rfl) rfl rfl rfl ?_
  obtain ⟨k1, hf⟩ := hf
  obtain ⟨ho0, ho1⟩ := hf
  rcases hr : fR _ a0 304 with _ | b2
  · replace hf := ho0 hr
    refine x_getN (pc' := 8) (dX20_infer 3 rfl rfl) g304 q1376 (Or.inl rfl) rfl (hf_of 18 k1 rfl (by decide) m18_304) hr ?_
    exact hf.elim
  · replace hf := ho1 _ hr
    refine x_getR (pc' := 8) (dX20_infer 3 rfl rfl) g304 q1376 (Or.inl rfl) rfl (hf_of 18 k1 rfl (by decide) m18_304) hr ?_
    obtain ⟨k4, hf⟩ := hf
    obtain ⟨b5, e6, hf⟩ := hf
    refine x_getR (pc' := 11) (dX20_infer 4 rfl rfl) g373 q2154 (Or.inl rfl) rfl (hf_of 53 k4 rfl (by decide) m53_373) e6 ?_
    refine x_inv (pc' := 14) (ν := mX3_read) (av := [_, _]) (st := []) rfl rfl (dX20_infer 5 rfl rfl) (Nat.le_of_ble_eq_true rfl) wX3_read q213 (inv_V (k := 2) (dX20_infer 5 rfl rfl) q2444 q2445 q2446 wX3_read (by decide) lX3_read (by decide) s2.1) (exN (by decide)) rfl ?_
    refine C.mono hf (fun _ _ => KI.g (fun x9 h7 hf le8 => ?_))
    have k1 := leK le8 k1 (by decide)
    have k4 := leK le8 k4 (by decide)
    replace s2 := s2.le sc2 (le8)
    replace s6 := s6.le sc6 (le8)
    refine x_istore_n (pc' := 15) (dX20_infer 6 rfl rfl) rfl (by decide) rfl rfl ?_
    refine x_aload_n (pc' := 16) 1 (dX20_infer 7 rfl rfl) rfl rfl rfl ?_
    obtain ⟨ho0, ho1⟩ := hf
    rcases hr : fR _ a0 303 with _ | b10
    · replace hf := ho0 hr
      refine x_getN (pc' := 19) (dX20_infer 8 rfl rfl) g303 q1375 (Or.inl rfl) rfl (hf_of 18 k1 rfl (by decide) m18_303) hr ?_
      refine x_ifnonnullN (pc' := 22) (dX20_infer 9 rfl rfl) rfl ?_
      refine x_iload_n (pc' := 23) 0 (dX20_infer 10 rfl rfl) rfl rfl rfl ?_
      exact x_iret (dX20_infer 11 rfl rfl) rfl hf
    · replace hf := ho1 _ hr
      refine x_getR (pc' := 19) (dX20_infer 8 rfl rfl) g303 q1375 (Or.inl rfl) rfl (hf_of 18 k1 rfl (by decide) m18_303) hr ?_
      refine x_ifnonnull (tgt := 24) (dX20_infer 9 rfl rfl) (by decide) ?_
      refine x_aload_n (pc' := 25) 2 (dX20_infer 12 rfl rfl) rfl rfl rfl ?_
      refine x_getR (pc' := 28) (dX20_infer 13 rfl rfl) g108 q800 (Or.inl rfl) rfl (hf_of 9 s6.1 rfl (by decide) m9_108) (s6.2 0 _ rfl rfl).1 ?_
      refine x_aload_n (pc' := 29) 1 (dX20_infer 14 rfl rfl) rfl rfl rfl ?_
      obtain ⟨ho0, ho1⟩ := hf
      rcases hr : fR _ a0 304 with _ | b12
      · replace hf := ho0 hr
        refine x_getN (pc' := 32) (dX20_infer 15 rfl rfl) g304 q1376 (Or.inl rfl) rfl (hf_of 18 k1 rfl (by decide) m18_304) hr ?_
        exact hf.elim
      · replace hf := ho1 _ hr
        refine x_getR (pc' := 32) (dX20_infer 15 rfl rfl) g304 q1376 (Or.inl rfl) rfl (hf_of 18 k1 rfl (by decide) m18_304) hr ?_
        obtain ⟨k14, hf⟩ := hf
        obtain ⟨b15, e16, hf⟩ := hf
        refine x_getR (pc' := 35) (dX20_infer 16 rfl rfl) g372 q2151 (Or.inl rfl) rfl (hf_of 53 k14 rfl (by decide) m53_372) e16 ?_
        refine x_inv (pc' := 38) (ν := mX3_readOn) (av := [_, _]) (st := []) rfl rfl (dX20_infer 17 rfl rfl) (Nat.le_of_ble_eq_true rfl) wX3_readOn q213 (inv_V (k := 2) (dX20_infer 17 rfl rfl) q2453 q2454 q2455 wX3_readOn (by decide) lX3_readOn (by decide) s2.1) (exN (by decide)) rfl ?_
        refine C.mono hf (fun _ _ => KI.g (fun x19 h17 hf le18 => ?_))
        have k1 := leK le18 k1 (by decide)
        have k4 := leK le18 k4 (by decide)
        have k14 := leK le18 k14 (by decide)
        replace s2 := s2.le sc2 (le18)
        replace s6 := s6.le sc6 (le18)
        refine x_istore_n (pc' := 39) (dX20_infer 18 rfl rfl) rfl (by decide) rfl rfl ?_
        refine x_aload_n (pc' := 40) 2 (dX20_infer 19 rfl rfl) rfl rfl rfl ?_
        obtain ⟨ho0, ho1⟩ := hf
        rcases hr : fR _ a0 303 with _ | b20
        · replace hf := ho0 hr
          refine x_getN (pc' := 43) (dX20_infer 20 rfl rfl) g303 q1375 (Or.inl rfl) rfl (hf_of 18 k1 rfl (by decide) m18_303) hr ?_
          refine x_aload_n (pc' := 44) 3 (dX20_infer 21 rfl rfl) rfl rfl rfl ?_
          exact hf.elim
        · replace hf := ho1 _ hr
          refine x_getR (pc' := 43) (dX20_infer 20 rfl rfl) g303 q1375 (Or.inl rfl) rfl (hf_of 18 k1 rfl (by decide) m18_303) hr ?_
          refine x_aload_n (pc' := 44) 3 (dX20_infer 21 rfl rfl) rfl rfl rfl ?_
          obtain ⟨k, ν, ⟨v0, v1, v2, v3, v4, v5, v6, v7⟩, k30, hf⟩ := hf
          refine x_inv (pc' := 47) (ν := ν) (st := []) rfl (sub_tr v7 rfl) (dX20_infer 22 rfl rfl) (by have := v5; simp only [List.map, List.sum_cons, List.sum_nil, Value.category]; omega) v1 v2 (inv_U (k := k) (av := [_]) (dX20_infer 22 rfl rfl) q2457 q2436 (by decide) v3 v4 (by decide) (show _ = some 1 by decide +kernel) v0 k30) (exN v6) rfl ?_
          refine C.mono hf (fun _ _ => KI.g (fun x24 h22 hf le23 => ?_))
          replace le23 := Le.nx v6 le23
          have k1 := leK le23 k1 (by decide)
          have k4 := leK le23 k4 (by decide)
          have k14 := leK le23 k14 (by decide)
          replace s2 := s2.le sc2 (le23)
          replace s6 := s6.le sc6 (le23)
          refine x_istore (pc' := 49) (dX20_infer 23 rfl rfl) (by decide) rfl rfl ?_
          refine x_aload_n (pc' := 50) 4 (dX20_infer 24 rfl rfl) rfl rfl rfl ?_
          refine x_iload (pc' := 52) 0 (dX20_infer 25 rfl rfl) rfl rfl ?_
          refine x_iload_n (pc' := 53) 1 (dX20_infer 26 rfl rfl) rfl rfl rfl ?_
          refine x_aload_n (pc' := 54) 3 (dX20_infer 27 rfl rfl) rfl rfl rfl ?_
          obtain ⟨ho0, ho1⟩ := hf
          rcases hr : fR _ a0 303 with _ | b25
          · replace hf := ho0 hr
            refine x_getN (pc' := 57) (dX20_infer 28 rfl rfl) g303 q1375 (Or.inl rfl) rfl (hf_of 18 k1 rfl (by decide) m18_303) hr ?_
            exact hf.elim
          · replace hf := ho1 _ hr
            refine x_getR (pc' := 57) (dX20_infer 28 rfl rfl) g303 q1375 (Or.inl rfl) rfl (hf_of 18 k1 rfl (by decide) m18_303) hr ?_
            obtain ⟨u27, hf⟩ := hf
            refine x_getI (pc' := 60) (dX20_infer 29 rfl rfl) g302 q1353 (Or.inl rfl) rfl u27 ?_
            refine x_inv (pc' := 63) (ν := mX11_same) (av := [_, _, _, _]) (st := []) rfl rfl (dX20_infer 30 rfl rfl) (Nat.le_of_ble_eq_true rfl) wX11_same q225 (inv_V (k := 9) (dX20_infer 30 rfl rfl) q2501 q2483 q2484 wX11_same (by decide) lX11_same (by decide) s6.1) (exN (by decide)) rfl ?_
            refine C.mono hf (fun _ _ => KV.g (fun h28 hf le29 => ?_))
            have k1 := leK le29 k1 (by decide)
            have k4 := leK le29 k4 (by decide)
            have k14 := leK le29 k14 (by decide)
            replace s2 := s2.le sc2 (le29)
            replace s6 := s6.le sc6 (le29)
            refine x_iload_n (pc' := 64) 2 (dX20_infer 31 rfl rfl) rfl rfl rfl ?_
            exact x_iret (dX20_infer 32 rfl rfl) rfl hf
theorem bX20_shape (G : Gh) (d : Nat) (h : AH) (Q : Outcome → AH → Prop) (a0 : Nat) (s5 : So 5 (gW G) h) (hf : hK h a0 = 19 ∧ (OC (fR h a0 303) (OC (fR h a0 304) (False) (fun b4 => hK h b4 = 54 ∧ (OC (fR h a0 304) (False) (fun b7 => hK h b7 = 54 ∧ (∃ b10, fR h b7 368 = some b10 ∧ (hK h b10 = 4 ∧ (C G mX10_node d [.ref (gW G 5), .int (fI h b4 369), .int (fI h b10 54)] h (KI Q (fun x15 h13 => Q (.returned (some (.int x15))) h13))))))))) (fun b2 => OC (fR h a0 304) (False) (fun b16 => hK h b16 = 54 ∧ (OC (fR h a0 304) (False) (fun b19 => hK h b19 = 54 ∧ (∃ b22, fR h b19 368 = some b22 ∧ (hK h b22 = 4 ∧ (OC (fR h a0 303) (False) (fun b25 => ∃ (k : Nat) (ν : Mu), VT ⟨"LetMill$Pat", "shape", "(LLetMill$Matches;)I"⟩ VMPat_shape k ν ∧ hK h b25 = k + 1 ∧ C G ν d [.ref (b25), .ref (gW G 5)] h (KI Q (fun x29 h27 => C G mX10_one d [.ref (gW G 5), .int (fI h b16 369), .int (fI h b22 54), .int (x29)] h27 (KI Q (fun x32 h30 => Q (.returned (some (.int x32))) h30)))))))))))))) : C G mX20_shape (d + 1) [.ref (a0), .ref (gW G 5)] h Q := by
  refine C.of_X (by decide +kernel) (Nat.le_of_ble_eq_true rfl) wX20_shape ?_
  show X G mX20_shape (d + 1) none [] 0 [(0, .ref (a0)), (1, .ref (gW G 5))] [] h Q
  refine x_aload_n (pc' := 1) 0 (dX20_shape 0 rfl rfl) rfl rfl rfl ?_
  obtain ⟨k1, hf⟩ := hf
  obtain ⟨ho0, ho1⟩ := hf
  rcases hr : fR _ a0 303 with _ | b2
  · replace hf := ho0 hr
    refine x_getN (pc' := 4) (dX20_shape 1 rfl rfl) g303 q1375 (Or.inl rfl) rfl (hf_of 18 k1 rfl (by decide) m18_303) hr ?_
    refine x_ifnonnullN (pc' := 7) (dX20_shape 2 rfl rfl) rfl ?_
    refine x_aload_n (pc' := 8) 1 (dX20_shape 3 rfl rfl) rfl rfl rfl ?_
    refine x_aload_n (pc' := 9) 0 (dX20_shape 4 rfl rfl) rfl rfl rfl ?_
    obtain ⟨ho0, ho1⟩ := hf
    rcases hr : fR _ a0 304 with _ | b4
    · replace hf := ho0 hr
      refine x_getN (pc' := 12) (dX20_shape 5 rfl rfl) g304 q1376 (Or.inl rfl) rfl (hf_of 18 k1 rfl (by decide) m18_304) hr ?_
      exact hf.elim
    · replace hf := ho1 _ hr
      refine x_getR (pc' := 12) (dX20_shape 5 rfl rfl) g304 q1376 (Or.inl rfl) rfl (hf_of 18 k1 rfl (by decide) m18_304) hr ?_
      obtain ⟨k6, hf⟩ := hf
      refine x_getI (pc' := 15) (dX20_shape 6 rfl rfl) g369 q2144 (Or.inl rfl) rfl (hf_of 53 k6 rfl (by decide) m53_369) ?_
      refine x_aload_n (pc' := 16) 0 (dX20_shape 7 rfl rfl) rfl rfl rfl ?_
      obtain ⟨ho0, ho1⟩ := hf
      rcases hr : fR _ a0 304 with _ | b7
      · replace hf := ho0 hr
        refine x_getN (pc' := 19) (dX20_shape 8 rfl rfl) g304 q1376 (Or.inl rfl) rfl (hf_of 18 k1 rfl (by decide) m18_304) hr ?_
        exact hf.elim
      · replace hf := ho1 _ hr
        refine x_getR (pc' := 19) (dX20_shape 8 rfl rfl) g304 q1376 (Or.inl rfl) rfl (hf_of 18 k1 rfl (by decide) m18_304) hr ?_
        obtain ⟨k9, hf⟩ := hf
        obtain ⟨b10, e11, hf⟩ := hf
        refine x_getR (pc' := 22) (dX20_shape 9 rfl rfl) g368 q2142 (Or.inl rfl) rfl (hf_of 53 k9 rfl (by decide) m53_368) e11 ?_
        obtain ⟨k12, hf⟩ := hf
        refine x_getI (pc' := 25) (dX20_shape 10 rfl rfl) g54 q452 (Or.inl rfl) rfl (hf_of 3 k12 rfl (by decide) m3_54) ?_
        refine x_inv (pc' := 28) (ν := mX10_node) (av := [_, _, _]) (st := []) rfl rfl (dX20_shape 11 rfl rfl) (Nat.le_of_ble_eq_true rfl) wX10_node q224 (inv_V (k := 8) (dX20_shape 11 rfl rfl) q2551 q2552 q2553 wX10_node (by decide) lX10_node (by decide) s5.1) (exN (by decide)) rfl ?_
        refine C.mono hf (fun _ _ => KI.g (fun x15 h13 hf le14 => ?_))
        have k1 := leK le14 k1 (by decide)
        have k6 := leK le14 k6 (by decide)
        have k9 := leK le14 k9 (by decide)
        have k12 := leK le14 k12 (by decide)
        replace s5 := s5.le sc5 (le14)
        refine x_goto (tgt := 60) (dX20_shape 12 rfl rfl) (by decide) ?_
        exact x_iret (dX20_shape 26 rfl rfl) rfl hf
  · replace hf := ho1 _ hr
    refine x_getR (pc' := 4) (dX20_shape 1 rfl rfl) g303 q1375 (Or.inl rfl) rfl (hf_of 18 k1 rfl (by decide) m18_303) hr ?_
    refine x_ifnonnull (tgt := 31) (dX20_shape 2 rfl rfl) (by decide) ?_
    refine x_aload_n (pc' := 32) 1 (dX20_shape 13 rfl rfl) rfl rfl rfl ?_
    refine x_aload_n (pc' := 33) 0 (dX20_shape 14 rfl rfl) rfl rfl rfl ?_
    obtain ⟨ho0, ho1⟩ := hf
    rcases hr : fR _ a0 304 with _ | b16
    · replace hf := ho0 hr
      refine x_getN (pc' := 36) (dX20_shape 15 rfl rfl) g304 q1376 (Or.inl rfl) rfl (hf_of 18 k1 rfl (by decide) m18_304) hr ?_
      exact hf.elim
    · replace hf := ho1 _ hr
      refine x_getR (pc' := 36) (dX20_shape 15 rfl rfl) g304 q1376 (Or.inl rfl) rfl (hf_of 18 k1 rfl (by decide) m18_304) hr ?_
      obtain ⟨k18, hf⟩ := hf
      refine x_getI (pc' := 39) (dX20_shape 16 rfl rfl) g369 q2144 (Or.inl rfl) rfl (hf_of 53 k18 rfl (by decide) m53_369) ?_
      refine x_aload_n (pc' := 40) 0 (dX20_shape 17 rfl rfl) rfl rfl rfl ?_
      obtain ⟨ho0, ho1⟩ := hf
      rcases hr : fR _ a0 304 with _ | b19
      · replace hf := ho0 hr
        refine x_getN (pc' := 43) (dX20_shape 18 rfl rfl) g304 q1376 (Or.inl rfl) rfl (hf_of 18 k1 rfl (by decide) m18_304) hr ?_
        exact hf.elim
      · replace hf := ho1 _ hr
        refine x_getR (pc' := 43) (dX20_shape 18 rfl rfl) g304 q1376 (Or.inl rfl) rfl (hf_of 18 k1 rfl (by decide) m18_304) hr ?_
        obtain ⟨k21, hf⟩ := hf
        obtain ⟨b22, e23, hf⟩ := hf
        refine x_getR (pc' := 46) (dX20_shape 19 rfl rfl) g368 q2142 (Or.inl rfl) rfl (hf_of 53 k21 rfl (by decide) m53_368) e23 ?_
        obtain ⟨k24, hf⟩ := hf
        refine x_getI (pc' := 49) (dX20_shape 20 rfl rfl) g54 q452 (Or.inl rfl) rfl (hf_of 3 k24 rfl (by decide) m3_54) ?_
        refine x_aload_n (pc' := 50) 0 (dX20_shape 21 rfl rfl) rfl rfl rfl ?_
        obtain ⟨ho0, ho1⟩ := hf
        rcases hr : fR _ a0 303 with _ | b25
        · replace hf := ho0 hr
          refine x_getN (pc' := 53) (dX20_shape 22 rfl rfl) g303 q1375 (Or.inl rfl) rfl (hf_of 18 k1 rfl (by decide) m18_303) hr ?_
          refine x_aload_n (pc' := 54) 1 (dX20_shape 23 rfl rfl) rfl rfl rfl ?_
          exact hf.elim
        · replace hf := ho1 _ hr
          refine x_getR (pc' := 53) (dX20_shape 22 rfl rfl) g303 q1375 (Or.inl rfl) rfl (hf_of 18 k1 rfl (by decide) m18_303) hr ?_
          refine x_aload_n (pc' := 54) 1 (dX20_shape 23 rfl rfl) rfl rfl rfl ?_
          obtain ⟨k, ν, ⟨v0, v1, v2, v3, v4, v5, v6, v7⟩, k33, hf⟩ := hf
          refine x_inv (pc' := 57) (ν := ν) (st := [_, _, _]) rfl (sub_tr v7 rfl) (dX20_shape 24 rfl rfl) (by have := v5; simp only [List.map, List.sum_cons, List.sum_nil, Value.category]; omega) v1 v2 (inv_U (k := k) (av := [_]) (dX20_shape 24 rfl rfl) q2559 q2544 (by decide) v3 v4 (by decide) (show _ = some 1 by decide +kernel) v0 k33) (exN v6) rfl ?_
          refine C.mono hf (fun _ _ => KI.g (fun x29 h27 hf le28 => ?_))
          replace le28 := Le.nx v6 le28
          have k1 := leK le28 k1 (by decide)
          have k18 := leK le28 k18 (by decide)
          have k21 := leK le28 k21 (by decide)
          have k24 := leK le28 k24 (by decide)
          replace s5 := s5.le sc5 (le28)
          refine x_inv (pc' := 60) (ν := mX10_one) (av := [_, _, _, _]) (st := []) rfl rfl (dX20_shape 25 rfl rfl) (Nat.le_of_ble_eq_true rfl) wX10_one q224 (inv_V (k := 8) (dX20_shape 25 rfl rfl) q2589 q2590 q2591 wX10_one (by decide) lX10_one (by decide) s5.1) (exN (by decide)) rfl ?_
          refine C.mono hf (fun _ _ => KI.g (fun x32 h30 hf le31 => ?_))
          have k1 := leK le31 k1 (by decide)
          have k18 := leK le31 k18 (by decide)
          have k21 := leK le31 k21 (by decide)
          have k24 := leK le31 k24 (by decide)
          replace s5 := s5.le sc5 (le31)
          exact x_iret (dX20_shape 26 rfl rfl) rfl hf
theorem bX20_fits (G : Gh) (d : Nat) (h : AH) (Q : Outcome → AH → Prop) (a0 : Nat) (p2 : Int32) (s3 : So 3 (gW G) h) (hf : C G mX6_con d [.ref (gW G 3), .int (p2)] h (KR Q (fun b3 h1 => hK h1 a0 = 19 ∧ (OC (fR h1 a0 304) (Q (.returned (some (.int 0))) h1) (fun b5 => (b3 = b5 → (OC (fR h1 a0 303) (Q (.returned (some (.int 1))) h1) (fun b7 => OC (fR h1 a0 303) (C G mX6_has d [.ref (gW G 3), .int (p2)] h1 (KI Q (fun x13 h11 => False))) (fun b9 => C G mX6_has d [.ref (gW G 3), .int (p2)] h1 (KI Q (fun x16 h14 => ∃ (k : Nat) (ν : Mu), VT ⟨"LetMill$Pat", "fits", "(LLetMill$Machine;I)Z"⟩ VMPat_fits k ν ∧ hK h14 b9 = k + 1 ∧ C G ν d [.ref (b9), .ref (gW G 3), .int (x16)] h14 (KI Q (fun x19 h17 => (x19 = 0 → (Q (.returned (some (.int 0))) h17)) ∧ (¬ x19 = 0 → (Q (.returned (some (.int 1))) h17)))))))))) ∧ (¬ b3 = b5 → (Q (.returned (some (.int 0))) h1))))))) : C G mX20_fits (d + 1) [.ref (a0), .ref (gW G 3), .int (p2)] h Q := by
  refine C.of_X (by decide +kernel) (Nat.le_of_ble_eq_true rfl) wX20_fits ?_
  show X G mX20_fits (d + 1) none [] 0 [(0, .ref (a0)), (1, .ref (gW G 3)), (2, .int (p2))] [] h Q
  refine x_aload_n (pc' := 1) 1 (dX20_fits 0 rfl rfl) rfl rfl rfl ?_
  refine x_iload_n (pc' := 2) 2 (dX20_fits 1 rfl rfl) rfl rfl rfl ?_
  refine x_inv (pc' := 5) (ν := mX6_con) (av := [_, _]) (st := []) rfl rfl (dX20_fits 2 rfl rfl) (Nat.le_of_ble_eq_true rfl) wX6_con q220 (inv_V (k := 4) (dX20_fits 2 rfl rfl) q3112 q3113 q3114 wX6_con (by decide) lX6_con (by decide) s3.1) (exN (by decide)) rfl ?_
  refine C.mono hf (fun _ _ => KR.g (fun b3 h1 hf le2 => ?_))
  replace s3 := s3.le sc3 (le2)
  refine x_aload_n (pc' := 6) 0 (dX20_fits 3 rfl rfl) rfl rfl rfl ?_
  obtain ⟨k4, hf⟩ := hf
  obtain ⟨ho0, ho1⟩ := hf
  rcases hr : fR _ a0 304 with _ | b5
  · replace hf := ho0 hr
    refine x_getN (pc' := 9) (dX20_fits 4 rfl rfl) g304 q1376 (Or.inl rfl) rfl (hf_of 18 k4 rfl (by decide) m18_304) hr ?_
    refine x_acmp_ne (pc' := 12) (rx := (some b3)) (ry := none) (tgt := 39) (dX20_fits 5 rfl rfl) (by decide) rfl (fun _ => ?_) (fun c => by cases c)
    refine x_iconst (pc' := 40) (v := 0) (dX20_fits 19 rfl rfl) (by decide) rfl ?_
    exact x_zret (ty := .boolean) (dX20_fits 20 rfl rfl) rfl (by decide) hf
  · replace hf := ho1 _ hr
    refine x_getR (pc' := 9) (dX20_fits 4 rfl rfl) g304 q1376 (Or.inl rfl) rfl (hf_of 18 k4 rfl (by decide) m18_304) hr ?_
    refine x_acmp_ne (pc' := 12) (rx := (some b3)) (ry := (some b5)) (tgt := 39) (dX20_fits 5 rfl rfl) (by decide) rfl (fun c24 => ?_) (fun c24 => ?_)
    · replace hf := hf.2 (fun e => c24 (congrArg some e))
      refine x_iconst (pc' := 40) (v := 0) (dX20_fits 19 rfl rfl) (by decide) rfl ?_
      exact x_zret (ty := .boolean) (dX20_fits 20 rfl rfl) rfl (by decide) hf
    · replace hf := hf.1 (Option.some.inj c24)
      refine x_aload_n (pc' := 13) 0 (dX20_fits 6 rfl rfl) rfl rfl rfl ?_
      obtain ⟨ho0, ho1⟩ := hf
      rcases hr : fR _ a0 303 with _ | b7
      · replace hf := ho0 hr
        refine x_getN (pc' := 16) (dX20_fits 7 rfl rfl) g303 q1375 (Or.inl rfl) rfl (hf_of 18 k4 rfl (by decide) m18_303) hr ?_
        refine x_ifnullN (tgt := 35) (dX20_fits 8 rfl rfl) (by decide) ?_
        refine x_iconst (pc' := 36) (v := 1) (dX20_fits 17 rfl rfl) (by decide) rfl ?_
        refine x_goto (tgt := 40) (dX20_fits 18 rfl rfl) (by decide) ?_
        exact x_zret (ty := .boolean) (dX20_fits 20 rfl rfl) rfl (by decide) hf
      · replace hf := ho1 _ hr
        refine x_getR (pc' := 16) (dX20_fits 7 rfl rfl) g303 q1375 (Or.inl rfl) rfl (hf_of 18 k4 rfl (by decide) m18_303) hr ?_
        refine x_ifnull (pc' := 19) (dX20_fits 8 rfl rfl) rfl ?_
        refine x_aload_n (pc' := 20) 0 (dX20_fits 9 rfl rfl) rfl rfl rfl ?_
        obtain ⟨ho0, ho1⟩ := hf
        rcases hr : fR _ a0 303 with _ | b9
        · replace hf := ho0 hr
          refine x_getN (pc' := 23) (dX20_fits 10 rfl rfl) g303 q1375 (Or.inl rfl) rfl (hf_of 18 k4 rfl (by decide) m18_303) hr ?_
          refine x_aload_n (pc' := 24) 1 (dX20_fits 11 rfl rfl) rfl rfl rfl ?_
          refine x_aload_n (pc' := 25) 1 (dX20_fits 12 rfl rfl) rfl rfl rfl ?_
          refine x_iload_n (pc' := 26) 2 (dX20_fits 13 rfl rfl) rfl rfl rfl ?_
          refine x_inv (pc' := 29) (ν := mX6_has) (av := [_, _]) (st := [_, _]) rfl rfl (dX20_fits 14 rfl rfl) (Nat.le_of_ble_eq_true rfl) wX6_has q220 (inv_V (k := 4) (dX20_fits 14 rfl rfl) q3117 q3118 q3119 wX6_has (by decide) lX6_has (by decide) s3.1) (exN (by decide)) rfl ?_
          refine C.mono hf (fun _ _ => KI.g (fun x13 h11 hf le12 => ?_))
          have k4 := leK le12 k4 (by decide)
          replace s3 := s3.le sc3 (le12)
          exact hf.elim
        · replace hf := ho1 _ hr
          refine x_getR (pc' := 23) (dX20_fits 10 rfl rfl) g303 q1375 (Or.inl rfl) rfl (hf_of 18 k4 rfl (by decide) m18_303) hr ?_
          refine x_aload_n (pc' := 24) 1 (dX20_fits 11 rfl rfl) rfl rfl rfl ?_
          refine x_aload_n (pc' := 25) 1 (dX20_fits 12 rfl rfl) rfl rfl rfl ?_
          refine x_iload_n (pc' := 26) 2 (dX20_fits 13 rfl rfl) rfl rfl rfl ?_
          refine x_inv (pc' := 29) (ν := mX6_has) (av := [_, _]) (st := [_, _]) rfl rfl (dX20_fits 14 rfl rfl) (Nat.le_of_ble_eq_true rfl) wX6_has q220 (inv_V (k := 4) (dX20_fits 14 rfl rfl) q3117 q3118 q3119 wX6_has (by decide) lX6_has (by decide) s3.1) (exN (by decide)) rfl ?_
          refine C.mono hf (fun _ _ => KI.g (fun x16 h14 hf le15 => ?_))
          have k4 := leK le15 k4 (by decide)
          replace s3 := s3.le sc3 (le15)
          obtain ⟨k, ν, ⟨v0, v1, v2, v3, v4, v5, v6, v7⟩, k21, hf⟩ := hf
          refine x_inv (pc' := 32) (ν := ν) (st := []) rfl (sub_tr v7 rfl) (dX20_fits 15 rfl rfl) (by have := v5; simp only [List.map, List.sum_cons, List.sum_nil, Value.category]; omega) v1 v2 (inv_U (k := k) (av := [_, _]) (dX20_fits 15 rfl rfl) q3121 q3105 (by decide) v3 v4 (by decide) (show _ = some 2 by decide +kernel) v0 k21) (exN v6) rfl ?_
          refine C.mono hf (fun _ _ => KI.g (fun x19 h17 hf le18 => ?_))
          replace le18 := Le.nx v6 le18
          have k4 := leK le18 k4 (by decide)
          replace s3 := s3.le sc3 (le18)
          refine x_if_eq (pc' := 35) (tgt := 39) (dX20_fits 16 rfl rfl) (by decide) rfl (fun c20 => ?_) (fun c20 => ?_)
          · replace hf := hf.1 c20
            refine x_iconst (pc' := 40) (v := 0) (dX20_fits 19 rfl rfl) (by decide) rfl ?_
            exact x_zret (ty := .boolean) (dX20_fits 20 rfl rfl) rfl (by decide) hf
          · replace hf := hf.2 c20
            refine x_iconst (pc' := 36) (v := 1) (dX20_fits 17 rfl rfl) (by decide) rfl ?_
            refine x_goto (tgt := 40) (dX20_fits 18 rfl rfl) (by decide) ?_
            exact x_zret (ty := .boolean) (dX20_fits 20 rfl rfl) rfl (by decide) hf
theorem bX20_bind (G : Gh) (d : Nat) (h : AH) (Q : Outcome → AH → Prop) (a0 : Nat) (p2 : Int32) (p3 : Int32) (s3 : So 3 (gW G) h) (hf : hK h a0 = 19 ∧ (OC (fR h a0 303) (Q (.returned (some (.int p3))) h) (fun b2 => OC (fR h a0 303) (C G mX6_has d [.ref (gW G 3), .int (p2)] h (KI Q (fun x8 h6 => False))) (fun b4 => C G mX6_has d [.ref (gW G 3), .int (p2)] h (KI Q (fun x11 h9 => ∃ (k : Nat) (ν : Mu), VT yX19_bind VMPat_bind k ν ∧ hK h9 b4 = k + 1 ∧ C G ν d [.ref (b4), .ref (gW G 3), .int (x11), .int (p3)] h9 (KI Q (fun x14 h12 => Q (.returned (some (.int x14))) h12)))))))) : C G mX20_bind (d + 1) [.ref (a0), .ref (gW G 3), .int (p2), .int (p3)] h Q := by
  refine C.of_X (by decide +kernel) (Nat.le_of_ble_eq_true rfl) wX20_bind ?_
  show X G mX20_bind (d + 1) none [] 0 [(0, .ref (a0)), (1, .ref (gW G 3)), (2, .int (p2)), (3, .int (p3))] [] h Q
  refine x_aload_n (pc' := 1) 0 (dX20_bind 0 rfl rfl) rfl rfl rfl ?_
  obtain ⟨k1, hf⟩ := hf
  obtain ⟨ho0, ho1⟩ := hf
  rcases hr : fR _ a0 303 with _ | b2
  · replace hf := ho0 hr
    refine x_getN (pc' := 4) (dX20_bind 1 rfl rfl) g303 q1375 (Or.inl rfl) rfl (hf_of 18 k1 rfl (by decide) m18_303) hr ?_
    refine x_ifnonnullN (pc' := 7) (dX20_bind 2 rfl rfl) rfl ?_
    refine x_iload_n (pc' := 8) 3 (dX20_bind 3 rfl rfl) rfl rfl rfl ?_
    refine x_goto (tgt := 25) (dX20_bind 4 rfl rfl) (by decide) ?_
    exact x_iret (dX20_bind 13 rfl rfl) rfl hf
  · replace hf := ho1 _ hr
    refine x_getR (pc' := 4) (dX20_bind 1 rfl rfl) g303 q1375 (Or.inl rfl) rfl (hf_of 18 k1 rfl (by decide) m18_303) hr ?_
    refine x_ifnonnull (tgt := 11) (dX20_bind 2 rfl rfl) (by decide) ?_
    refine x_aload_n (pc' := 12) 0 (dX20_bind 5 rfl rfl) rfl rfl rfl ?_
    obtain ⟨ho0, ho1⟩ := hf
    rcases hr : fR _ a0 303 with _ | b4
    · replace hf := ho0 hr
      refine x_getN (pc' := 15) (dX20_bind 6 rfl rfl) g303 q1375 (Or.inl rfl) rfl (hf_of 18 k1 rfl (by decide) m18_303) hr ?_
      refine x_aload_n (pc' := 16) 1 (dX20_bind 7 rfl rfl) rfl rfl rfl ?_
      refine x_aload_n (pc' := 17) 1 (dX20_bind 8 rfl rfl) rfl rfl rfl ?_
      refine x_iload_n (pc' := 18) 2 (dX20_bind 9 rfl rfl) rfl rfl rfl ?_
      refine x_inv (pc' := 21) (ν := mX6_has) (av := [_, _]) (st := [_, _]) rfl rfl (dX20_bind 10 rfl rfl) (Nat.le_of_ble_eq_true rfl) wX6_has q220 (inv_V (k := 4) (dX20_bind 10 rfl rfl) q3117 q3118 q3119 wX6_has (by decide) lX6_has (by decide) s3.1) (exN (by decide)) rfl ?_
      refine C.mono hf (fun _ _ => KI.g (fun x8 h6 hf le7 => ?_))
      have k1 := leK le7 k1 (by decide)
      replace s3 := s3.le sc3 (le7)
      refine x_iload_n (pc' := 22) 3 (dX20_bind 11 rfl rfl) rfl rfl rfl ?_
      exact hf.elim
    · replace hf := ho1 _ hr
      refine x_getR (pc' := 15) (dX20_bind 6 rfl rfl) g303 q1375 (Or.inl rfl) rfl (hf_of 18 k1 rfl (by decide) m18_303) hr ?_
      refine x_aload_n (pc' := 16) 1 (dX20_bind 7 rfl rfl) rfl rfl rfl ?_
      refine x_aload_n (pc' := 17) 1 (dX20_bind 8 rfl rfl) rfl rfl rfl ?_
      refine x_iload_n (pc' := 18) 2 (dX20_bind 9 rfl rfl) rfl rfl rfl ?_
      refine x_inv (pc' := 21) (ν := mX6_has) (av := [_, _]) (st := [_, _]) rfl rfl (dX20_bind 10 rfl rfl) (Nat.le_of_ble_eq_true rfl) wX6_has q220 (inv_V (k := 4) (dX20_bind 10 rfl rfl) q3117 q3118 q3119 wX6_has (by decide) lX6_has (by decide) s3.1) (exN (by decide)) rfl ?_
      refine C.mono hf (fun _ _ => KI.g (fun x11 h9 hf le10 => ?_))
      have k1 := leK le10 k1 (by decide)
      replace s3 := s3.le sc3 (le10)
      refine x_iload_n (pc' := 22) 3 (dX20_bind 11 rfl rfl) rfl rfl rfl ?_
      obtain ⟨k, ν, ⟨v0, v1, v2, v3, v4, v5, v6, v7⟩, k15, hf⟩ := hf
      refine x_inv (pc' := 25) (ν := ν) (st := []) rfl (sub_tr v7 rfl) (dX20_bind 12 rfl rfl) (by have := v5; simp only [List.map, List.sum_cons, List.sum_nil, Value.category]; omega) v1 v2 (inv_O (ξ := mX19_bind) (k := k) (av := [_, _, _]) (dX20_bind 12 rfl rfl) q3172 q3167 q3166 q3195 v3 v4 (by decide) lX19_bind v0 k15) (exN v6) rfl ?_
      refine C.mono hf (fun _ _ => KI.g (fun x14 h12 hf le13 => ?_))
      replace le13 := Le.nx v6 le13
      have k1 := leK le13 k1 (by decide)
      replace s3 := s3.le sc3 (le13)
      exact x_iret (dX20_bind 13 rfl rfl) rfl hf
theorem bX21_init (G : Gh) (d : Nat) (h : AH) (Q : Outcome → AH → Prop) (a0 : Nat) (p1 : Int32) (hf : C G mX19_init d [.ref (a0), .int (p1)] h (KV Q (fun h1 => Q (.returned none) h1))) : C G mX21_init (d + 1) [.ref (a0), .int (p1)] h Q := by
  refine C.of_X (by decide +kernel) (Nat.le_of_ble_eq_true rfl) wX21_init ?_
  show X G mX21_init (d + 1) (some a0) [] 0 [(0, .ref (a0)), (1, .int (p1))] [] h Q
  refine x_aload_n (pc' := 1) 0 (dX21_init 0 rfl rfl) rfl rfl rfl ?_
  refine x_iload_n (pc' := 2) 1 (dX21_init 1 rfl rfl) rfl rfl rfl ?_
  refine x_inv (pc' := 5) (ν := mX19_init) (av := [_, _]) (st := []) rfl rfl (dX21_init 2 rfl rfl) (Nat.le_of_ble_eq_true rfl) wX19_init q240 (inv_I (dX21_init 2 rfl rfl) q1343 q1344 q1345 rfl (by decide) lX19_init) (fun b hb => by exact Or.inr (by rw [← hb]; rfl)) rfl ?_
  refine C.mono hf (fun _ _ => KV.g (fun h1 hf le2 => ?_))
  exact x_vret (dX21_init 3 rfl rfl) rfl hf
theorem bX21_resolveFrom (G : Gh) (d : Nat) (h : AH) (Q : Outcome → AH → Prop) (a0 : Nat) (p2 : Int32) (hf : Q (.returned none) h) : C G mX21_resolveFrom d [.ref (a0), .ref (gW G 4), .int (p2)] h Q := by
  refine C.of_X (by decide +kernel) (Nat.le_of_ble_eq_true rfl) wX21_resolveFrom ?_
  show X G mX21_resolveFrom d none [] 0 [(0, .ref (a0)), (1, .ref (gW G 4)), (2, .int (p2))] [] h Q
  exact x_vret (dX21_resolveFrom 0 rfl rfl) rfl hf
theorem bX21_infer (G : Gh) (d : Nat) (h : AH) (Q : Outcome → AH → Prop) (a0 : Nat) (s2 : So 2 (gW G) h) (s6 : So 6 (gW G) h) (hf : C G mX3_variable d [.ref (gW G 2)] h (KI Q (fun x3 h1 => Q (.returned (some (.int x3))) h1))) : C G mX21_infer (d + 1) [.ref (a0), .ref (gW G 6)] h Q := by
  refine C.of_X (by decide +kernel) (Nat.le_of_ble_eq_true rfl) wX21_infer ?_
  show X G mX21_infer (d + 1) none [] 0 [(0, .ref (a0)), (1, .ref (gW G 6))] [] h Q
  refine x_aload_n (pc' := 1) 1 (dX21_infer 0 rfl rfl) rfl rfl rfl ?_
  refine x_getR (pc' := 4) (dX21_infer 1 rfl rfl) g108 q799 (Or.inl rfl) rfl (hf_of 9 s6.1 rfl (by decide) m9_108) (s6.2 0 _ rfl rfl).1 ?_
  refine x_inv (pc' := 7) (ν := mX3_variable) (av := [_]) (st := []) rfl rfl (dX21_infer 2 rfl rfl) (Nat.le_of_ble_eq_true rfl) wX3_variable q213 (inv_V (k := 2) (dX21_infer 2 rfl rfl) q2440 q2341 q2342 wX3_variable (by decide) lX3_variable (by decide) s2.1) (exN (by decide)) rfl ?_
  refine C.mono hf (fun _ _ => KI.g (fun x3 h1 hf le2 => ?_))
  replace s2 := s2.le sc2 (le2)
  replace s6 := s6.le sc6 (le2)
  exact x_iret (dX21_infer 3 rfl rfl) rfl hf
theorem bX21_shape (G : Gh) (d : Nat) (h : AH) (Q : Outcome → AH → Prop) (a0 : Nat) (hf : Q (.returned (some (.int 0))) h) : C G mX21_shape d [.ref (a0), .ref (gW G 5)] h Q := by
  refine C.of_X (by decide +kernel) (Nat.le_of_ble_eq_true rfl) wX21_shape ?_
  show X G mX21_shape d none [] 0 [(0, .ref (a0)), (1, .ref (gW G 5))] [] h Q
  refine x_iconst (pc' := 1) (v := 0) (dX21_shape 0 rfl rfl) (by decide) rfl ?_
  exact x_iret (dX21_shape 1 rfl rfl) rfl hf
theorem bX21_fits (G : Gh) (d : Nat) (h : AH) (Q : Outcome → AH → Prop) (a0 : Nat) (p2 : Int32) (hf : Q (.returned (some (.int 1))) h) : C G mX21_fits d [.ref (a0), .ref (gW G 3), .int (p2)] h Q := by
  refine C.of_X (by decide +kernel) (Nat.le_of_ble_eq_true rfl) wX21_fits ?_
  show X G mX21_fits d none [] 0 [(0, .ref (a0)), (1, .ref (gW G 3)), (2, .int (p2))] [] h Q
  refine x_iconst (pc' := 1) (v := 1) (dX21_fits 0 rfl rfl) (by decide) rfl ?_
  exact x_zret (ty := .boolean) (dX21_fits 1 rfl rfl) rfl (by decide) hf
theorem bX22_init (G : Gh) (d : Nat) (h : AH) (Q : Outcome → AH → Prop) (a0 : Nat) (p1 : Int32) (hf : C G mX19_init d [.ref (a0), .int (p1)] h (KV Q (fun h1 => Q (.returned none) h1))) : C G mX22_init (d + 1) [.ref (a0), .int (p1)] h Q := by
  refine C.of_X (by decide +kernel) (Nat.le_of_ble_eq_true rfl) wX22_init ?_
  show X G mX22_init (d + 1) (some a0) [] 0 [(0, .ref (a0)), (1, .int (p1))] [] h Q
  refine x_aload_n (pc' := 1) 0 (dX22_init 0 rfl rfl) rfl rfl rfl ?_
  refine x_iload_n (pc' := 2) 1 (dX22_init 1 rfl rfl) rfl rfl rfl ?_
  refine x_inv (pc' := 5) (ν := mX19_init) (av := [_, _]) (st := []) rfl rfl (dX22_init 2 rfl rfl) (Nat.le_of_ble_eq_true rfl) wX19_init q240 (inv_I (dX22_init 2 rfl rfl) q1365 q1344 q1345 rfl (by decide) lX19_init) (fun b hb => by exact Or.inr (by rw [← hb]; rfl)) rfl ?_
  refine C.mono hf (fun _ _ => KV.g (fun h1 hf le2 => ?_))
  exact x_vret (dX22_init 3 rfl rfl) rfl hf
theorem bX22_resolveFrom (G : Gh) (d : Nat) (h : AH) (Q : Outcome → AH → Prop) (a0 : Nat) (p2 : Int32) (s4 : So 4 (gW G) h) (hf : hK h a0 = 21 ∧ (C G mX9_bind d [.ref (gW G 4), .int (fI h a0 302), .int (p2)] h (KR Q (fun b4 h2 => ∀ h5, h5 = pR h2 a0 305 (some b4) → (Q (.returned none) h5))))) : C G mX22_resolveFrom (d + 1) [.ref (a0), .ref (gW G 4), .int (p2)] h Q := by
  refine C.of_X (by decide +kernel) (Nat.le_of_ble_eq_true rfl) wX22_resolveFrom ?_
  show X G mX22_resolveFrom (d + 1) none [] 0 [(0, .ref (a0)), (1, .ref (gW G 4)), (2, .int (p2))] [] h Q
  refine x_aload_n (pc' := 1) 0 (dX22_resolveFrom 0 rfl rfl) rfl rfl rfl ?_
  refine x_aload_n (pc' := 2) 1 (dX22_resolveFrom 1 rfl rfl) rfl rfl rfl ?_
  refine x_aload_n (pc' := 3) 0 (dX22_resolveFrom 2 rfl rfl) rfl rfl rfl ?_
  obtain ⟨k1, hf⟩ := hf
  refine x_getI (pc' := 6) (dX22_resolveFrom 3 rfl rfl) g302 q1350 (Or.inr q1351) rfl (hf_of 20 k1 rfl (by decide) m20_302) ?_
  refine x_iload_n (pc' := 7) 2 (dX22_resolveFrom 4 rfl rfl) rfl rfl rfl ?_
  refine x_inv (pc' := 10) (ν := mX9_bind) (av := [_, _, _]) (st := [_]) rfl rfl (dX22_resolveFrom 5 rfl rfl) (Nat.le_of_ble_eq_true rfl) wX9_bind q223 (inv_V (k := 7) (dX22_resolveFrom 5 rfl rfl) q2231 q2193 q2194 wX9_bind (by decide) lX9_bind (by decide) s4.1) (exN (by decide)) rfl ?_
  refine C.mono hf (fun _ _ => KR.g (fun b4 h2 hf le3 => ?_))
  have k1 := leK le3 k1 (by decide)
  replace s4 := s4.le sc4 (le3)
  refine x_putR (pc' := 13) (dX22_resolveFrom 6 rfl rfl) g305 q1366 (Or.inl rfl) (Or.inl rfl) (Or.inl (by decide)) rfl (hf_of 20 k1 rfl (by decide) m20_305) (fun h5 e6 => ?_)
  replace hf := hf h5 e6
  replace k1 : hK h5 a0 = 21 := by rw [e6]; exact k1
  replace s4 : So 4 (gW G) h5 := by rw [e6]; exact s4.le sc4 (pR_le (Or.inl rfl))
  exact x_vret (dX22_resolveFrom 7 rfl rfl) rfl hf
theorem bX22_infer (G : Gh) (d : Nat) (h : AH) (Q : Outcome → AH → Prop) (a0 : Nat) (s2 : So 2 (gW G) h) (s6 : So 6 (gW G) h) (hf : hK h a0 = 21 ∧ (∃ b2, fR h a0 305 = some b2 ∧ (C G mX3_variable d [.ref (gW G 2)] h (KI Q (fun x6 h4 => hK h4 b2 = 13 ∧ (∀ h8, h8 = pI h4 b2 127 x6 → (∃ b9, fR h8 a0 305 = some b9 ∧ (C G mX11_push d [.ref (gW G 6), .ref (b9)] h8 (KV Q (fun h11 => ∃ b13, fR h11 a0 305 = some b13 ∧ (hK h11 b13 = 13 ∧ (Q (.returned (some (.int (fI h11 b13 127)))) h11)))))))))))) : C G mX22_infer (d + 1) [.ref (a0), .ref (gW G 6)] h Q := by
  refine C.of_X (by decide +kernel) (Nat.le_of_ble_eq_true rfl) wX22_infer ?_
  show X G mX22_infer (d + 1) none [] 0 [(0, .ref (a0)), (1, .ref (gW G 6))] [] h Q
  refine x_aload_n (pc' := 1) 0 (dX22_infer 0 rfl rfl) rfl rfl rfl ?_
  obtain ⟨k1, hf⟩ := hf
  obtain ⟨b2, e3, hf⟩ := hf
  refine x_getR (pc' := 4) (dX22_infer 1 rfl rfl) g305 q1366 (Or.inl rfl) rfl (hf_of 20 k1 rfl (by decide) m20_305) e3 ?_
  refine x_aload_n (pc' := 5) 1 (dX22_infer 2 rfl rfl) rfl rfl rfl ?_
  refine x_getR (pc' := 8) (dX22_infer 3 rfl rfl) g108 q803 (Or.inl rfl) rfl (hf_of 9 s6.1 rfl (by decide) m9_108) (s6.2 0 _ rfl rfl).1 ?_
  refine x_inv (pc' := 11) (ν := mX3_variable) (av := [_]) (st := [_]) rfl rfl (dX22_infer 4 rfl rfl) (Nat.le_of_ble_eq_true rfl) wX3_variable q213 (inv_V (k := 2) (dX22_infer 4 rfl rfl) q2468 q2341 q2342 wX3_variable (by decide) lX3_variable (by decide) s2.1) (exN (by decide)) rfl ?_
  refine C.mono hf (fun _ _ => KI.g (fun x6 h4 hf le5 => ?_))
  have k1 := leK le5 k1 (by decide)
  replace s2 := s2.le sc2 (le5)
  replace s6 := s6.le sc6 (le5)
  obtain ⟨k7, hf⟩ := hf
  refine x_putI (pc' := 14) (dX22_infer 5 rfl rfl) g127 q923 (Or.inl rfl) (Or.inl rfl) (Or.inl (by decide)) rfl (hf_of 12 k7 rfl (by decide) m12_127) (fun h8 e16 => ?_)
  replace hf := hf h8 e16
  replace k1 : hK h8 a0 = 21 := by rw [e16]; exact k1
  replace k7 : hK h8 b2 = 13 := by rw [e16]; exact k7
  replace s2 : So 2 (gW G) h8 := by rw [e16]; exact s2.le sc2 (pI_le (Or.inl rfl))
  replace s6 : So 6 (gW G) h8 := by rw [e16]; exact s6.le sc6 (pI_le (Or.inl rfl))
  refine x_aload_n (pc' := 15) 1 (dX22_infer 6 rfl rfl) rfl rfl rfl ?_
  refine x_aload_n (pc' := 16) 0 (dX22_infer 7 rfl rfl) rfl rfl rfl ?_
  obtain ⟨b9, e10, hf⟩ := hf
  refine x_getR (pc' := 19) (dX22_infer 8 rfl rfl) g305 q1366 (Or.inl rfl) rfl (hf_of 20 k1 rfl (by decide) m20_305) e10 ?_
  refine x_inv (pc' := 22) (ν := mX11_push) (av := [_, _]) (st := []) rfl rfl (dX22_infer 9 rfl rfl) (Nat.le_of_ble_eq_true rfl) wX11_push q225 (inv_V (k := 9) (dX22_infer 9 rfl rfl) q2469 q2422 q2423 wX11_push (by decide) lX11_push (by decide) s6.1) (exN (by decide)) rfl ?_
  refine C.mono hf (fun _ _ => KV.g (fun h11 hf le12 => ?_))
  have k1 := leK le12 k1 (by decide)
  have k7 := leK le12 k7 (by decide)
  replace s2 := s2.le sc2 (le12)
  replace s6 := s6.le sc6 (le12)
  refine x_aload_n (pc' := 23) 0 (dX22_infer 10 rfl rfl) rfl rfl rfl ?_
  obtain ⟨b13, e14, hf⟩ := hf
  refine x_getR (pc' := 26) (dX22_infer 11 rfl rfl) g305 q1366 (Or.inl rfl) rfl (hf_of 20 k1 rfl (by decide) m20_305) e14 ?_
  obtain ⟨k15, hf⟩ := hf
  refine x_getI (pc' := 29) (dX22_infer 12 rfl rfl) g127 q923 (Or.inl rfl) rfl (hf_of 12 k15 rfl (by decide) m12_127) ?_
  exact x_iret (dX22_infer 13 rfl rfl) rfl hf
theorem bX22_shape (G : Gh) (d : Nat) (h : AH) (Q : Outcome → AH → Prop) (a0 : Nat) (hf : Q (.returned (some (.int 0))) h) : C G mX22_shape d [.ref (a0), .ref (gW G 5)] h Q := by
  refine C.of_X (by decide +kernel) (Nat.le_of_ble_eq_true rfl) wX22_shape ?_
  show X G mX22_shape d none [] 0 [(0, .ref (a0)), (1, .ref (gW G 5))] [] h Q
  refine x_iconst (pc' := 1) (v := 0) (dX22_shape 0 rfl rfl) (by decide) rfl ?_
  exact x_iret (dX22_shape 1 rfl rfl) rfl hf
theorem bX22_fits (G : Gh) (d : Nat) (h : AH) (Q : Outcome → AH → Prop) (a0 : Nat) (p2 : Int32) (hf : Q (.returned (some (.int 1))) h) : C G mX22_fits d [.ref (a0), .ref (gW G 3), .int (p2)] h Q := by
  refine C.of_X (by decide +kernel) (Nat.le_of_ble_eq_true rfl) wX22_fits ?_
  show X G mX22_fits d none [] 0 [(0, .ref (a0)), (1, .ref (gW G 3)), (2, .int (p2))] [] h Q
  refine x_iconst (pc' := 1) (v := 1) (dX22_fits 0 rfl rfl) (by decide) rfl ?_
  exact x_zret (ty := .boolean) (dX22_fits 1 rfl rfl) rfl (by decide) hf
theorem bX22_bind (G : Gh) (d : Nat) (h : AH) (Q : Outcome → AH → Prop) (a0 : Nat) (p2 : Int32) (p3 : Int32) (s3 : So 3 (gW G) h) (hf : C G mX6_bound d [.ref (gW G 3), .int (p2), .int (p3)] h (KI Q (fun x3 h1 => Q (.returned (some (.int x3))) h1))) : C G mX22_bind (d + 1) [.ref (a0), .ref (gW G 3), .int (p2), .int (p3)] h Q := by
  refine C.of_X (by decide +kernel) (Nat.le_of_ble_eq_true rfl) wX22_bind ?_
  show X G mX22_bind (d + 1) none [] 0 [(0, .ref (a0)), (1, .ref (gW G 3)), (2, .int (p2)), (3, .int (p3))] [] h Q
  refine x_aload_n (pc' := 1) 1 (dX22_bind 0 rfl rfl) rfl rfl rfl ?_
  refine x_iload_n (pc' := 2) 2 (dX22_bind 1 rfl rfl) rfl rfl rfl ?_
  refine x_iload_n (pc' := 3) 3 (dX22_bind 2 rfl rfl) rfl rfl rfl ?_
  refine x_inv (pc' := 6) (ν := mX6_bound) (av := [_, _, _]) (st := []) rfl rfl (dX22_bind 3 rfl rfl) (Nat.le_of_ble_eq_true rfl) wX6_bound q220 (inv_V (k := 4) (dX22_bind 3 rfl rfl) q3181 q2997 q2998 wX6_bound (by decide) lX6_bound (by decide) s3.1) (exN (by decide)) rfl ?_
  refine C.mono hf (fun _ _ => KI.g (fun x3 h1 hf le2 => ?_))
  replace s3 := s3.le sc3 (le2)
  exact x_iret (dX22_bind 4 rfl rfl) rfl hf
theorem bX23_init (G : Gh) (d : Nat) (h : AH) (Q : Outcome → AH → Prop) (a0 : Nat) (p1 : Int32) (p2 : Int64) (p4 : Int32) (hf : C G mX19_init d [.ref (a0), .int (p1)] h (KV Q (fun h1 => hK h1 a0 = 22 ∧ (∀ h4, h4 = pI h1 a0 306 ((p2 : Int64).toInt32) → ((p4 = 0 ∨ p4 = 1) ∧ (∀ h5, h5 = pI h4 a0 307 p4 → (Q (.returned none) h5))))))) : C G mX23_init (d + 1) [.ref (a0), .int (p1), .long (p2), .int (p4)] h Q := by
  refine C.of_X (by decide +kernel) (Nat.le_of_ble_eq_true rfl) wX23_init ?_
  show X G mX23_init (d + 1) (some a0) [] 0 [(0, .ref (a0)), (1, .int (p1)), (2, .long (p2)), (4, .int (p4))] [] h Q
  refine x_aload_n (pc' := 1) 0 (dX23_init 0 rfl rfl) rfl rfl rfl ?_
  refine x_iload_n (pc' := 2) 1 (dX23_init 1 rfl rfl) rfl rfl rfl ?_
  refine x_inv (pc' := 5) (ν := mX19_init) (av := [_, _]) (st := []) rfl rfl (dX23_init 2 rfl rfl) (Nat.le_of_ble_eq_true rfl) wX19_init q240 (inv_I (dX23_init 2 rfl rfl) q1388 q1344 q1345 rfl (by decide) lX19_init) (fun b hb => by exact Or.inr (by rw [← hb]; rfl)) rfl ?_
  refine C.mono hf (fun _ _ => KV.g (fun h1 hf le2 => ?_))
  refine x_aload_n (pc' := 6) 0 (dX23_init 3 rfl rfl) rfl rfl rfl ?_
  refine x_lload_n (pc' := 7) 2 (dX23_init 4 rfl rfl) rfl rfl rfl ?_
  refine x_l2i (pc' := 8) (dX23_init 5 rfl rfl) rfl ?_
  obtain ⟨k3, hf⟩ := hf
  refine x_putI (pc' := 11) (dX23_init 6 rfl rfl) g306 q1389 (Or.inl rfl) (Or.inr ⟨rfl, rfl, rfl, rfl⟩) (Or.inr rfl) rfl (hf_of 21 k3 rfl (by decide) m21_306) (fun h4 e8 => ?_)
  replace hf := hf h4 e8
  replace k3 : hK h4 a0 = 22 := by rw [e8]; exact k3
  refine x_aload_n (pc' := 12) 0 (dX23_init 7 rfl rfl) rfl rfl rfl ?_
  refine x_iload (pc' := 14) 3 (dX23_init 8 rfl rfl) rfl rfl ?_
  obtain ⟨z6, hf⟩ := hf
  refine x_putZ (pc' := 17) (dX23_init 9 rfl rfl) g307 q1390 (Or.inl rfl) (Or.inr ⟨rfl, rfl, rfl, rfl⟩) (Or.inr rfl) rfl (hf_of 21 k3 rfl (by decide) m21_307) z6 (fun h5 e7 => ?_)
  replace hf := hf h5 e7
  replace k3 : hK h5 a0 = 22 := by rw [e7]; exact k3
  exact x_vret (dX23_init 10 rfl rfl) rfl hf
theorem bX23_resolveFrom (G : Gh) (d : Nat) (h : AH) (Q : Outcome → AH → Prop) (a0 : Nat) (p2 : Int32) (hf : Q (.returned none) h) : C G mX23_resolveFrom d [.ref (a0), .ref (gW G 4), .int (p2)] h Q := by
  refine C.of_X (by decide +kernel) (Nat.le_of_ble_eq_true rfl) wX23_resolveFrom ?_
  show X G mX23_resolveFrom d none [] 0 [(0, .ref (a0)), (1, .ref (gW G 4)), (2, .int (p2))] [] h Q
  exact x_vret (dX23_resolveFrom 0 rfl rfl) rfl hf
theorem bX23_infer (G : Gh) (d : Nat) (h : AH) (Q : Outcome → AH → Prop) (a0 : Nat) (s2 : So 2 (gW G) h) (s6 : So 6 (gW G) h) (hf : hK h a0 = 22 ∧ (((fI h a0 307) = 0 → (Q (.returned (some (.int (fI h (gW G 2) 42)))) h)) ∧ (¬ ((fI h a0 307) = 0) → (Q (.returned (some (.int (fI h (gW G 2) 43)))) h)))) : C G mX23_infer d [.ref (a0), .ref (gW G 6)] h Q := by
  refine C.of_X (by decide +kernel) (Nat.le_of_ble_eq_true rfl) wX23_infer ?_
  show X G mX23_infer d none [] 0 [(0, .ref (a0)), (1, .ref (gW G 6))] [] h Q
  refine x_aload_n (pc' := 1) 0 (dX23_infer 0 rfl rfl) rfl rfl rfl ?_
  obtain ⟨k1, hf⟩ := hf
  refine x_getZ (pc' := 4) (dX23_infer 1 rfl rfl) g307 q1390 (Or.inl rfl) rfl (hf_of 21 k1 rfl (by decide) m21_307) ?_
  refine x_if_eq (pc' := 7) (tgt := 17) (dX23_infer 2 rfl rfl) (by decide) rfl (fun c2 => ?_) (fun c2 => ?_)
  · replace hf := hf.1 c2
    refine x_aload_n (pc' := 18) 1 (dX23_infer 7 rfl rfl) rfl rfl rfl ?_
    refine x_getR (pc' := 21) (dX23_infer 8 rfl rfl) g108 q804 (Or.inl rfl) rfl (hf_of 9 s6.1 rfl (by decide) m9_108) (s6.2 0 _ rfl rfl).1 ?_
    refine x_getI (pc' := 24) (dX23_infer 9 rfl rfl) g42 q495 (Or.inl rfl) rfl (hf_of 2 s2.1 rfl (by decide) m2_42) ?_
    exact x_iret (dX23_infer 10 rfl rfl) rfl hf
  · replace hf := hf.2 c2
    refine x_aload_n (pc' := 8) 1 (dX23_infer 3 rfl rfl) rfl rfl rfl ?_
    refine x_getR (pc' := 11) (dX23_infer 4 rfl rfl) g108 q804 (Or.inl rfl) rfl (hf_of 9 s6.1 rfl (by decide) m9_108) (s6.2 0 _ rfl rfl).1 ?_
    refine x_getI (pc' := 14) (dX23_infer 5 rfl rfl) g43 q498 (Or.inl rfl) rfl (hf_of 2 s2.1 rfl (by decide) m2_43) ?_
    refine x_goto (tgt := 24) (dX23_infer 6 rfl rfl) (by decide) ?_
    exact x_iret (dX23_infer 10 rfl rfl) rfl hf
theorem bX23_shape (G : Gh) (d : Nat) (h : AH) (Q : Outcome → AH → Prop) (a0 : Nat) (s5 : So 5 (gW G) h) (hf : hK h a0 = 22 ∧ (((fI h a0 307) = 0 → (C G mX10_node d [.ref (gW G 5), .int (fI h a0 306), .int (0)] h (KI Q (fun x5 h3 => Q (.returned (some (.int x5))) h3)))) ∧ (¬ ((fI h a0 307) = 0) → (C G mX10_node d [.ref (gW G 5), .int (fI h a0 306), .int (2)] h (KI Q (fun x8 h6 => Q (.returned (some (.int x8))) h6)))))) : C G mX23_shape (d + 1) [.ref (a0), .ref (gW G 5)] h Q := by
  refine C.of_X (by decide +kernel) (Nat.le_of_ble_eq_true rfl) wX23_shape ?_
  show X G mX23_shape (d + 1) none [] 0 [(0, .ref (a0)), (1, .ref (gW G 5))] [] h Q
  refine x_aload_n (pc' := 1) 1 (dX23_shape 0 rfl rfl) rfl rfl rfl ?_
  refine x_aload_n (pc' := 2) 0 (dX23_shape 1 rfl rfl) rfl rfl rfl ?_
  obtain ⟨k1, hf⟩ := hf
  refine x_getI (pc' := 5) (dX23_shape 2 rfl rfl) g306 q1389 (Or.inl rfl) rfl (hf_of 21 k1 rfl (by decide) m21_306) ?_
  refine x_aload_n (pc' := 6) 0 (dX23_shape 3 rfl rfl) rfl rfl rfl ?_
  refine x_getZ (pc' := 9) (dX23_shape 4 rfl rfl) g307 q1390 (Or.inl rfl) rfl (hf_of 21 k1 rfl (by decide) m21_307) ?_
  refine x_if_eq (pc' := 12) (tgt := 16) (dX23_shape 5 rfl rfl) (by decide) rfl (fun c2 => ?_) (fun c2 => ?_)
  · replace hf := hf.1 c2
    refine x_iconst (pc' := 17) (v := 0) (dX23_shape 8 rfl rfl) (by decide) rfl ?_
    refine x_inv (pc' := 20) (ν := mX10_node) (av := [_, _, _]) (st := []) rfl rfl (dX23_shape 9 rfl rfl) (Nat.le_of_ble_eq_true rfl) wX10_node q224 (inv_V (k := 8) (dX23_shape 9 rfl rfl) q2571 q2552 q2553 wX10_node (by decide) lX10_node (by decide) s5.1) (exN (by decide)) rfl ?_
    refine C.mono hf (fun _ _ => KI.g (fun x5 h3 hf le4 => ?_))
    have k1 := leK le4 k1 (by decide)
    replace s5 := s5.le sc5 (le4)
    exact x_iret (dX23_shape 10 rfl rfl) rfl hf
  · replace hf := hf.2 c2
    refine x_iconst (pc' := 13) (v := 2) (dX23_shape 6 rfl rfl) (by decide) rfl ?_
    refine x_goto (tgt := 17) (dX23_shape 7 rfl rfl) (by decide) ?_
    refine x_inv (pc' := 20) (ν := mX10_node) (av := [_, _, _]) (st := []) rfl rfl (dX23_shape 9 rfl rfl) (Nat.le_of_ble_eq_true rfl) wX10_node q224 (inv_V (k := 8) (dX23_shape 9 rfl rfl) q2571 q2552 q2553 wX10_node (by decide) lX10_node (by decide) s5.1) (exN (by decide)) rfl ?_
    refine C.mono hf (fun _ _ => KI.g (fun x8 h6 hf le7 => ?_))
    have k1 := leK le7 k1 (by decide)
    replace s5 := s5.le sc5 (le7)
    exact x_iret (dX23_shape 10 rfl rfl) rfl hf
theorem bX23_fits (G : Gh) (d : Nat) (h : AH) (Q : Outcome → AH → Prop) (a0 : Nat) (p2 : Int32) (s3 : So 3 (gW G) h) (hf : hK h a0 = 22 ∧ (((fI h a0 307) = 0 → (C G mX6_whole d [.ref (gW G 3), .int (p2)] h (KI Q (fun x5 h3 => (x5 = (fI h3 a0 306) → (Q (.returned (some (.int 1))) h3)) ∧ (¬ (x5 = (fI h3 a0 306)) → (Q (.returned (some (.int 0))) h3)))))) ∧ (¬ ((fI h a0 307) = 0) → (C G mX6_isTrue d [.ref (gW G 3), .int (p2)] h (KI Q (fun x9 h7 => ((fI h7 a0 306) = 1 → ((x9 = 1 → (Q (.returned (some (.int 1))) h7)) ∧ (¬ x9 = 1 → (Q (.returned (some (.int 0))) h7)))) ∧ (¬ ((fI h7 a0 306) = 1) → ((x9 = 0 → (Q (.returned (some (.int 1))) h7)) ∧ (¬ x9 = 0 → (Q (.returned (some (.int 0))) h7)))))))))) : C G mX23_fits (d + 1) [.ref (a0), .ref (gW G 3), .int (p2)] h Q := by
  refine C.of_X (by decide +kernel) (Nat.le_of_ble_eq_true rfl) wX23_fits ?_
  show X G mX23_fits (d + 1) none [] 0 [(0, .ref (a0)), (1, .ref (gW G 3)), (2, .int (p2))] [] h Q
  refine x_aload_n (pc' := 1) 0 (dX23_fits 0 rfl rfl) rfl rfl rfl ?_
  obtain ⟨k1, hf⟩ := hf
  refine x_getZ (pc' := 4) (dX23_fits 1 rfl rfl) g307 q1390 (Or.inl rfl) rfl (hf_of 21 k1 rfl (by decide) m21_307) ?_
  refine x_if_eq (pc' := 7) (tgt := 36) (dX23_fits 2 rfl rfl) (by decide) rfl (fun c2 => ?_) (fun c2 => ?_)
  · replace hf := hf.1 c2
    refine x_aload_n (pc' := 37) 1 (dX23_fits 18 rfl rfl) rfl rfl rfl ?_
    refine x_iload_n (pc' := 38) 2 (dX23_fits 19 rfl rfl) rfl rfl rfl ?_
    refine x_inv (pc' := 41) (ν := mX6_whole) (av := [_, _]) (st := []) rfl rfl (dX23_fits 20 rfl rfl) (Nat.le_of_ble_eq_true rfl) wX6_whole q220 (inv_V (k := 4) (dX23_fits 20 rfl rfl) q3141 q3090 q3091 wX6_whole (by decide) lX6_whole (by decide) s3.1) (exN (by decide)) rfl ?_
    refine C.mono hf (fun _ _ => KI.g (fun x5 h3 hf le4 => ?_))
    have k1 := leK le4 k1 (by decide)
    replace s3 := s3.le sc3 (le4)
    refine x_aload_n (pc' := 42) 0 (dX23_fits 21 rfl rfl) rfl rfl rfl ?_
    refine x_getI (pc' := 45) (dX23_fits 22 rfl rfl) g306 q1389 (Or.inl rfl) rfl (hf_of 21 k1 rfl (by decide) m21_306) ?_
    refine x_icmp_ne (pc' := 48) (tgt := 52) (dX23_fits 23 rfl rfl) (by decide) rfl (fun c6 => ?_) (fun c6 => ?_)
    · replace hf := hf.2 c6
      refine x_iconst (pc' := 53) (v := 0) (dX23_fits 26 rfl rfl) (by decide) rfl ?_
      exact x_zret (ty := .boolean) (dX23_fits 27 rfl rfl) rfl (by decide) hf
    · replace hf := hf.1 (Classical.not_not.mp c6)
      replace c6 := Classical.not_not.mp c6
      refine x_iconst (pc' := 49) (v := 1) (dX23_fits 24 rfl rfl) (by decide) rfl ?_
      refine x_goto (tgt := 53) (dX23_fits 25 rfl rfl) (by decide) ?_
      exact x_zret (ty := .boolean) (dX23_fits 27 rfl rfl) rfl (by decide) hf
  · replace hf := hf.2 c2
    refine x_aload_n (pc' := 8) 1 (dX23_fits 3 rfl rfl) rfl rfl rfl ?_
    refine x_iload_n (pc' := 9) 2 (dX23_fits 4 rfl rfl) rfl rfl rfl ?_
    refine x_inv (pc' := 12) (ν := mX6_isTrue) (av := [_, _]) (st := []) rfl rfl (dX23_fits 5 rfl rfl) (Nat.le_of_ble_eq_true rfl) wX6_isTrue q220 (inv_V (k := 4) (dX23_fits 5 rfl rfl) q3140 q3084 q3085 wX6_isTrue (by decide) lX6_isTrue (by decide) s3.1) (exN (by decide)) rfl ?_
    refine C.mono hf (fun _ _ => KI.g (fun x9 h7 hf le8 => ?_))
    have k1 := leK le8 k1 (by decide)
    replace s3 := s3.le sc3 (le8)
    refine x_aload_n (pc' := 13) 0 (dX23_fits 6 rfl rfl) rfl rfl rfl ?_
    refine x_getI (pc' := 16) (dX23_fits 7 rfl rfl) g306 q1389 (Or.inl rfl) rfl (hf_of 21 k1 rfl (by decide) m21_306) ?_
    refine x_iconst (pc' := 17) (v := 1) (dX23_fits 8 rfl rfl) (by decide) rfl ?_
    refine x_icmp_ne (pc' := 20) (tgt := 24) (dX23_fits 9 rfl rfl) (by decide) rfl (fun c10 => ?_) (fun c10 => ?_)
    · replace hf := hf.2 c10
      refine x_iconst (pc' := 25) (v := 0) (dX23_fits 12 rfl rfl) (by decide) rfl ?_
      refine x_icmp_ne (pc' := 28) (tgt := 32) (dX23_fits 13 rfl rfl) (by decide) rfl (fun c11 => ?_) (fun c11 => ?_)
      · replace hf := hf.2 c11
        refine x_iconst (pc' := 33) (v := 0) (dX23_fits 16 rfl rfl) (by decide) rfl ?_
        refine x_goto (tgt := 53) (dX23_fits 17 rfl rfl) (by decide) ?_
        exact x_zret (ty := .boolean) (dX23_fits 27 rfl rfl) rfl (by decide) hf
      · replace hf := hf.1 (Classical.not_not.mp c11)
        replace c11 := Classical.not_not.mp c11
        refine x_iconst (pc' := 29) (v := 1) (dX23_fits 14 rfl rfl) (by decide) rfl ?_
        refine x_goto (tgt := 53) (dX23_fits 15 rfl rfl) (by decide) ?_
        exact x_zret (ty := .boolean) (dX23_fits 27 rfl rfl) rfl (by decide) hf
    · replace hf := hf.1 (Classical.not_not.mp c10)
      replace c10 := Classical.not_not.mp c10
      refine x_iconst (pc' := 21) (v := 1) (dX23_fits 10 rfl rfl) (by decide) rfl ?_
      refine x_goto (tgt := 25) (dX23_fits 11 rfl rfl) (by decide) ?_
      refine x_icmp_ne (pc' := 28) (tgt := 32) (dX23_fits 13 rfl rfl) (by decide) rfl (fun c12 => ?_) (fun c12 => ?_)
      · replace hf := hf.2 c12
        refine x_iconst (pc' := 33) (v := 0) (dX23_fits 16 rfl rfl) (by decide) rfl ?_
        refine x_goto (tgt := 53) (dX23_fits 17 rfl rfl) (by decide) ?_
        exact x_zret (ty := .boolean) (dX23_fits 27 rfl rfl) rfl (by decide) hf
      · replace hf := hf.1 (Classical.not_not.mp c12)
        replace c12 := Classical.not_not.mp c12
        refine x_iconst (pc' := 29) (v := 1) (dX23_fits 14 rfl rfl) (by decide) rfl ?_
        refine x_goto (tgt := 53) (dX23_fits 15 rfl rfl) (by decide) ?_
        exact x_zret (ty := .boolean) (dX23_fits 27 rfl rfl) rfl (by decide) hf
theorem bX24_init (G : Gh) (d : Nat) (h : AH) (Q : Outcome → AH → Prop) (a0 : Nat) (p1 : Int32) (p2 : Nat) (hf : C G mX19_init d [.ref (a0), .int (p1)] h (KV Q (fun h1 => hK h1 a0 = 23 ∧ (∀ h4, h4 = pR h1 a0 308 (some p2) → (Q (.returned none) h4))))) : C G mX24_init (d + 1) [.ref (a0), .int (p1), .ref (p2)] h Q := by
  refine C.of_X (by decide +kernel) (Nat.le_of_ble_eq_true rfl) wX24_init ?_
  show X G mX24_init (d + 1) (some a0) [] 0 [(0, .ref (a0)), (1, .int (p1)), (2, .ref (p2))] [] h Q
  refine x_aload_n (pc' := 1) 0 (dX24_init 0 rfl rfl) rfl rfl rfl ?_
  refine x_iload_n (pc' := 2) 1 (dX24_init 1 rfl rfl) rfl rfl rfl ?_
  refine x_inv (pc' := 5) (ν := mX19_init) (av := [_, _]) (st := []) rfl rfl (dX24_init 2 rfl rfl) (Nat.le_of_ble_eq_true rfl) wX19_init q240 (inv_I (dX24_init 2 rfl rfl) q1421 q1344 q1345 rfl (by decide) lX19_init) (fun b hb => by exact Or.inr (by rw [← hb]; rfl)) rfl ?_
  refine C.mono hf (fun _ _ => KV.g (fun h1 hf le2 => ?_))
  refine x_aload_n (pc' := 6) 0 (dX24_init 3 rfl rfl) rfl rfl rfl ?_
  refine x_aload_n (pc' := 7) 2 (dX24_init 4 rfl rfl) rfl rfl rfl ?_
  obtain ⟨k3, hf⟩ := hf
  refine x_putR (pc' := 10) (dX24_init 5 rfl rfl) g308 q1422 (Or.inl rfl) (Or.inr ⟨rfl, rfl, rfl, rfl⟩) (Or.inr rfl) rfl (hf_of 22 k3 rfl (by decide) m22_308) (fun h4 e5 => ?_)
  replace hf := hf h4 e5
  replace k3 : hK h4 a0 = 23 := by rw [e5]; exact k3
  exact x_vret (dX24_init 6 rfl rfl) rfl hf
theorem bX24_resolveFrom (G : Gh) (d : Nat) (h : AH) (Q : Outcome → AH → Prop) (a0 : Nat) (p2 : Int32) (hf : X G mX24_resolveFrom (d + 1) none [] 2 [(0, .ref (a0)), (1, .ref (gW G 4)), (2, .int (p2)), (3, .int (0))] [] h Q) : C G mX24_resolveFrom (d + 1) [.ref (a0), .ref (gW G 4), .int (p2)] h Q := by
  refine C.of_X (by decide +kernel) (Nat.le_of_ble_eq_true rfl) wX24_resolveFrom ?_
  show X G mX24_resolveFrom (d + 1) none [] 0 [(0, .ref (a0)), (1, .ref (gW G 4)), (2, .int (p2))] [] h Q
  refine x_iconst (pc' := 1) (v := 0) (dX24_resolveFrom 0 rfl rfl) (by decide) rfl ?_
  refine x_istore_n (pc' := 2) (dX24_resolveFrom 1 rfl rfl) rfl (by decide) rfl rfl ?_
  exact X.sub [1, 2, 3, 0] rfl (by simp) hf
theorem bX24_resolveFrom_2 (G : Gh) (d : Nat) (h : AH) (Q : Outcome → AH → Prop) (l0 : Nat) (l2 : Int32) (l3 : Int32) (hf : hK h l0 = 23 ∧ (∃ b2, fR h l0 308 = some b2 ∧ (hK h b2 = 1008 ∧ (((Int32.ofNat (hL h b2)) ≤ l3 → (Q (.returned none) h)) ∧ (¬ ((Int32.ofNat (hL h b2)) ≤ l3) → (∃ b6, fR h l0 308 = some b6 ∧ (hK h b6 = 1008 ∧ vp_in l3 (hL h b6) ∧ ∃ b10, aR h b6 l3.toNatClampNeg = some b10 ∧ (∃ (k : Nat) (ν : Mu), VT ⟨"LetMill$Pat", "resolveFrom", "(LLetMill$Scope;I)V"⟩ VMPat_resolveFrom k ν ∧ hK h b10 = k + 1 ∧ C G ν d [.ref (b10), .ref (gW G 4), .int (l2)] h (KV Q (fun h12 => ∀ x14 : Int32, x14 = l3 + 1 → (X G mX24_resolveFrom (d + 1) none [] 2 [(0, .ref (l0)), (1, .ref (gW G 4)), (2, .int (l2)), (3, .int (x14))] [] h12 Q))))))))))) : X G mX24_resolveFrom (d + 1) none [] 2 [(0, .ref (l0)), (1, .ref (gW G 4)), (2, .int (l2)), (3, .int (l3))] [] h Q := by
  refine x_iload_n (pc' := 3) 3 (dX24_resolveFrom 2 rfl rfl) rfl rfl rfl ?_
  refine x_aload_n (pc' := 4) 0 (dX24_resolveFrom 3 rfl rfl) rfl rfl rfl ?_
  obtain ⟨k1, hf⟩ := hf
  obtain ⟨b2, e3, hf⟩ := hf
  refine x_getR (pc' := 7) (dX24_resolveFrom 4 rfl rfl) g308 q1422 (Or.inl rfl) rfl (hf_of 22 k1 rfl (by decide) m22_308) e3 ?_
  obtain ⟨k4, hf⟩ := hf
  refine x_alen (pc' := 8) (t := 8) (ty := .object "LetMill$Pat") (dX24_resolveFrom 5 rfl rfl) rfl rfl k4 ?_
  refine x_icmp_ge (pc' := 11) (tgt := 28) (dX24_resolveFrom 6 rfl rfl) (by decide) rfl (fun c5 => ?_) (fun c5 => ?_)
  · replace hf := hf.1 c5
    exact x_vret (dX24_resolveFrom 16 rfl rfl) rfl hf
  · replace hf := hf.2 c5
    refine x_aload_n (pc' := 12) 0 (dX24_resolveFrom 7 rfl rfl) rfl rfl rfl ?_
    obtain ⟨b6, e7, hf⟩ := hf
    refine x_getR (pc' := 15) (dX24_resolveFrom 8 rfl rfl) g308 q1422 (Or.inl rfl) rfl (hf_of 22 k1 rfl (by decide) m22_308) e7 ?_
    refine x_iload_n (pc' := 16) 3 (dX24_resolveFrom 9 rfl rfl) rfl rfl rfl ?_
    obtain ⟨k8, hf⟩ := hf
    obtain ⟨i9, hf⟩ := hf
    obtain ⟨b10, e11, hf⟩ := hf
    refine x_aald (pc' := 17) (t := 8) (C := "LetMill$Pat") (dX24_resolveFrom 10 rfl rfl) rfl (by decide) rfl k8 i9 e11 ?_
    refine x_aload_n (pc' := 18) 1 (dX24_resolveFrom 11 rfl rfl) rfl rfl rfl ?_
    refine x_iload_n (pc' := 19) 2 (dX24_resolveFrom 12 rfl rfl) rfl rfl rfl ?_
    obtain ⟨k, ν, ⟨v0, v1, v2, v3, v4, v5, v6, v7⟩, k15, hf⟩ := hf
    refine x_inv (pc' := 22) (ν := ν) (st := []) rfl (sub_tr v7 rfl) (dX24_resolveFrom 13 rfl rfl) (by have := v5; simp only [List.map, List.sum_cons, List.sum_nil, Value.category]; omega) v1 v2 (inv_U (k := k) (av := [_, _]) (dX24_resolveFrom 13 rfl rfl) q2228 q2209 (by decide) v3 v4 (by decide) (show _ = some 2 by decide +kernel) v0 k15) (exN v6) rfl ?_
    refine C.mono hf (fun _ _ => KV.g (fun h12 hf le13 => ?_))
    replace le13 := Le.nx v6 le13
    have k1 := leK le13 k1 (by decide)
    have k4 := leK le13 k4 (by decide)
    have k8 := leK le13 k8 (by decide)
    replace hf := hf _ rfl
    refine x_iinc (pc' := 25) 3 (dX24_resolveFrom 14 rfl rfl) rfl (by rfl) (by decide) rfl rfl ?_
    refine x_goto (tgt := 2) (dX24_resolveFrom 15 rfl rfl) (by decide) ?_
    exact X.sub [1, 2, 3, 0] rfl (by simp) hf
theorem bX24_infer (G : Gh) (d : Nat) (h : AH) (Q : Outcome → AH → Prop) (a0 : Nat) (s2 : So 2 (gW G) h) (s6 : So 6 (gW G) h) (hf : hK h a0 = 23 ∧ (∃ b2, fR h a0 308 = some b2 ∧ (hK h b2 = 1008 ∧ (((Int32.ofNat (hL h b2)) = 0 → (C G mX3_variable d [.ref (gW G 2)] h (KI Q (fun x20 h18 => C G mX3_built_3 d [.ref (gW G 2), .int (10), .int (x20)] h18 (KI Q (fun x23 h21 => Q (.returned (some (.int x23))) h21)))))) ∧ (¬ ((Int32.ofNat (hL h b2)) = 0) → (∃ b6, fR h a0 308 = some b6 ∧ (hK h b6 = 1008 ∧ vp_in 0 (hL h b6) ∧ ∃ b10, aR h b6 (0 : Int32).toNatClampNeg = some b10 ∧ (∃ (k : Nat) (ν : Mu), VT ⟨"LetMill$Pat", "infer", "(LLetMill$Typer;)I"⟩ VMPat_infer k ν ∧ hK h b10 = k + 1 ∧ C G ν d [.ref (b10), .ref (gW G 6)] h (KI Q (fun x14 h12 => X G mX24_infer (d + 1) none [] 38 [(0, .ref (a0)), (1, .ref (gW G 6)), (2, .int (x14)), (3, .int (1))] [] h12 Q)))))))))) : C G mX24_infer (d + 1) [.ref (a0), .ref (gW G 6)] h Q := by
  refine C.of_X (by decide +kernel) (Nat.le_of_ble_eq_true rfl) wX24_infer ?_
  show X G mX24_infer (d + 1) none [] 0 [(0, .ref (a0)), (1, .ref (gW G 6))] [] h Q
  refine x_aload_n (pc' := 1) 0 (dX24_infer 0 rfl rfl) rfl rfl rfl ?_
  obtain ⟨k1, hf⟩ := hf
  obtain ⟨b2, e3, hf⟩ := hf
  refine x_getR (pc' := 4) (dX24_infer 1 rfl rfl) g308 q1422 (Or.inl rfl) rfl (hf_of 22 k1 rfl (by decide) m22_308) e3 ?_
  obtain ⟨k4, hf⟩ := hf
  refine x_alen (pc' := 5) (t := 8) (ty := .object "LetMill$Pat") (dX24_infer 2 rfl rfl) rfl rfl k4 ?_
  refine x_if_ne (pc' := 8) (tgt := 25) (dX24_infer 3 rfl rfl) (by decide) rfl (fun c5 => ?_) (fun c5 => ?_)
  · replace hf := hf.2 c5
    refine x_aload_n (pc' := 26) 0 (dX24_infer 12 rfl rfl) rfl rfl rfl ?_
    obtain ⟨b6, e7, hf⟩ := hf
    refine x_getR (pc' := 29) (dX24_infer 13 rfl rfl) g308 q1422 (Or.inl rfl) rfl (hf_of 22 k1 rfl (by decide) m22_308) e7 ?_
    refine x_iconst (pc' := 30) (v := 0) (dX24_infer 14 rfl rfl) (by decide) rfl ?_
    obtain ⟨k8, hf⟩ := hf
    obtain ⟨i9, hf⟩ := hf
    obtain ⟨b10, e11, hf⟩ := hf
    refine x_aald (pc' := 31) (t := 8) (C := "LetMill$Pat") (dX24_infer 15 rfl rfl) rfl (by decide) rfl k8 i9 e11 ?_
    refine x_aload_n (pc' := 32) 1 (dX24_infer 16 rfl rfl) rfl rfl rfl ?_
    obtain ⟨k, ν, ⟨v0, v1, v2, v3, v4, v5, v6, v7⟩, k15, hf⟩ := hf
    refine x_inv (pc' := 35) (ν := ν) (st := []) rfl (sub_tr v7 rfl) (dX24_infer 17 rfl rfl) (by have := v5; simp only [List.map, List.sum_cons, List.sum_nil, Value.category]; omega) v1 v2 (inv_U (k := k) (av := [_]) (dX24_infer 17 rfl rfl) q2465 q2436 (by decide) v3 v4 (by decide) (show _ = some 1 by decide +kernel) v0 k15) (exN v6) rfl ?_
    refine C.mono hf (fun _ _ => KI.g (fun x14 h12 hf le13 => ?_))
    replace le13 := Le.nx v6 le13
    have k1 := leK le13 k1 (by decide)
    have k4 := leK le13 k4 (by decide)
    have k8 := leK le13 k8 (by decide)
    replace s2 := s2.le sc2 (le13)
    replace s6 := s6.le sc6 (le13)
    refine x_istore_n (pc' := 36) (dX24_infer 18 rfl rfl) rfl (by decide) rfl rfl ?_
    refine x_iconst (pc' := 37) (v := 1) (dX24_infer 19 rfl rfl) (by decide) rfl ?_
    refine x_istore_n (pc' := 38) (dX24_infer 20 rfl rfl) rfl (by decide) rfl rfl ?_
    exact X.sub [2, 3, 1, 0] rfl (by simp) hf
  · replace hf := hf.1 (Classical.not_not.mp c5)
    replace c5 := Classical.not_not.mp c5
    refine x_aload_n (pc' := 9) 1 (dX24_infer 4 rfl rfl) rfl rfl rfl ?_
    refine x_getR (pc' := 12) (dX24_infer 5 rfl rfl) g108 q806 (Or.inl rfl) rfl (hf_of 9 s6.1 rfl (by decide) m9_108) (s6.2 0 _ rfl rfl).1 ?_
    refine x_bipush (pc' := 14) (v := 10) (dX24_infer 6 rfl rfl) (by decide) rfl ?_
    refine x_aload_n (pc' := 15) 1 (dX24_infer 7 rfl rfl) rfl rfl rfl ?_
    refine x_getR (pc' := 18) (dX24_infer 8 rfl rfl) g108 q806 (Or.inl rfl) rfl (hf_of 9 s6.1 rfl (by decide) m9_108) (s6.2 0 _ rfl rfl).1 ?_
    refine x_inv (pc' := 21) (ν := mX3_variable) (av := [_]) (st := [_, _]) rfl rfl (dX24_infer 9 rfl rfl) (Nat.le_of_ble_eq_true rfl) wX3_variable q213 (inv_V (k := 2) (dX24_infer 9 rfl rfl) q2463 q2341 q2342 wX3_variable (by decide) lX3_variable (by decide) s2.1) (exN (by decide)) rfl ?_
    refine C.mono hf (fun _ _ => KI.g (fun x20 h18 hf le19 => ?_))
    have k1 := leK le19 k1 (by decide)
    have k4 := leK le19 k4 (by decide)
    replace s2 := s2.le sc2 (le19)
    replace s6 := s6.le sc6 (le19)
    refine x_inv (pc' := 24) (ν := mX3_built_3) (av := [_, _, _]) (st := []) rfl rfl (dX24_infer 10 rfl rfl) (Nat.le_of_ble_eq_true rfl) wX3_built_3 q213 (inv_V (k := 2) (dX24_infer 10 rfl rfl) q2464 q2378 q2379 wX3_built_3 (by decide) lX3_built_3 (by decide) s2.1) (exN (by decide)) rfl ?_
    refine C.mono hf (fun _ _ => KI.g (fun x23 h21 hf le22 => ?_))
    have k1 := leK le22 k1 (by decide)
    have k4 := leK le22 k4 (by decide)
    replace s2 := s2.le sc2 (le22)
    replace s6 := s6.le sc6 (le22)
    exact x_iret (dX24_infer 11 rfl rfl) rfl hf
theorem bX24_infer_38 (G : Gh) (d : Nat) (h : AH) (Q : Outcome → AH → Prop) (l0 : Nat) (l2 : Int32) (l3 : Int32) (s2 : So 2 (gW G) h) (s6 : So 6 (gW G) h) (hf : hK h l0 = 23 ∧ (∃ b2, fR h l0 308 = some b2 ∧ (hK h b2 = 1008 ∧ (((Int32.ofNat (hL h b2)) ≤ l3 → (C G mX3_built_3 d [.ref (gW G 2), .int (10), .int (l2)] h (KI Q (fun x8 h6 => Q (.returned (some (.int x8))) h6)))) ∧ (¬ ((Int32.ofNat (hL h b2)) ≤ l3) → (∃ b9, fR h l0 308 = some b9 ∧ (hK h b9 = 1008 ∧ vp_in l3 (hL h b9) ∧ ∃ b13, aR h b9 l3.toNatClampNeg = some b13 ∧ (∃ (k : Nat) (ν : Mu), VT ⟨"LetMill$Pat", "infer", "(LLetMill$Typer;)I"⟩ VMPat_infer k ν ∧ hK h b13 = k + 1 ∧ C G ν d [.ref (b13), .ref (gW G 6)] h (KI Q (fun x17 h15 => ∃ b18, fR h15 l0 308 = some b18 ∧ (hK h15 b18 = 1008 ∧ vp_in l3 (hL h15 b18) ∧ ∃ b22, aR h15 b18 l3.toNatClampNeg = some b22 ∧ (HF h15 b22 302 0 ∧ (C G mX11_same d [.ref (gW G 6), .int (x17), .int (l2), .int (fI h15 b22 302)] h15 (KV Q (fun h25 => ∀ x27 : Int32, x27 = l3 + 1 → (X G mX24_infer (d + 1) none [] 38 [(0, .ref (l0)), (1, .ref (gW G 6)), (2, .int (l2)), (3, .int (x27))] [] h25 Q)))))))))))))))) : X G mX24_infer (d + 1) none [] 38 [(0, .ref (l0)), (1, .ref (gW G 6)), (2, .int (l2)), (3, .int (l3))] [] h Q := by
  refine x_iload_n (pc' := 39) 3 (dX24_infer 21 rfl rfl) rfl rfl rfl ?_
  refine x_aload_n (pc' := 40) 0 (dX24_infer 22 rfl rfl) rfl rfl rfl ?_
  obtain ⟨k1, hf⟩ := hf
  obtain ⟨b2, e3, hf⟩ := hf
  refine x_getR (pc' := 43) (dX24_infer 23 rfl rfl) g308 q1422 (Or.inl rfl) rfl (hf_of 22 k1 rfl (by decide) m22_308) e3 ?_
  obtain ⟨k4, hf⟩ := hf
  refine x_alen (pc' := 44) (t := 8) (ty := .object "LetMill$Pat") (dX24_infer 24 rfl rfl) rfl rfl k4 ?_
  refine x_icmp_ge (pc' := 47) (tgt := 81) (dX24_infer 25 rfl rfl) (by decide) rfl (fun c5 => ?_) (fun c5 => ?_)
  · replace hf := hf.1 c5
    refine x_aload_n (pc' := 82) 1 (dX24_infer 44 rfl rfl) rfl rfl rfl ?_
    refine x_getR (pc' := 85) (dX24_infer 45 rfl rfl) g108 q806 (Or.inl rfl) rfl (hf_of 9 s6.1 rfl (by decide) m9_108) (s6.2 0 _ rfl rfl).1 ?_
    refine x_bipush (pc' := 87) (v := 10) (dX24_infer 46 rfl rfl) (by decide) rfl ?_
    refine x_iload_n (pc' := 88) 2 (dX24_infer 47 rfl rfl) rfl rfl rfl ?_
    refine x_inv (pc' := 91) (ν := mX3_built_3) (av := [_, _, _]) (st := []) rfl rfl (dX24_infer 48 rfl rfl) (Nat.le_of_ble_eq_true rfl) wX3_built_3 q213 (inv_V (k := 2) (dX24_infer 48 rfl rfl) q2464 q2378 q2379 wX3_built_3 (by decide) lX3_built_3 (by decide) s2.1) (exN (by decide)) rfl ?_
    refine C.mono hf (fun _ _ => KI.g (fun x8 h6 hf le7 => ?_))
    have k1 := leK le7 k1 (by decide)
    have k4 := leK le7 k4 (by decide)
    replace s2 := s2.le sc2 (le7)
    replace s6 := s6.le sc6 (le7)
    exact x_iret (dX24_infer 49 rfl rfl) rfl hf
  · replace hf := hf.2 c5
    refine x_aload_n (pc' := 48) 0 (dX24_infer 26 rfl rfl) rfl rfl rfl ?_
    obtain ⟨b9, e10, hf⟩ := hf
    refine x_getR (pc' := 51) (dX24_infer 27 rfl rfl) g308 q1422 (Or.inl rfl) rfl (hf_of 22 k1 rfl (by decide) m22_308) e10 ?_
    refine x_iload_n (pc' := 52) 3 (dX24_infer 28 rfl rfl) rfl rfl rfl ?_
    obtain ⟨k11, hf⟩ := hf
    obtain ⟨i12, hf⟩ := hf
    obtain ⟨b13, e14, hf⟩ := hf
    refine x_aald (pc' := 53) (t := 8) (C := "LetMill$Pat") (dX24_infer 29 rfl rfl) rfl (by decide) rfl k11 i12 e14 ?_
    refine x_aload_n (pc' := 54) 1 (dX24_infer 30 rfl rfl) rfl rfl rfl ?_
    obtain ⟨k, ν, ⟨v0, v1, v2, v3, v4, v5, v6, v7⟩, k28, hf⟩ := hf
    refine x_inv (pc' := 57) (ν := ν) (st := []) rfl (sub_tr v7 rfl) (dX24_infer 31 rfl rfl) (by have := v5; simp only [List.map, List.sum_cons, List.sum_nil, Value.category]; omega) v1 v2 (inv_U (k := k) (av := [_]) (dX24_infer 31 rfl rfl) q2465 q2436 (by decide) v3 v4 (by decide) (show _ = some 1 by decide +kernel) v0 k28) (exN v6) rfl ?_
    refine C.mono hf (fun _ _ => KI.g (fun x17 h15 hf le16 => ?_))
    replace le16 := Le.nx v6 le16
    have k1 := leK le16 k1 (by decide)
    have k4 := leK le16 k4 (by decide)
    have k11 := leK le16 k11 (by decide)
    replace s2 := s2.le sc2 (le16)
    replace s6 := s6.le sc6 (le16)
    refine x_istore (pc' := 59) (dX24_infer 32 rfl rfl) (by decide) rfl rfl ?_
    refine x_aload_n (pc' := 60) 2 (dX24_infer 33 rfl rfl) rfl rfl rfl ?_
    refine x_iload (pc' := 62) 0 (dX24_infer 34 rfl rfl) rfl rfl ?_
    refine x_iload_n (pc' := 63) 3 (dX24_infer 35 rfl rfl) rfl rfl rfl ?_
    refine x_aload_n (pc' := 64) 1 (dX24_infer 36 rfl rfl) rfl rfl rfl ?_
    obtain ⟨b18, e19, hf⟩ := hf
    refine x_getR (pc' := 67) (dX24_infer 37 rfl rfl) g308 q1422 (Or.inl rfl) rfl (hf_of 22 k1 rfl (by decide) m22_308) e19 ?_
    refine x_iload_n (pc' := 68) 4 (dX24_infer 38 rfl rfl) rfl rfl rfl ?_
    obtain ⟨k20, hf⟩ := hf
    obtain ⟨i21, hf⟩ := hf
    obtain ⟨b22, e23, hf⟩ := hf
    refine x_aald (pc' := 69) (t := 8) (C := "LetMill$Pat") (dX24_infer 39 rfl rfl) rfl (by decide) rfl k20 i21 e23 ?_
    obtain ⟨u24, hf⟩ := hf
    refine x_getI (pc' := 72) (dX24_infer 40 rfl rfl) g302 q1354 (Or.inl rfl) rfl u24 ?_
    refine x_inv (pc' := 75) (ν := mX11_same) (av := [_, _, _, _]) (st := []) rfl rfl (dX24_infer 41 rfl rfl) (Nat.le_of_ble_eq_true rfl) wX11_same q225 (inv_V (k := 9) (dX24_infer 41 rfl rfl) q2500 q2483 q2484 wX11_same (by decide) lX11_same (by decide) s6.1) (exN (by decide)) rfl ?_
    refine C.mono hf (fun _ _ => KV.g (fun h25 hf le26 => ?_))
    have k1 := leK le26 k1 (by decide)
    have k4 := leK le26 k4 (by decide)
    have k11 := leK le26 k11 (by decide)
    have k20 := leK le26 k20 (by decide)
    replace s2 := s2.le sc2 (le26)
    replace s6 := s6.le sc6 (le26)
    replace hf := hf _ rfl
    refine x_iinc (pc' := 78) 4 (dX24_infer 42 rfl rfl) rfl (by rfl) (by decide) rfl rfl ?_
    refine x_goto (tgt := 38) (dX24_infer 43 rfl rfl) (by decide) ?_
    exact X.sub [2, 3, 4, 0] rfl (by simp) hf
theorem bX24_shape (G : Gh) (d : Nat) (h : AH) (Q : Outcome → AH → Prop) (a0 : Nat) (s5 : So 5 (gW G) h) (hf : C G mX10_node d [.ref (gW G 5), .int (0), .int (2)] h (KI Q (fun x3 h1 => hK h1 a0 = 23 ∧ (∃ b5, fR h1 a0 308 = some b5 ∧ (hK h1 b5 = 1008 ∧ (∀ x8 : Int32, x8 = (Int32.ofNat (hL h1 b5)) - 1 → (X G mX24_shape (d + 1) none [] 15 [(0, .ref (a0)), (1, .ref (gW G 5)), (2, .int (x3)), (3, .int (x8))] [] h1 Q))))))) : C G mX24_shape (d + 1) [.ref (a0), .ref (gW G 5)] h Q := by
  refine C.of_X (by decide +kernel) (Nat.le_of_ble_eq_true rfl) wX24_shape ?_
  show X G mX24_shape (d + 1) none [] 0 [(0, .ref (a0)), (1, .ref (gW G 5))] [] h Q
  refine x_aload_n (pc' := 1) 1 (dX24_shape 0 rfl rfl) rfl rfl rfl ?_
  refine x_iconst (pc' := 2) (v := 0) (dX24_shape 1 rfl rfl) (by decide) rfl ?_
  refine x_iconst (pc' := 3) (v := 2) (dX24_shape 2 rfl rfl) (by decide) rfl ?_
  refine x_inv (pc' := 6) (ν := mX10_node) (av := [_, _, _]) (st := []) rfl rfl (dX24_shape 3 rfl rfl) (Nat.le_of_ble_eq_true rfl) wX10_node q224 (inv_V (k := 8) (dX24_shape 3 rfl rfl) q2565 q2552 q2553 wX10_node (by decide) lX10_node (by decide) s5.1) (exN (by decide)) rfl ?_
  refine C.mono hf (fun _ _ => KI.g (fun x3 h1 hf le2 => ?_))
  replace s5 := s5.le sc5 (le2)
  refine x_istore_n (pc' := 7) (dX24_shape 4 rfl rfl) rfl (by decide) rfl rfl ?_
  refine x_aload_n (pc' := 8) 1 (dX24_shape 5 rfl rfl) rfl rfl rfl ?_
  obtain ⟨k4, hf⟩ := hf
  obtain ⟨b5, e6, hf⟩ := hf
  refine x_getR (pc' := 11) (dX24_shape 6 rfl rfl) g308 q1422 (Or.inl rfl) rfl (hf_of 22 k4 rfl (by decide) m22_308) e6 ?_
  obtain ⟨k7, hf⟩ := hf
  refine x_alen (pc' := 12) (t := 8) (ty := .object "LetMill$Pat") (dX24_shape 7 rfl rfl) rfl rfl k7 ?_
  refine x_iconst (pc' := 13) (v := 1) (dX24_shape 8 rfl rfl) (by decide) rfl ?_
  refine x_isub (pc' := 14) (dX24_shape 9 rfl rfl) rfl ?_
  replace hf := hf _ rfl
  refine x_istore_n (pc' := 15) (dX24_shape 10 rfl rfl) rfl (by decide) rfl rfl ?_
  exact X.sub [2, 3, 1, 0] rfl (by simp) hf
theorem bX24_shape_15 (G : Gh) (d : Nat) (h : AH) (Q : Outcome → AH → Prop) (l0 : Nat) (l2 : Int32) (l3 : Int32) (s5 : So 5 (gW G) h) (hf : (l3 < 0 → (Q (.returned (some (.int l2))) h)) ∧ (¬ (l3 < 0) → (hK h l0 = 23 ∧ (∃ b3, fR h l0 308 = some b3 ∧ (hK h b3 = 1008 ∧ vp_in l3 (hL h b3) ∧ ∃ b7, aR h b3 l3.toNatClampNeg = some b7 ∧ (∃ (k : Nat) (ν : Mu), VT ⟨"LetMill$Pat", "shape", "(LLetMill$Matches;)I"⟩ VMPat_shape k ν ∧ hK h b7 = k + 1 ∧ C G ν d [.ref (b7), .ref (gW G 5)] h (KI Q (fun x11 h9 => C G mX10_pair d [.ref (gW G 5), .int (x11), .int (l2)] h9 (KI Q (fun x14 h12 => ∀ x15 : Int32, x15 = l3 + (-1) → (X G mX24_shape (d + 1) none [] 15 [(0, .ref (l0)), (1, .ref (gW G 5)), (2, .int (x14)), (3, .int (x15))] [] h12 Q))))))))))) : X G mX24_shape (d + 1) none [] 15 [(0, .ref (l0)), (1, .ref (gW G 5)), (2, .int (l2)), (3, .int (l3))] [] h Q := by
  refine x_iload_n (pc' := 16) 3 (dX24_shape 11 rfl rfl) rfl rfl rfl ?_
  refine x_if_lt (pc' := 19) (tgt := 41) (dX24_shape 12 rfl rfl) (by decide) rfl (fun c1 => ?_) (fun c1 => ?_)
  · replace hf := hf.1 c1
    refine x_iload_n (pc' := 42) 2 (dX24_shape 25 rfl rfl) rfl rfl rfl ?_
    exact x_iret (dX24_shape 26 rfl rfl) rfl hf
  · replace hf := hf.2 c1
    refine x_aload_n (pc' := 20) 1 (dX24_shape 13 rfl rfl) rfl rfl rfl ?_
    refine x_aload_n (pc' := 21) 0 (dX24_shape 14 rfl rfl) rfl rfl rfl ?_
    obtain ⟨k2, hf⟩ := hf
    obtain ⟨b3, e4, hf⟩ := hf
    refine x_getR (pc' := 24) (dX24_shape 15 rfl rfl) g308 q1422 (Or.inl rfl) rfl (hf_of 22 k2 rfl (by decide) m22_308) e4 ?_
    refine x_iload_n (pc' := 25) 3 (dX24_shape 16 rfl rfl) rfl rfl rfl ?_
    obtain ⟨k5, hf⟩ := hf
    obtain ⟨i6, hf⟩ := hf
    obtain ⟨b7, e8, hf⟩ := hf
    refine x_aald (pc' := 26) (t := 8) (C := "LetMill$Pat") (dX24_shape 17 rfl rfl) rfl (by decide) rfl k5 i6 e8 ?_
    refine x_aload_n (pc' := 27) 1 (dX24_shape 18 rfl rfl) rfl rfl rfl ?_
    obtain ⟨k, ν, ⟨v0, v1, v2, v3, v4, v5, v6, v7⟩, k16, hf⟩ := hf
    refine x_inv (pc' := 30) (ν := ν) (st := [_]) rfl (sub_tr v7 rfl) (dX24_shape 19 rfl rfl) (by have := v5; simp only [List.map, List.sum_cons, List.sum_nil, Value.category]; omega) v1 v2 (inv_U (k := k) (av := [_]) (dX24_shape 19 rfl rfl) q2566 q2544 (by decide) v3 v4 (by decide) (show _ = some 1 by decide +kernel) v0 k16) (exN v6) rfl ?_
    refine C.mono hf (fun _ _ => KI.g (fun x11 h9 hf le10 => ?_))
    replace le10 := Le.nx v6 le10
    have k2 := leK le10 k2 (by decide)
    have k5 := leK le10 k5 (by decide)
    replace s5 := s5.le sc5 (le10)
    refine x_iload_n (pc' := 31) 2 (dX24_shape 20 rfl rfl) rfl rfl rfl ?_
    refine x_inv (pc' := 34) (ν := mX10_pair) (av := [_, _, _]) (st := []) rfl rfl (dX24_shape 21 rfl rfl) (Nat.le_of_ble_eq_true rfl) wX10_pair q224 (inv_V (k := 8) (dX24_shape 21 rfl rfl) q2588 q2585 q2586 wX10_pair (by decide) lX10_pair (by decide) s5.1) (exN (by decide)) rfl ?_
    refine C.mono hf (fun _ _ => KI.g (fun x14 h12 hf le13 => ?_))
    have k2 := leK le13 k2 (by decide)
    have k5 := leK le13 k5 (by decide)
    replace s5 := s5.le sc5 (le13)
    refine x_istore_n (pc' := 35) (dX24_shape 22 rfl rfl) rfl (by decide) rfl rfl ?_
    replace hf := hf _ rfl
    refine x_iinc (pc' := 38) 3 (dX24_shape 23 rfl rfl) rfl (by rfl) (by decide) rfl rfl ?_
    refine x_goto (tgt := 15) (dX24_shape 24 rfl rfl) (by decide) ?_
    exact X.sub [2, 3, 1, 0] rfl (by simp) hf
theorem bX24_fits (G : Gh) (d : Nat) (h : AH) (Q : Outcome → AH → Prop) (a0 : Nat) (p2 : Int32) (hf : X G mX24_fits (d + 1) none [] 5 [(0, .ref (a0)), (1, .ref (gW G 3)), (3, .int (p2)), (4, .int (0))] [] h Q) : C G mX24_fits (d + 1) [.ref (a0), .ref (gW G 3), .int (p2)] h Q := by
  refine C.of_X (by decide +kernel) (Nat.le_of_ble_eq_true rfl) wX24_fits ?_
  show X G mX24_fits (d + 1) none [] 0 [(0, .ref (a0)), (1, .ref (gW G 3)), (2, .int (p2))] [] h Q
  refine x_iload_n (pc' := 1) 2 (dX24_fits 0 rfl rfl) rfl rfl rfl ?_
  refine x_istore_n (pc' := 2) (dX24_fits 1 rfl rfl) rfl (by decide) rfl rfl ?_
  refine x_iconst (pc' := 3) (v := 0) (dX24_fits 2 rfl rfl) (by decide) rfl ?_
  refine x_istore (pc' := 5) (dX24_fits 3 rfl rfl) (by decide) rfl rfl ?_
  exact X.sub [2, 3, 1, 0] rfl (by simp) hf
theorem bX24_fits_5 (G : Gh) (d : Nat) (h : AH) (Q : Outcome → AH → Prop) (l0 : Nat) (l3 : Int32) (l4 : Int32) (s3 : So 3 (gW G) h) (hf : hK h l0 = 23 ∧ (∃ b2, fR h l0 308 = some b2 ∧ (hK h b2 = 1008 ∧ (((Int32.ofNat (hL h b2)) ≤ l4 → (C G mX6_isPair d [.ref (gW G 3), .int (l3)] h (KI Q (fun x8 h6 => (x8 = 0 → (Q (.returned (some (.int 1))) h6)) ∧ (¬ x8 = 0 → (Q (.returned (some (.int 0))) h6)))))) ∧ (¬ ((Int32.ofNat (hL h b2)) ≤ l4) → (C G mX6_isPair d [.ref (gW G 3), .int (l3)] h (KI Q (fun x12 h10 => (x12 = 0 → (Q (.returned (some (.int 0))) h10)) ∧ (¬ x12 = 0 → (∃ b14, fR h10 l0 308 = some b14 ∧ (hK h10 b14 = 1008 ∧ vp_in l4 (hL h10 b14) ∧ ∃ b18, aR h10 b14 l4.toNatClampNeg = some b18 ∧ (C G mX6_head d [.ref (gW G 3), .int (l3)] h10 (KI Q (fun x22 h20 => ∃ (k : Nat) (ν : Mu), VT ⟨"LetMill$Pat", "fits", "(LLetMill$Machine;I)Z"⟩ VMPat_fits k ν ∧ hK h20 b18 = k + 1 ∧ C G ν d [.ref (b18), .ref (gW G 3), .int (x22)] h20 (KI Q (fun x25 h23 => (x25 = 0 → (Q (.returned (some (.int 0))) h23)) ∧ (¬ x25 = 0 → (C G mX6_tail d [.ref (gW G 3), .int (l3)] h23 (KI Q (fun x29 h27 => ∀ x30 : Int32, x30 = l4 + 1 → (X G mX24_fits (d + 1) none [] 5 [(0, .ref (l0)), (1, .ref (gW G 3)), (3, .int (x29)), (4, .int (x30))] [] h27 Q))))))))))))))))))))) : X G mX24_fits (d + 1) none [] 5 [(0, .ref (l0)), (1, .ref (gW G 3)), (3, .int (l3)), (4, .int (l4))] [] h Q := by
  refine x_iload (pc' := 7) 3 (dX24_fits 4 rfl rfl) rfl rfl ?_
  refine x_aload_n (pc' := 8) 0 (dX24_fits 5 rfl rfl) rfl rfl rfl ?_
  obtain ⟨k1, hf⟩ := hf
  obtain ⟨b2, e3, hf⟩ := hf
  refine x_getR (pc' := 11) (dX24_fits 6 rfl rfl) g308 q1422 (Or.inl rfl) rfl (hf_of 22 k1 rfl (by decide) m22_308) e3 ?_
  obtain ⟨k4, hf⟩ := hf
  refine x_alen (pc' := 12) (t := 8) (ty := .object "LetMill$Pat") (dX24_fits 7 rfl rfl) rfl rfl k4 ?_
  refine x_icmp_ge (pc' := 15) (tgt := 56) (dX24_fits 8 rfl rfl) (by decide) rfl (fun c5 => ?_) (fun c5 => ?_)
  · replace hf := hf.1 c5
    refine x_aload_n (pc' := 57) 1 (dX24_fits 31 rfl rfl) rfl rfl rfl ?_
    refine x_iload_n (pc' := 58) 2 (dX24_fits 32 rfl rfl) rfl rfl rfl ?_
    refine x_inv (pc' := 61) (ν := mX6_isPair) (av := [_, _]) (st := []) rfl rfl (dX24_fits 33 rfl rfl) (Nat.le_of_ble_eq_true rfl) wX6_isPair q220 (inv_V (k := 4) (dX24_fits 33 rfl rfl) q3127 q3128 q3129 wX6_isPair (by decide) lX6_isPair (by decide) s3.1) (exN (by decide)) rfl ?_
    refine C.mono hf (fun _ _ => KI.g (fun x8 h6 hf le7 => ?_))
    have k1 := leK le7 k1 (by decide)
    have k4 := leK le7 k4 (by decide)
    replace s3 := s3.le sc3 (le7)
    refine x_if_ne (pc' := 64) (tgt := 68) (dX24_fits 34 rfl rfl) (by decide) rfl (fun c9 => ?_) (fun c9 => ?_)
    · replace hf := hf.2 c9
      refine x_iconst (pc' := 69) (v := 0) (dX24_fits 37 rfl rfl) (by decide) rfl ?_
      exact x_zret (ty := .boolean) (dX24_fits 38 rfl rfl) rfl (by decide) hf
    · replace hf := hf.1 (Classical.not_not.mp c9)
      replace c9 := Classical.not_not.mp c9
      refine x_iconst (pc' := 65) (v := 1) (dX24_fits 35 rfl rfl) (by decide) rfl ?_
      refine x_goto (tgt := 69) (dX24_fits 36 rfl rfl) (by decide) ?_
      exact x_zret (ty := .boolean) (dX24_fits 38 rfl rfl) rfl (by decide) hf
  · replace hf := hf.2 c5
    refine x_aload_n (pc' := 16) 1 (dX24_fits 9 rfl rfl) rfl rfl rfl ?_
    refine x_iload_n (pc' := 17) 2 (dX24_fits 10 rfl rfl) rfl rfl rfl ?_
    refine x_inv (pc' := 20) (ν := mX6_isPair) (av := [_, _]) (st := []) rfl rfl (dX24_fits 11 rfl rfl) (Nat.le_of_ble_eq_true rfl) wX6_isPair q220 (inv_V (k := 4) (dX24_fits 11 rfl rfl) q3127 q3128 q3129 wX6_isPair (by decide) lX6_isPair (by decide) s3.1) (exN (by decide)) rfl ?_
    refine C.mono hf (fun _ _ => KI.g (fun x12 h10 hf le11 => ?_))
    have k1 := leK le11 k1 (by decide)
    have k4 := leK le11 k4 (by decide)
    replace s3 := s3.le sc3 (le11)
    refine x_if_eq (pc' := 23) (tgt := 42) (dX24_fits 12 rfl rfl) (by decide) rfl (fun c13 => ?_) (fun c13 => ?_)
    · replace hf := hf.1 c13
      refine x_iconst (pc' := 43) (v := 0) (dX24_fits 23 rfl rfl) (by decide) rfl ?_
      exact x_zret (ty := .boolean) (dX24_fits 24 rfl rfl) rfl (by decide) hf
    · replace hf := hf.2 c13
      refine x_aload_n (pc' := 24) 0 (dX24_fits 13 rfl rfl) rfl rfl rfl ?_
      obtain ⟨b14, e15, hf⟩ := hf
      refine x_getR (pc' := 27) (dX24_fits 14 rfl rfl) g308 q1422 (Or.inl rfl) rfl (hf_of 22 k1 rfl (by decide) m22_308) e15 ?_
      refine x_iload (pc' := 29) 3 (dX24_fits 15 rfl rfl) rfl rfl ?_
      obtain ⟨k16, hf⟩ := hf
      obtain ⟨i17, hf⟩ := hf
      obtain ⟨b18, e19, hf⟩ := hf
      refine x_aald (pc' := 30) (t := 8) (C := "LetMill$Pat") (dX24_fits 16 rfl rfl) rfl (by decide) rfl k16 i17 e19 ?_
      refine x_aload_n (pc' := 31) 1 (dX24_fits 17 rfl rfl) rfl rfl rfl ?_
      refine x_aload_n (pc' := 32) 1 (dX24_fits 18 rfl rfl) rfl rfl rfl ?_
      refine x_iload_n (pc' := 33) 2 (dX24_fits 19 rfl rfl) rfl rfl rfl ?_
      refine x_inv (pc' := 36) (ν := mX6_head) (av := [_, _]) (st := [_, _]) rfl rfl (dX24_fits 20 rfl rfl) (Nat.le_of_ble_eq_true rfl) wX6_head q220 (inv_V (k := 4) (dX24_fits 20 rfl rfl) q3131 q3132 q3133 wX6_head (by decide) lX6_head (by decide) s3.1) (exN (by decide)) rfl ?_
      refine C.mono hf (fun _ _ => KI.g (fun x22 h20 hf le21 => ?_))
      have k1 := leK le21 k1 (by decide)
      have k4 := leK le21 k4 (by decide)
      have k16 := leK le21 k16 (by decide)
      replace s3 := s3.le sc3 (le21)
      obtain ⟨k, ν, ⟨v0, v1, v2, v3, v4, v5, v6, v7⟩, k31, hf⟩ := hf
      refine x_inv (pc' := 39) (ν := ν) (st := []) rfl (sub_tr v7 rfl) (dX24_fits 21 rfl rfl) (by have := v5; simp only [List.map, List.sum_cons, List.sum_nil, Value.category]; omega) v1 v2 (inv_U (k := k) (av := [_, _]) (dX24_fits 21 rfl rfl) q3135 q3105 (by decide) v3 v4 (by decide) (show _ = some 2 by decide +kernel) v0 k31) (exN v6) rfl ?_
      refine C.mono hf (fun _ _ => KI.g (fun x25 h23 hf le24 => ?_))
      replace le24 := Le.nx v6 le24
      have k1 := leK le24 k1 (by decide)
      have k4 := leK le24 k4 (by decide)
      have k16 := leK le24 k16 (by decide)
      replace s3 := s3.le sc3 (le24)
      refine x_if_ne (pc' := 42) (tgt := 44) (dX24_fits 22 rfl rfl) (by decide) rfl (fun c26 => ?_) (fun c26 => ?_)
      · replace hf := hf.2 c26
        refine x_aload_n (pc' := 45) 1 (dX24_fits 25 rfl rfl) rfl rfl rfl ?_
        refine x_iload_n (pc' := 46) 2 (dX24_fits 26 rfl rfl) rfl rfl rfl ?_
        refine x_inv (pc' := 49) (ν := mX6_tail) (av := [_, _]) (st := []) rfl rfl (dX24_fits 27 rfl rfl) (Nat.le_of_ble_eq_true rfl) wX6_tail q220 (inv_V (k := 4) (dX24_fits 27 rfl rfl) q3157 q3154 q3155 wX6_tail (by decide) lX6_tail (by decide) s3.1) (exN (by decide)) rfl ?_
        refine C.mono hf (fun _ _ => KI.g (fun x29 h27 hf le28 => ?_))
        have k1 := leK le28 k1 (by decide)
        have k4 := leK le28 k4 (by decide)
        have k16 := leK le28 k16 (by decide)
        replace s3 := s3.le sc3 (le28)
        refine x_istore_n (pc' := 50) (dX24_fits 28 rfl rfl) rfl (by decide) rfl rfl ?_
        replace hf := hf _ rfl
        refine x_iinc (pc' := 53) 3 (dX24_fits 29 rfl rfl) rfl (by rfl) (by decide) rfl rfl ?_
        refine x_goto (tgt := 5) (dX24_fits 30 rfl rfl) (by decide) ?_
        exact X.sub [2, 3, 1, 0] rfl (by simp) hf
      · replace hf := hf.1 (Classical.not_not.mp c26)
        replace c26 := Classical.not_not.mp c26
        refine x_iconst (pc' := 43) (v := 0) (dX24_fits 23 rfl rfl) (by decide) rfl ?_
        exact x_zret (ty := .boolean) (dX24_fits 24 rfl rfl) rfl (by decide) hf
theorem bX24_bind (G : Gh) (d : Nat) (h : AH) (Q : Outcome → AH → Prop) (a0 : Nat) (p2 : Int32) (p3 : Int32) (hf : X G mX24_bind (d + 1) none [] 9 [(0, .ref (a0)), (1, .ref (gW G 3)), (4, .int (p3)), (5, .int (p2)), (6, .int (0))] [] h Q) : C G mX24_bind (d + 1) [.ref (a0), .ref (gW G 3), .int (p2), .int (p3)] h Q := by
  refine C.of_X (by decide +kernel) (Nat.le_of_ble_eq_true rfl) wX24_bind ?_
  show X G mX24_bind (d + 1) none [] 0 [(0, .ref (a0)), (1, .ref (gW G 3)), (2, .int (p2)), (3, .int (p3))] [] h Q
  refine x_iload_n (pc' := 1) 3 (dX24_bind 0 rfl rfl) rfl rfl rfl ?_
  refine x_istore (pc' := 3) (dX24_bind 1 rfl rfl) (by decide) rfl rfl ?_
  refine x_iload_n (pc' := 4) 3 (dX24_bind 2 rfl rfl) rfl rfl rfl ?_
  refine x_istore (pc' := 6) (dX24_bind 3 rfl rfl) (by decide) rfl rfl ?_
  refine x_iconst (pc' := 7) (v := 0) (dX24_bind 4 rfl rfl) (by decide) rfl ?_
  refine x_istore (pc' := 9) (dX24_bind 5 rfl rfl) (by decide) rfl rfl ?_
  exact X.sub [3, 4, 2, 1, 0] rfl (by simp) hf
theorem bX24_bind_9 (G : Gh) (d : Nat) (h : AH) (Q : Outcome → AH → Prop) (l0 : Nat) (l4 : Int32) (l5 : Int32) (l6 : Int32) (s3 : So 3 (gW G) h) (hf : hK h l0 = 23 ∧ (∃ b2, fR h l0 308 = some b2 ∧ (hK h b2 = 1008 ∧ (((Int32.ofNat (hL h b2)) ≤ l6 → (Q (.returned (some (.int l4))) h)) ∧ (¬ ((Int32.ofNat (hL h b2)) ≤ l6) → (∃ b6, fR h l0 308 = some b6 ∧ (hK h b6 = 1008 ∧ vp_in l6 (hL h b6) ∧ ∃ b10, aR h b6 l6.toNatClampNeg = some b10 ∧ (C G mX6_head d [.ref (gW G 3), .int (l5)] h (KI Q (fun x14 h12 => ∃ (k : Nat) (ν : Mu), VT yX19_bind VMPat_bind k ν ∧ hK h12 b10 = k + 1 ∧ C G ν d [.ref (b10), .ref (gW G 3), .int (x14), .int (l4)] h12 (KI Q (fun x17 h15 => C G mX6_tail d [.ref (gW G 3), .int (l5)] h15 (KI Q (fun x20 h18 => ∀ x21 : Int32, x21 = l6 + 1 → (X G mX24_bind (d + 1) none [] 9 [(0, .ref (l0)), (1, .ref (gW G 3)), (4, .int (x17)), (5, .int (x20)), (6, .int (x21))] [] h18 Q))))))))))))))) : X G mX24_bind (d + 1) none [] 9 [(0, .ref (l0)), (1, .ref (gW G 3)), (4, .int (l4)), (5, .int (l5)), (6, .int (l6))] [] h Q := by
  refine x_iload (pc' := 11) 4 (dX24_bind 6 rfl rfl) rfl rfl ?_
  refine x_aload_n (pc' := 12) 0 (dX24_bind 7 rfl rfl) rfl rfl rfl ?_
  obtain ⟨k1, hf⟩ := hf
  obtain ⟨b2, e3, hf⟩ := hf
  refine x_getR (pc' := 15) (dX24_bind 8 rfl rfl) g308 q1422 (Or.inl rfl) rfl (hf_of 22 k1 rfl (by decide) m22_308) e3 ?_
  obtain ⟨k4, hf⟩ := hf
  refine x_alen (pc' := 16) (t := 8) (ty := .object "LetMill$Pat") (dX24_bind 9 rfl rfl) rfl rfl k4 ?_
  refine x_icmp_ge (pc' := 19) (tgt := 54) (dX24_bind 10 rfl rfl) (by decide) rfl (fun c5 => ?_) (fun c5 => ?_)
  · replace hf := hf.1 c5
    refine x_iload (pc' := 56) 2 (dX24_bind 28 rfl rfl) rfl rfl ?_
    exact x_iret (dX24_bind 29 rfl rfl) rfl hf
  · replace hf := hf.2 c5
    refine x_aload_n (pc' := 20) 0 (dX24_bind 11 rfl rfl) rfl rfl rfl ?_
    obtain ⟨b6, e7, hf⟩ := hf
    refine x_getR (pc' := 23) (dX24_bind 12 rfl rfl) g308 q1422 (Or.inl rfl) rfl (hf_of 22 k1 rfl (by decide) m22_308) e7 ?_
    refine x_iload (pc' := 25) 4 (dX24_bind 13 rfl rfl) rfl rfl ?_
    obtain ⟨k8, hf⟩ := hf
    obtain ⟨i9, hf⟩ := hf
    obtain ⟨b10, e11, hf⟩ := hf
    refine x_aald (pc' := 26) (t := 8) (C := "LetMill$Pat") (dX24_bind 14 rfl rfl) rfl (by decide) rfl k8 i9 e11 ?_
    refine x_aload_n (pc' := 27) 1 (dX24_bind 15 rfl rfl) rfl rfl rfl ?_
    refine x_aload_n (pc' := 28) 1 (dX24_bind 16 rfl rfl) rfl rfl rfl ?_
    refine x_iload (pc' := 30) 3 (dX24_bind 17 rfl rfl) rfl rfl ?_
    refine x_inv (pc' := 33) (ν := mX6_head) (av := [_, _]) (st := [_, _]) rfl rfl (dX24_bind 18 rfl rfl) (Nat.le_of_ble_eq_true rfl) wX6_head q220 (inv_V (k := 4) (dX24_bind 18 rfl rfl) q3131 q3132 q3133 wX6_head (by decide) lX6_head (by decide) s3.1) (exN (by decide)) rfl ?_
    refine C.mono hf (fun _ _ => KI.g (fun x14 h12 hf le13 => ?_))
    have k1 := leK le13 k1 (by decide)
    have k4 := leK le13 k4 (by decide)
    have k8 := leK le13 k8 (by decide)
    replace s3 := s3.le sc3 (le13)
    refine x_iload (pc' := 35) 2 (dX24_bind 19 rfl rfl) rfl rfl ?_
    obtain ⟨k, ν, ⟨v0, v1, v2, v3, v4, v5, v6, v7⟩, k22, hf⟩ := hf
    refine x_inv (pc' := 38) (ν := ν) (st := []) rfl (sub_tr v7 rfl) (dX24_bind 20 rfl rfl) (by have := v5; simp only [List.map, List.sum_cons, List.sum_nil, Value.category]; omega) v1 v2 (inv_O (ξ := mX19_bind) (k := k) (av := [_, _, _]) (dX24_bind 20 rfl rfl) q3178 q3167 q3166 q3195 v3 v4 (by decide) lX19_bind v0 k22) (exN v6) rfl ?_
    refine C.mono hf (fun _ _ => KI.g (fun x17 h15 hf le16 => ?_))
    replace le16 := Le.nx v6 le16
    have k1 := leK le16 k1 (by decide)
    have k4 := leK le16 k4 (by decide)
    have k8 := leK le16 k8 (by decide)
    replace s3 := s3.le sc3 (le16)
    refine x_istore (pc' := 40) (dX24_bind 21 rfl rfl) (by decide) rfl rfl ?_
    refine x_aload_n (pc' := 41) 2 (dX24_bind 22 rfl rfl) rfl rfl rfl ?_
    refine x_iload (pc' := 43) 3 (dX24_bind 23 rfl rfl) rfl rfl ?_
    refine x_inv (pc' := 46) (ν := mX6_tail) (av := [_, _]) (st := []) rfl rfl (dX24_bind 24 rfl rfl) (Nat.le_of_ble_eq_true rfl) wX6_tail q220 (inv_V (k := 4) (dX24_bind 24 rfl rfl) q3157 q3154 q3155 wX6_tail (by decide) lX6_tail (by decide) s3.1) (exN (by decide)) rfl ?_
    refine C.mono hf (fun _ _ => KI.g (fun x20 h18 hf le19 => ?_))
    have k1 := leK le19 k1 (by decide)
    have k4 := leK le19 k4 (by decide)
    have k8 := leK le19 k8 (by decide)
    replace s3 := s3.le sc3 (le19)
    refine x_istore (pc' := 48) (dX24_bind 25 rfl rfl) (by decide) rfl rfl ?_
    replace hf := hf _ rfl
    refine x_iinc (pc' := 51) 4 (dX24_bind 26 rfl rfl) rfl (by rfl) (by decide) rfl rfl ?_
    refine x_goto (tgt := 9) (dX24_bind 27 rfl rfl) (by decide) ?_
    exact X.sub [3, 4, 2, 1, 0] rfl (by simp) hf
theorem bX25_init (G : Gh) (d : Nat) (h : AH) (Q : Outcome → AH → Prop) (a0 : Nat) (p1 : Int32) (hf : C G mX19_init d [.ref (a0), .int (p1)] h (KV Q (fun h1 => Q (.returned none) h1))) : C G mX25_init (d + 1) [.ref (a0), .int (p1)] h Q := by
  refine C.of_X (by decide +kernel) (Nat.le_of_ble_eq_true rfl) wX25_init ?_
  show X G mX25_init (d + 1) (some a0) [] 0 [(0, .ref (a0)), (1, .int (p1))] [] h Q
  refine x_aload_n (pc' := 1) 0 (dX25_init 0 rfl rfl) rfl rfl rfl ?_
  refine x_iload_n (pc' := 2) 1 (dX25_init 1 rfl rfl) rfl rfl rfl ?_
  refine x_inv (pc' := 5) (ν := mX19_init) (av := [_, _]) (st := []) rfl rfl (dX25_init 2 rfl rfl) (Nat.le_of_ble_eq_true rfl) wX19_init q240 (inv_I (dX25_init 2 rfl rfl) q1432 q1344 q1345 rfl (by decide) lX19_init) (fun b hb => by exact Or.inr (by rw [← hb]; rfl)) rfl ?_
  refine C.mono hf (fun _ _ => KV.g (fun h1 hf le2 => ?_))
  exact x_vret (dX25_init 3 rfl rfl) rfl hf
theorem bX25_resolveFrom (G : Gh) (d : Nat) (h : AH) (Q : Outcome → AH → Prop) (a0 : Nat) (p2 : Int32) (hf : Q (.returned none) h) : C G mX25_resolveFrom d [.ref (a0), .ref (gW G 4), .int (p2)] h Q := by
  refine C.of_X (by decide +kernel) (Nat.le_of_ble_eq_true rfl) wX25_resolveFrom ?_
  show X G mX25_resolveFrom d none [] 0 [(0, .ref (a0)), (1, .ref (gW G 4)), (2, .int (p2))] [] h Q
  exact x_vret (dX25_resolveFrom 0 rfl rfl) rfl hf
theorem bX25_infer (G : Gh) (d : Nat) (h : AH) (Q : Outcome → AH → Prop) (a0 : Nat) (s2 : So 2 (gW G) h) (s6 : So 6 (gW G) h) (hf : Q (.returned (some (.int (fI h (gW G 2) 44)))) h) : C G mX25_infer d [.ref (a0), .ref (gW G 6)] h Q := by
  refine C.of_X (by decide +kernel) (Nat.le_of_ble_eq_true rfl) wX25_infer ?_
  show X G mX25_infer d none [] 0 [(0, .ref (a0)), (1, .ref (gW G 6))] [] h Q
  refine x_aload_n (pc' := 1) 1 (dX25_infer 0 rfl rfl) rfl rfl rfl ?_
  refine x_getR (pc' := 4) (dX25_infer 1 rfl rfl) g108 q801 (Or.inl rfl) rfl (hf_of 9 s6.1 rfl (by decide) m9_108) (s6.2 0 _ rfl rfl).1 ?_
  refine x_getI (pc' := 7) (dX25_infer 2 rfl rfl) g44 q503 (Or.inl rfl) rfl (hf_of 2 s2.1 rfl (by decide) m2_44) ?_
  exact x_iret (dX25_infer 3 rfl rfl) rfl hf
theorem bX25_shape (G : Gh) (d : Nat) (h : AH) (Q : Outcome → AH → Prop) (a0 : Nat) (s5 : So 5 (gW G) h) (hf : C G mX10_node d [.ref (gW G 5), .int (0), .int (1)] h (KI Q (fun x3 h1 => Q (.returned (some (.int x3))) h1))) : C G mX25_shape (d + 1) [.ref (a0), .ref (gW G 5)] h Q := by
  refine C.of_X (by decide +kernel) (Nat.le_of_ble_eq_true rfl) wX25_shape ?_
  show X G mX25_shape (d + 1) none [] 0 [(0, .ref (a0)), (1, .ref (gW G 5))] [] h Q
  refine x_aload_n (pc' := 1) 1 (dX25_shape 0 rfl rfl) rfl rfl rfl ?_
  refine x_iconst (pc' := 2) (v := 0) (dX25_shape 1 rfl rfl) (by decide) rfl ?_
  refine x_iconst (pc' := 3) (v := 1) (dX25_shape 2 rfl rfl) (by decide) rfl ?_
  refine x_inv (pc' := 6) (ν := mX10_node) (av := [_, _, _]) (st := []) rfl rfl (dX25_shape 3 rfl rfl) (Nat.le_of_ble_eq_true rfl) wX10_node q224 (inv_V (k := 8) (dX25_shape 3 rfl rfl) q2583 q2552 q2553 wX10_node (by decide) lX10_node (by decide) s5.1) (exN (by decide)) rfl ?_
  refine C.mono hf (fun _ _ => KI.g (fun x3 h1 hf le2 => ?_))
  replace s5 := s5.le sc5 (le2)
  exact x_iret (dX25_shape 4 rfl rfl) rfl hf
theorem bX25_fits (G : Gh) (d : Nat) (h : AH) (Q : Outcome → AH → Prop) (a0 : Nat) (p2 : Int32) (hf : Q (.returned (some (.int 1))) h) : C G mX25_fits d [.ref (a0), .ref (gW G 3), .int (p2)] h Q := by
  refine C.of_X (by decide +kernel) (Nat.le_of_ble_eq_true rfl) wX25_fits ?_
  show X G mX25_fits d none [] 0 [(0, .ref (a0)), (1, .ref (gW G 3)), (2, .int (p2))] [] h Q
  refine x_iconst (pc' := 1) (v := 1) (dX25_fits 0 rfl rfl) (by decide) rfl ?_
  exact x_zret (ty := .boolean) (dX25_fits 1 rfl rfl) rfl (by decide) hf
theorem bX26_init (G : Gh) (d : Nat) (h : AH) (Q : Outcome → AH → Prop) (a0 : Nat) (p1 : Int32) (p2 : Nat) (hf : C G mX19_init d [.ref (a0), .int (p1)] h (KV Q (fun h1 => hK h1 a0 = 25 ∧ (∀ h4, h4 = pR h1 a0 309 (some p2) → (Q (.returned none) h4))))) : C G mX26_init (d + 1) [.ref (a0), .int (p1), .ref (p2)] h Q := by
  refine C.of_X (by decide +kernel) (Nat.le_of_ble_eq_true rfl) wX26_init ?_
  show X G mX26_init (d + 1) (some a0) [] 0 [(0, .ref (a0)), (1, .int (p1)), (2, .ref (p2))] [] h Q
  refine x_aload_n (pc' := 1) 0 (dX26_init 0 rfl rfl) rfl rfl rfl ?_
  refine x_iload_n (pc' := 2) 1 (dX26_init 1 rfl rfl) rfl rfl rfl ?_
  refine x_inv (pc' := 5) (ν := mX19_init) (av := [_, _]) (st := []) rfl rfl (dX26_init 2 rfl rfl) (Nat.le_of_ble_eq_true rfl) wX19_init q240 (inv_I (dX26_init 2 rfl rfl) q1440 q1344 q1345 rfl (by decide) lX19_init) (fun b hb => by exact Or.inr (by rw [← hb]; rfl)) rfl ?_
  refine C.mono hf (fun _ _ => KV.g (fun h1 hf le2 => ?_))
  refine x_aload_n (pc' := 6) 0 (dX26_init 3 rfl rfl) rfl rfl rfl ?_
  refine x_aload_n (pc' := 7) 2 (dX26_init 4 rfl rfl) rfl rfl rfl ?_
  obtain ⟨k3, hf⟩ := hf
  refine x_putR (pc' := 10) (dX26_init 5 rfl rfl) g309 q1441 (Or.inl rfl) (Or.inr ⟨rfl, rfl, rfl, rfl⟩) (Or.inr rfl) rfl (hf_of 24 k3 rfl (by decide) m24_309) (fun h4 e5 => ?_)
  replace hf := hf h4 e5
  replace k3 : hK h4 a0 = 25 := by rw [e5]; exact k3
  exact x_vret (dX26_init 6 rfl rfl) rfl hf
theorem bX26_resolveFrom (G : Gh) (d : Nat) (h : AH) (Q : Outcome → AH → Prop) (a0 : Nat) (p2 : Int32) (hf : hK h a0 = 25 ∧ (∃ b2, fR h a0 309 = some b2 ∧ (∃ (k : Nat) (ν : Mu), VT ⟨"LetMill$Pat", "resolveFrom", "(LLetMill$Scope;I)V"⟩ VMPat_resolveFrom k ν ∧ hK h b2 = k + 1 ∧ C G ν d [.ref (b2), .ref (gW G 4), .int (p2)] h (KV Q (fun h4 => Q (.returned none) h4))))) : C G mX26_resolveFrom (d + 1) [.ref (a0), .ref (gW G 4), .int (p2)] h Q := by
  refine C.of_X (by decide +kernel) (Nat.le_of_ble_eq_true rfl) wX26_resolveFrom ?_
  show X G mX26_resolveFrom (d + 1) none [] 0 [(0, .ref (a0)), (1, .ref (gW G 4)), (2, .int (p2))] [] h Q
  refine x_aload_n (pc' := 1) 0 (dX26_resolveFrom 0 rfl rfl) rfl rfl rfl ?_
  obtain ⟨k1, hf⟩ := hf
  obtain ⟨b2, e3, hf⟩ := hf
  refine x_getR (pc' := 4) (dX26_resolveFrom 1 rfl rfl) g309 q1441 (Or.inl rfl) rfl (hf_of 24 k1 rfl (by decide) m24_309) e3 ?_
  refine x_aload_n (pc' := 5) 1 (dX26_resolveFrom 2 rfl rfl) rfl rfl rfl ?_
  refine x_iload_n (pc' := 6) 2 (dX26_resolveFrom 3 rfl rfl) rfl rfl rfl ?_
  obtain ⟨k, ν, ⟨v0, v1, v2, v3, v4, v5, v6, v7⟩, k6, hf⟩ := hf
  refine x_inv (pc' := 9) (ν := ν) (st := []) rfl (sub_tr v7 rfl) (dX26_resolveFrom 4 rfl rfl) (by have := v5; simp only [List.map, List.sum_cons, List.sum_nil, Value.category]; omega) v1 v2 (inv_U (k := k) (av := [_, _]) (dX26_resolveFrom 4 rfl rfl) q2225 q2209 (by decide) v3 v4 (by decide) (show _ = some 2 by decide +kernel) v0 k6) (exN v6) rfl ?_
  refine C.mono hf (fun _ _ => KV.g (fun h4 hf le5 => ?_))
  replace le5 := Le.nx v6 le5
  have k1 := leK le5 k1 (by decide)
  exact x_vret (dX26_resolveFrom 5 rfl rfl) rfl hf
theorem bX26_infer (G : Gh) (d : Nat) (h : AH) (Q : Outcome → AH → Prop) (a0 : Nat) (hf : hK h a0 = 25 ∧ (∃ b2, fR h a0 309 = some b2 ∧ (∃ (k : Nat) (ν : Mu), VT ⟨"LetMill$Pat", "infer", "(LLetMill$Typer;)I"⟩ VMPat_infer k ν ∧ hK h b2 = k + 1 ∧ C G ν d [.ref (b2), .ref (gW G 6)] h (KI Q (fun x6 h4 => Q (.returned (some (.int x6))) h4))))) : C G mX26_infer (d + 1) [.ref (a0), .ref (gW G 6)] h Q := by
  refine C.of_X (by decide +kernel) (Nat.le_of_ble_eq_true rfl) wX26_infer ?_
  show X G mX26_infer (d + 1) none [] 0 [(0, .ref (a0)), (1, .ref (gW G 6))] [] h Q
  refine x_aload_n (pc' := 1) 0 (dX26_infer 0 rfl rfl) rfl rfl rfl ?_
  obtain ⟨k1, hf⟩ := hf
  obtain ⟨b2, e3, hf⟩ := hf
  refine x_getR (pc' := 4) (dX26_infer 1 rfl rfl) g309 q1441 (Or.inl rfl) rfl (hf_of 24 k1 rfl (by decide) m24_309) e3 ?_
  refine x_aload_n (pc' := 5) 1 (dX26_infer 2 rfl rfl) rfl rfl rfl ?_
  obtain ⟨k, ν, ⟨v0, v1, v2, v3, v4, v5, v6, v7⟩, k7, hf⟩ := hf
  refine x_inv (pc' := 8) (ν := ν) (st := []) rfl (sub_tr v7 rfl) (dX26_infer 3 rfl rfl) (by have := v5; simp only [List.map, List.sum_cons, List.sum_nil, Value.category]; omega) v1 v2 (inv_U (k := k) (av := [_]) (dX26_infer 3 rfl rfl) q2460 q2436 (by decide) v3 v4 (by decide) (show _ = some 1 by decide +kernel) v0 k7) (exN v6) rfl ?_
  refine C.mono hf (fun _ _ => KI.g (fun x6 h4 hf le5 => ?_))
  replace le5 := Le.nx v6 le5
  have k1 := leK le5 k1 (by decide)
  exact x_iret (dX26_infer 4 rfl rfl) rfl hf
theorem bX26_shape (G : Gh) (d : Nat) (h : AH) (Q : Outcome → AH → Prop) (a0 : Nat) (hf : hK h a0 = 25 ∧ (∃ b2, fR h a0 309 = some b2 ∧ (∃ (k : Nat) (ν : Mu), VT ⟨"LetMill$Pat", "shape", "(LLetMill$Matches;)I"⟩ VMPat_shape k ν ∧ hK h b2 = k + 1 ∧ C G ν d [.ref (b2), .ref (gW G 5)] h (KI Q (fun x6 h4 => Q (.returned (some (.int x6))) h4))))) : C G mX26_shape (d + 1) [.ref (a0), .ref (gW G 5)] h Q := by
  refine C.of_X (by decide +kernel) (Nat.le_of_ble_eq_true rfl) wX26_shape ?_
  show X G mX26_shape (d + 1) none [] 0 [(0, .ref (a0)), (1, .ref (gW G 5))] [] h Q
  refine x_aload_n (pc' := 1) 0 (dX26_shape 0 rfl rfl) rfl rfl rfl ?_
  obtain ⟨k1, hf⟩ := hf
  obtain ⟨b2, e3, hf⟩ := hf
  refine x_getR (pc' := 4) (dX26_shape 1 rfl rfl) g309 q1441 (Or.inl rfl) rfl (hf_of 24 k1 rfl (by decide) m24_309) e3 ?_
  refine x_aload_n (pc' := 5) 1 (dX26_shape 2 rfl rfl) rfl rfl rfl ?_
  obtain ⟨k, ν, ⟨v0, v1, v2, v3, v4, v5, v6, v7⟩, k7, hf⟩ := hf
  refine x_inv (pc' := 8) (ν := ν) (st := []) rfl (sub_tr v7 rfl) (dX26_shape 3 rfl rfl) (by have := v5; simp only [List.map, List.sum_cons, List.sum_nil, Value.category]; omega) v1 v2 (inv_U (k := k) (av := [_]) (dX26_shape 3 rfl rfl) q2562 q2544 (by decide) v3 v4 (by decide) (show _ = some 1 by decide +kernel) v0 k7) (exN v6) rfl ?_
  refine C.mono hf (fun _ _ => KI.g (fun x6 h4 hf le5 => ?_))
  replace le5 := Le.nx v6 le5
  have k1 := leK le5 k1 (by decide)
  exact x_iret (dX26_shape 4 rfl rfl) rfl hf
theorem bX26_fits (G : Gh) (d : Nat) (h : AH) (Q : Outcome → AH → Prop) (a0 : Nat) (p2 : Int32) (hf : hK h a0 = 25 ∧ (∃ b2, fR h a0 309 = some b2 ∧ (∃ (k : Nat) (ν : Mu), VT ⟨"LetMill$Pat", "fits", "(LLetMill$Machine;I)Z"⟩ VMPat_fits k ν ∧ hK h b2 = k + 1 ∧ C G ν d [.ref (b2), .ref (gW G 3), .int (p2)] h (KI Q (fun x6 h4 => (x6 = 0 ∨ x6 = 1) ∧ Q (.returned (some (.int x6))) h4))))) : C G mX26_fits (d + 1) [.ref (a0), .ref (gW G 3), .int (p2)] h Q := by
  refine C.of_X (by decide +kernel) (Nat.le_of_ble_eq_true rfl) wX26_fits ?_
  show X G mX26_fits (d + 1) none [] 0 [(0, .ref (a0)), (1, .ref (gW G 3)), (2, .int (p2))] [] h Q
  refine x_aload_n (pc' := 1) 0 (dX26_fits 0 rfl rfl) rfl rfl rfl ?_
  obtain ⟨k1, hf⟩ := hf
  obtain ⟨b2, e3, hf⟩ := hf
  refine x_getR (pc' := 4) (dX26_fits 1 rfl rfl) g309 q1441 (Or.inl rfl) rfl (hf_of 24 k1 rfl (by decide) m24_309) e3 ?_
  refine x_aload_n (pc' := 5) 1 (dX26_fits 2 rfl rfl) rfl rfl rfl ?_
  refine x_iload_n (pc' := 6) 2 (dX26_fits 3 rfl rfl) rfl rfl rfl ?_
  obtain ⟨k, ν, ⟨v0, v1, v2, v3, v4, v5, v6, v7⟩, k7, hf⟩ := hf
  refine x_inv (pc' := 9) (ν := ν) (st := []) rfl (sub_tr v7 rfl) (dX26_fits 4 rfl rfl) (by have := v5; simp only [List.map, List.sum_cons, List.sum_nil, Value.category]; omega) v1 v2 (inv_U (k := k) (av := [_, _]) (dX26_fits 4 rfl rfl) q3124 q3105 (by decide) v3 v4 (by decide) (show _ = some 2 by decide +kernel) v0 k7) (exN v6) rfl ?_
  refine C.mono hf (fun _ _ => KI.g (fun x6 h4 hf le5 => ?_))
  replace le5 := Le.nx v6 le5
  have k1 := leK le5 k1 (by decide)
  obtain ⟨z0, hf⟩ := hf
  exact x_zret (ty := .boolean) (dX26_fits 5 rfl rfl) rfl (nar_z z0) hf
theorem bX26_bind (G : Gh) (d : Nat) (h : AH) (Q : Outcome → AH → Prop) (a0 : Nat) (p2 : Int32) (p3 : Int32) (hf : hK h a0 = 25 ∧ (∃ b2, fR h a0 309 = some b2 ∧ (∃ (k : Nat) (ν : Mu), VT yX19_bind VMPat_bind k ν ∧ hK h b2 = k + 1 ∧ C G ν d [.ref (b2), .ref (gW G 3), .int (p2), .int (p3)] h (KI Q (fun x6 h4 => Q (.returned (some (.int x6))) h4))))) : C G mX26_bind (d + 1) [.ref (a0), .ref (gW G 3), .int (p2), .int (p3)] h Q := by
  refine C.of_X (by decide +kernel) (Nat.le_of_ble_eq_true rfl) wX26_bind ?_
  show X G mX26_bind (d + 1) none [] 0 [(0, .ref (a0)), (1, .ref (gW G 3)), (2, .int (p2)), (3, .int (p3))] [] h Q
  refine x_aload_n (pc' := 1) 0 (dX26_bind 0 rfl rfl) rfl rfl rfl ?_
  obtain ⟨k1, hf⟩ := hf
  obtain ⟨b2, e3, hf⟩ := hf
  refine x_getR (pc' := 4) (dX26_bind 1 rfl rfl) g309 q1441 (Or.inl rfl) rfl (hf_of 24 k1 rfl (by decide) m24_309) e3 ?_
  refine x_aload_n (pc' := 5) 1 (dX26_bind 2 rfl rfl) rfl rfl rfl ?_
  refine x_iload_n (pc' := 6) 2 (dX26_bind 3 rfl rfl) rfl rfl rfl ?_
  refine x_iload_n (pc' := 7) 3 (dX26_bind 4 rfl rfl) rfl rfl rfl ?_
  obtain ⟨k, ν, ⟨v0, v1, v2, v3, v4, v5, v6, v7⟩, k7, hf⟩ := hf
  refine x_inv (pc' := 10) (ν := ν) (st := []) rfl (sub_tr v7 rfl) (dX26_bind 5 rfl rfl) (by have := v5; simp only [List.map, List.sum_cons, List.sum_nil, Value.category]; omega) v1 v2 (inv_O (ξ := mX19_bind) (k := k) (av := [_, _, _]) (dX26_bind 5 rfl rfl) q3175 q3167 q3166 q3195 v3 v4 (by decide) lX19_bind v0 k7) (exN v6) rfl ?_
  refine C.mono hf (fun _ _ => KI.g (fun x6 h4 hf le5 => ?_))
  replace le5 := Le.nx v6 le5
  have k1 := leK le5 k1 (by decide)
  exact x_iret (dX26_bind 6 rfl rfl) rfl hf
theorem bX27_init (G : Gh) (d : Nat) (h : AH) (Q : Outcome → AH → Prop) (a0 : Nat) (p1 : Int32) (p2 : Nat) (hf : C G mX19_init d [.ref (a0), .int (p1)] h (KV Q (fun h1 => hK h1 a0 = 26 ∧ (∀ h4, h4 = pR h1 a0 310 (some p2) → (Q (.returned none) h4))))) : C G mX27_init (d + 1) [.ref (a0), .int (p1), .ref (p2)] h Q := by
  refine C.of_X (by decide +kernel) (Nat.le_of_ble_eq_true rfl) wX27_init ?_
  show X G mX27_init (d + 1) (some a0) [] 0 [(0, .ref (a0)), (1, .int (p1)), (2, .ref (p2))] [] h Q
  refine x_aload_n (pc' := 1) 0 (dX27_init 0 rfl rfl) rfl rfl rfl ?_
  refine x_iload_n (pc' := 2) 1 (dX27_init 1 rfl rfl) rfl rfl rfl ?_
  refine x_inv (pc' := 5) (ν := mX19_init) (av := [_, _]) (st := []) rfl rfl (dX27_init 2 rfl rfl) (Nat.le_of_ble_eq_true rfl) wX19_init q240 (inv_I (dX27_init 2 rfl rfl) q1451 q1344 q1345 rfl (by decide) lX19_init) (fun b hb => by exact Or.inr (by rw [← hb]; rfl)) rfl ?_
  refine C.mono hf (fun _ _ => KV.g (fun h1 hf le2 => ?_))
  refine x_aload_n (pc' := 6) 0 (dX27_init 3 rfl rfl) rfl rfl rfl ?_
  refine x_aload_n (pc' := 7) 2 (dX27_init 4 rfl rfl) rfl rfl rfl ?_
  obtain ⟨k3, hf⟩ := hf
  refine x_putR (pc' := 10) (dX27_init 5 rfl rfl) g310 q1452 (Or.inl rfl) (Or.inr ⟨rfl, rfl, rfl, rfl⟩) (Or.inr rfl) rfl (hf_of 25 k3 rfl (by decide) m25_310) (fun h4 e5 => ?_)
  replace hf := hf h4 e5
  replace k3 : hK h4 a0 = 26 := by rw [e5]; exact k3
  exact x_vret (dX27_init 6 rfl rfl) rfl hf
theorem bX27_resolveFrom (G : Gh) (d : Nat) (h : AH) (Q : Outcome → AH → Prop) (a0 : Nat) (p2 : Int32) (hf : X G mX27_resolveFrom (d + 1) none [] 2 [(0, .ref (a0)), (1, .ref (gW G 4)), (2, .int (p2)), (3, .int (0))] [] h Q) : C G mX27_resolveFrom (d + 1) [.ref (a0), .ref (gW G 4), .int (p2)] h Q := by
  refine C.of_X (by decide +kernel) (Nat.le_of_ble_eq_true rfl) wX27_resolveFrom ?_
  show X G mX27_resolveFrom (d + 1) none [] 0 [(0, .ref (a0)), (1, .ref (gW G 4)), (2, .int (p2))] [] h Q
  refine x_iconst (pc' := 1) (v := 0) (dX27_resolveFrom 0 rfl rfl) (by decide) rfl ?_
  refine x_istore_n (pc' := 2) (dX27_resolveFrom 1 rfl rfl) rfl (by decide) rfl rfl ?_
  exact X.sub [1, 2, 3, 0] rfl (by simp) hf
theorem bX27_resolveFrom_2 (G : Gh) (d : Nat) (h : AH) (Q : Outcome → AH → Prop) (l0 : Nat) (l2 : Int32) (l3 : Int32) (hf : hK h l0 = 26 ∧ (∃ b2, fR h l0 310 = some b2 ∧ (hK h b2 = 1008 ∧ (((Int32.ofNat (hL h b2)) ≤ l3 → (Q (.returned none) h)) ∧ (¬ ((Int32.ofNat (hL h b2)) ≤ l3) → (∃ b6, fR h l0 310 = some b6 ∧ (hK h b6 = 1008 ∧ vp_in l3 (hL h b6) ∧ ∃ b10, aR h b6 l3.toNatClampNeg = some b10 ∧ (∃ (k : Nat) (ν : Mu), VT ⟨"LetMill$Pat", "resolveFrom", "(LLetMill$Scope;I)V"⟩ VMPat_resolveFrom k ν ∧ hK h b10 = k + 1 ∧ C G ν d [.ref (b10), .ref (gW G 4), .int (l2)] h (KV Q (fun h12 => ∀ x14 : Int32, x14 = l3 + 1 → (X G mX27_resolveFrom (d + 1) none [] 2 [(0, .ref (l0)), (1, .ref (gW G 4)), (2, .int (l2)), (3, .int (x14))] [] h12 Q))))))))))) : X G mX27_resolveFrom (d + 1) none [] 2 [(0, .ref (l0)), (1, .ref (gW G 4)), (2, .int (l2)), (3, .int (l3))] [] h Q := by
  refine x_iload_n (pc' := 3) 3 (dX27_resolveFrom 2 rfl rfl) rfl rfl rfl ?_
  refine x_aload_n (pc' := 4) 0 (dX27_resolveFrom 3 rfl rfl) rfl rfl rfl ?_
  obtain ⟨k1, hf⟩ := hf
  obtain ⟨b2, e3, hf⟩ := hf
  refine x_getR (pc' := 7) (dX27_resolveFrom 4 rfl rfl) g310 q1452 (Or.inl rfl) rfl (hf_of 25 k1 rfl (by decide) m25_310) e3 ?_
  obtain ⟨k4, hf⟩ := hf
  refine x_alen (pc' := 8) (t := 8) (ty := .object "LetMill$Pat") (dX27_resolveFrom 5 rfl rfl) rfl rfl k4 ?_
  refine x_icmp_ge (pc' := 11) (tgt := 28) (dX27_resolveFrom 6 rfl rfl) (by decide) rfl (fun c5 => ?_) (fun c5 => ?_)
  · replace hf := hf.1 c5
    exact x_vret (dX27_resolveFrom 16 rfl rfl) rfl hf
  · replace hf := hf.2 c5
    refine x_aload_n (pc' := 12) 0 (dX27_resolveFrom 7 rfl rfl) rfl rfl rfl ?_
    obtain ⟨b6, e7, hf⟩ := hf
    refine x_getR (pc' := 15) (dX27_resolveFrom 8 rfl rfl) g310 q1452 (Or.inl rfl) rfl (hf_of 25 k1 rfl (by decide) m25_310) e7 ?_
    refine x_iload_n (pc' := 16) 3 (dX27_resolveFrom 9 rfl rfl) rfl rfl rfl ?_
    obtain ⟨k8, hf⟩ := hf
    obtain ⟨i9, hf⟩ := hf
    obtain ⟨b10, e11, hf⟩ := hf
    refine x_aald (pc' := 17) (t := 8) (C := "LetMill$Pat") (dX27_resolveFrom 10 rfl rfl) rfl (by decide) rfl k8 i9 e11 ?_
    refine x_aload_n (pc' := 18) 1 (dX27_resolveFrom 11 rfl rfl) rfl rfl rfl ?_
    refine x_iload_n (pc' := 19) 2 (dX27_resolveFrom 12 rfl rfl) rfl rfl rfl ?_
    obtain ⟨k, ν, ⟨v0, v1, v2, v3, v4, v5, v6, v7⟩, k15, hf⟩ := hf
    refine x_inv (pc' := 22) (ν := ν) (st := []) rfl (sub_tr v7 rfl) (dX27_resolveFrom 13 rfl rfl) (by have := v5; simp only [List.map, List.sum_cons, List.sum_nil, Value.category]; omega) v1 v2 (inv_U (k := k) (av := [_, _]) (dX27_resolveFrom 13 rfl rfl) q2239 q2209 (by decide) v3 v4 (by decide) (show _ = some 2 by decide +kernel) v0 k15) (exN v6) rfl ?_
    refine C.mono hf (fun _ _ => KV.g (fun h12 hf le13 => ?_))
    replace le13 := Le.nx v6 le13
    have k1 := leK le13 k1 (by decide)
    have k4 := leK le13 k4 (by decide)
    have k8 := leK le13 k8 (by decide)
    replace hf := hf _ rfl
    refine x_iinc (pc' := 25) 3 (dX27_resolveFrom 14 rfl rfl) rfl (by rfl) (by decide) rfl rfl ?_
    refine x_goto (tgt := 2) (dX27_resolveFrom 15 rfl rfl) (by decide) ?_
    exact X.sub [1, 2, 3, 0] rfl (by simp) hf
theorem bX27_infer (G : Gh) (d : Nat) (h : AH) (Q : Outcome → AH → Prop) (a0 : Nat) (hf : hK h a0 = 26 ∧ (∃ b2, fR h a0 310 = some b2 ∧ (hK h b2 = 1008 ∧ ((¬ (Int32.ofNat (hL h b2) : Int32) < 0) ∧ (hc h + 1 ≤ MC) ∧ (hs h + (Int32.ofNat (hL h b2) : Int32).toNatClampNeg ≤ MS) ∧ ∀ q5, hK h q5 = 0 → ∀ h7, h7 = nA h q5 0 (Int32.ofNat (hL h b2) : Int32).toNatClampNeg → (X G mX27_infer (d + 1) none [] 10 [(0, .ref (a0)), (1, .ref (gW G 6)), (2, .ref (q5)), (3, .int (0))] [] h7 Q))))) : C G mX27_infer (d + 1) [.ref (a0), .ref (gW G 6)] h Q := by
  refine C.of_X (by decide +kernel) (Nat.le_of_ble_eq_true rfl) wX27_infer ?_
  show X G mX27_infer (d + 1) none [] 0 [(0, .ref (a0)), (1, .ref (gW G 6))] [] h Q
  refine x_aload_n (pc' := 1) 0 (dX27_infer 0 rfl rfl) rfl rfl rfl ?_
  obtain ⟨k1, hf⟩ := hf
  obtain ⟨b2, e3, hf⟩ := hf
  refine x_getR (pc' := 4) (dX27_infer 1 rfl rfl) g310 q1452 (Or.inl rfl) rfl (hf_of 25 k1 rfl (by decide) m25_310) e3 ?_
  obtain ⟨k4, hf⟩ := hf
  refine x_alen (pc' := 5) (t := 8) (ty := .object "LetMill$Pat") (dX27_infer 2 rfl rfl) rfl rfl k4 ?_
  obtain ⟨z9, n1, n2, hf⟩ := hf
  refine x_newa0 (pc' := 7) (dX27_infer 3 rfl rfl) rfl z9 (by decide) n1 n2 (fun q5 h7 k6 e8 => ?_)
  replace hf := hf q5 k6 h7 e8
  replace k1 : hK h7 a0 = 26 := by rw [e8]; exact kNA k1 (by decide) k6
  replace k4 : hK h7 b2 = 1008 := by rw [e8]; exact kNA k4 (by decide) k6
  have k10 : hK h7 q5 = 1000 := by rw [e8]; exact kNAs
  refine x_astore_n (pc' := 8) (dX27_infer 4 rfl rfl) rfl (by decide) rfl rfl ?_
  refine x_iconst (pc' := 9) (v := 0) (dX27_infer 5 rfl rfl) (by decide) rfl ?_
  refine x_istore_n (pc' := 10) (dX27_infer 6 rfl rfl) rfl (by decide) rfl rfl ?_
  exact X.sub [2, 3, 1, 0] rfl (by simp) hf
theorem bX27_infer_10 (G : Gh) (d : Nat) (h : AH) (Q : Outcome → AH → Prop) (l0 : Nat) (l2 : Nat) (l3 : Int32) (s2 : So 2 (gW G) h) (s6 : So 6 (gW G) h) (hf : hK h l0 = 26 ∧ (∃ b2, fR h l0 310 = some b2 ∧ (hK h b2 = 1008 ∧ (((Int32.ofNat (hL h b2)) ≤ l3 → (∃ b6, fR h l0 310 = some b6 ∧ (hK h b6 = 1008 ∧ (hK h l2 = 1000 ∧ (C G mX3_built_2 d [.ref (gW G 2), .int (Int32.ofNat (hL h b6)), .ref (l2), .int (0), .int (Int32.ofNat (hL h l2))] h (KI Q (fun x12 h10 => Q (.returned (some (.int x12))) h10))))))) ∧ (¬ ((Int32.ofNat (hL h b2)) ≤ l3) → (∃ b13, fR h l0 310 = some b13 ∧ (hK h b13 = 1008 ∧ vp_in l3 (hL h b13) ∧ ∃ b17, aR h b13 l3.toNatClampNeg = some b17 ∧ (∃ (k : Nat) (ν : Mu), VT ⟨"LetMill$Pat", "infer", "(LLetMill$Typer;)I"⟩ VMPat_infer k ν ∧ hK h b17 = k + 1 ∧ C G ν d [.ref (b17), .ref (gW G 6)] h (KI Q (fun x21 h19 => hK h19 l2 = 1000 ∧ Ns (gW G) l2 ∧ vp_in l3 (hL h19 l2) ∧ ∀ h24, h24 = sI h19 l2 l3.toNatClampNeg x21 → (∀ x27 : Int32, x27 = l3 + 1 → (X G mX27_infer (d + 1) none [] 10 [(0, .ref (l0)), (1, .ref (gW G 6)), (2, .ref (l2)), (3, .int (x27))] [] h24 Q)))))))))))) : X G mX27_infer (d + 1) none [] 10 [(0, .ref (l0)), (1, .ref (gW G 6)), (2, .ref (l2)), (3, .int (l3))] [] h Q := by
  refine x_iload_n (pc' := 11) 3 (dX27_infer 7 rfl rfl) rfl rfl rfl ?_
  refine x_aload_n (pc' := 12) 0 (dX27_infer 8 rfl rfl) rfl rfl rfl ?_
  obtain ⟨k1, hf⟩ := hf
  obtain ⟨b2, e3, hf⟩ := hf
  refine x_getR (pc' := 15) (dX27_infer 9 rfl rfl) g310 q1452 (Or.inl rfl) rfl (hf_of 25 k1 rfl (by decide) m25_310) e3 ?_
  obtain ⟨k4, hf⟩ := hf
  refine x_alen (pc' := 16) (t := 8) (ty := .object "LetMill$Pat") (dX27_infer 10 rfl rfl) rfl rfl k4 ?_
  refine x_icmp_ge (pc' := 19) (tgt := 38) (dX27_infer 11 rfl rfl) (by decide) rfl (fun c5 => ?_) (fun c5 => ?_)
  · replace hf := hf.1 c5
    refine x_aload_n (pc' := 39) 1 (dX27_infer 23 rfl rfl) rfl rfl rfl ?_
    refine x_getR (pc' := 42) (dX27_infer 24 rfl rfl) g108 q815 (Or.inl rfl) rfl (hf_of 9 s6.1 rfl (by decide) m9_108) (s6.2 0 _ rfl rfl).1 ?_
    refine x_aload_n (pc' := 43) 0 (dX27_infer 25 rfl rfl) rfl rfl rfl ?_
    obtain ⟨b6, e7, hf⟩ := hf
    refine x_getR (pc' := 46) (dX27_infer 26 rfl rfl) g310 q1452 (Or.inl rfl) rfl (hf_of 25 k1 rfl (by decide) m25_310) e7 ?_
    obtain ⟨k8, hf⟩ := hf
    refine x_alen (pc' := 47) (t := 8) (ty := .object "LetMill$Pat") (dX27_infer 27 rfl rfl) rfl rfl k8 ?_
    refine x_aload_n (pc' := 48) 2 (dX27_infer 28 rfl rfl) rfl rfl rfl ?_
    refine x_iconst (pc' := 49) (v := 0) (dX27_infer 29 rfl rfl) (by decide) rfl ?_
    refine x_aload_n (pc' := 50) 2 (dX27_infer 30 rfl rfl) rfl rfl rfl ?_
    obtain ⟨k9, hf⟩ := hf
    refine x_alen (pc' := 51) (t := 0) (ty := .int) (dX27_infer 31 rfl rfl) rfl rfl k9 ?_
    refine x_inv (pc' := 54) (ν := mX3_built_2) (av := [_, _, _, _, _]) (st := []) rfl rfl (dX27_infer 32 rfl rfl) (Nat.le_of_ble_eq_true rfl) wX3_built_2 q213 (inv_V (k := 2) (dX27_infer 32 rfl rfl) q2480 q2349 q2350 wX3_built_2 (by decide) lX3_built_2 (by decide) s2.1) (exN (by decide)) rfl ?_
    refine C.mono hf (fun _ _ => KI.g (fun x12 h10 hf le11 => ?_))
    have k1 := leK le11 k1 (by decide)
    have k4 := leK le11 k4 (by decide)
    have k8 := leK le11 k8 (by decide)
    have k9 := leK le11 k9 (by decide)
    replace s2 := s2.le sc2 (le11)
    replace s6 := s6.le sc6 (le11)
    exact x_iret (dX27_infer 33 rfl rfl) rfl hf
  · replace hf := hf.2 c5
    refine x_aload_n (pc' := 20) 2 (dX27_infer 12 rfl rfl) rfl rfl rfl ?_
    refine x_iload_n (pc' := 21) 3 (dX27_infer 13 rfl rfl) rfl rfl rfl ?_
    refine x_aload_n (pc' := 22) 0 (dX27_infer 14 rfl rfl) rfl rfl rfl ?_
    obtain ⟨b13, e14, hf⟩ := hf
    refine x_getR (pc' := 25) (dX27_infer 15 rfl rfl) g310 q1452 (Or.inl rfl) rfl (hf_of 25 k1 rfl (by decide) m25_310) e14 ?_
    refine x_iload_n (pc' := 26) 3 (dX27_infer 16 rfl rfl) rfl rfl rfl ?_
    obtain ⟨k15, hf⟩ := hf
    obtain ⟨i16, hf⟩ := hf
    obtain ⟨b17, e18, hf⟩ := hf
    refine x_aald (pc' := 27) (t := 8) (C := "LetMill$Pat") (dX27_infer 17 rfl rfl) rfl (by decide) rfl k15 i16 e18 ?_
    refine x_aload_n (pc' := 28) 1 (dX27_infer 18 rfl rfl) rfl rfl rfl ?_
    obtain ⟨k, ν, ⟨v0, v1, v2, v3, v4, v5, v6, v7⟩, k28, hf⟩ := hf
    refine x_inv (pc' := 31) (ν := ν) (st := [_, _]) rfl (sub_tr v7 rfl) (dX27_infer 19 rfl rfl) (by have := v5; simp only [List.map, List.sum_cons, List.sum_nil, Value.category]; omega) v1 v2 (inv_U (k := k) (av := [_]) (dX27_infer 19 rfl rfl) q2477 q2436 (by decide) v3 v4 (by decide) (show _ = some 1 by decide +kernel) v0 k28) (exN v6) rfl ?_
    refine C.mono hf (fun _ _ => KI.g (fun x21 h19 hf le20 => ?_))
    replace le20 := Le.nx v6 le20
    have k1 := leK le20 k1 (by decide)
    have k4 := leK le20 k4 (by decide)
    have k15 := leK le20 k15 (by decide)
    replace s2 := s2.le sc2 (le20)
    replace s6 := s6.le sc6 (le20)
    obtain ⟨k22, hf⟩ := hf
    obtain ⟨n26, hf⟩ := hf
    obtain ⟨i23, hf⟩ := hf
    refine x_iast (pc' := 32) (dX27_infer 20 rfl rfl) rfl k22 (Or.inr ⟨n26, by decide⟩) i23 (fun h24 e25 => ?_)
    replace hf := hf h24 e25
    replace k1 : hK h24 l0 = 26 := by rw [e25]; exact k1
    replace k4 : hK h24 b2 = 1008 := by rw [e25]; exact k4
    replace k15 : hK h24 b13 = 1008 := by rw [e25]; exact k15
    replace k22 : hK h24 l2 = 1000 := by rw [e25]; exact k22
    replace s2 : So 2 (gW G) h24 := by rw [e25]; exact s2.le sc2 (sI_le )
    replace s6 : So 6 (gW G) h24 := by rw [e25]; exact s6.le sc6 (sI_le )
    replace hf := hf _ rfl
    refine x_iinc (pc' := 35) 3 (dX27_infer 21 rfl rfl) rfl (by rfl) (by decide) rfl rfl ?_
    refine x_goto (tgt := 10) (dX27_infer 22 rfl rfl) (by decide) ?_
    exact X.sub [1, 2, 3, 0] rfl (by simp) hf
theorem bX27_shape (G : Gh) (d : Nat) (h : AH) (Q : Outcome → AH → Prop) (a0 : Nat) (s5 : So 5 (gW G) h) (hf : hK h a0 = 26 ∧ (∃ b2, fR h a0 310 = some b2 ∧ (C G mX10_tuple d [.ref (gW G 5), .ref (b2)] h (KI Q (fun x6 h4 => Q (.returned (some (.int x6))) h4))))) : C G mX27_shape (d + 1) [.ref (a0), .ref (gW G 5)] h Q := by
  refine C.of_X (by decide +kernel) (Nat.le_of_ble_eq_true rfl) wX27_shape ?_
  show X G mX27_shape (d + 1) none [] 0 [(0, .ref (a0)), (1, .ref (gW G 5))] [] h Q
  refine x_aload_n (pc' := 1) 1 (dX27_shape 0 rfl rfl) rfl rfl rfl ?_
  refine x_aload_n (pc' := 2) 0 (dX27_shape 1 rfl rfl) rfl rfl rfl ?_
  obtain ⟨k1, hf⟩ := hf
  obtain ⟨b2, e3, hf⟩ := hf
  refine x_getR (pc' := 5) (dX27_shape 2 rfl rfl) g310 q1452 (Or.inl rfl) rfl (hf_of 25 k1 rfl (by decide) m25_310) e3 ?_
  refine x_inv (pc' := 8) (ν := mX10_tuple) (av := [_, _]) (st := []) rfl rfl (dX27_shape 3 rfl rfl) (Nat.le_of_ble_eq_true rfl) wX10_tuple q224 (inv_V (k := 8) (dX27_shape 3 rfl rfl) q2577 q2578 q2579 wX10_tuple (by decide) lX10_tuple (by decide) s5.1) (exN (by decide)) rfl ?_
  refine C.mono hf (fun _ _ => KI.g (fun x6 h4 hf le5 => ?_))
  have k1 := leK le5 k1 (by decide)
  replace s5 := s5.le sc5 (le5)
  exact x_iret (dX27_shape 4 rfl rfl) rfl hf
theorem bX27_fits (G : Gh) (d : Nat) (h : AH) (Q : Outcome → AH → Prop) (a0 : Nat) (p2 : Int32) (hf : X G mX27_fits (d + 1) none [] 2 [(0, .ref (a0)), (1, .ref (gW G 3)), (2, .int (p2)), (3, .int (0))] [] h Q) : C G mX27_fits (d + 1) [.ref (a0), .ref (gW G 3), .int (p2)] h Q := by
  refine C.of_X (by decide +kernel) (Nat.le_of_ble_eq_true rfl) wX27_fits ?_
  show X G mX27_fits (d + 1) none [] 0 [(0, .ref (a0)), (1, .ref (gW G 3)), (2, .int (p2))] [] h Q
  refine x_iconst (pc' := 1) (v := 0) (dX27_fits 0 rfl rfl) (by decide) rfl ?_
  refine x_istore_n (pc' := 2) (dX27_fits 1 rfl rfl) rfl (by decide) rfl rfl ?_
  exact X.sub [1, 2, 3, 0] rfl (by simp) hf
theorem bX27_fits_2 (G : Gh) (d : Nat) (h : AH) (Q : Outcome → AH → Prop) (l0 : Nat) (l2 : Int32) (l3 : Int32) (s3 : So 3 (gW G) h) (hf : hK h l0 = 26 ∧ (∃ b2, fR h l0 310 = some b2 ∧ (hK h b2 = 1008 ∧ (((Int32.ofNat (hL h b2)) ≤ l3 → (Q (.returned (some (.int 1))) h)) ∧ (¬ ((Int32.ofNat (hL h b2)) ≤ l3) → (∃ b6, fR h l0 310 = some b6 ∧ (hK h b6 = 1008 ∧ vp_in l3 (hL h b6) ∧ ∃ b10, aR h b6 l3.toNatClampNeg = some b10 ∧ (C G mX6_part d [.ref (gW G 3), .int (l2), .int (l3)] h (KI Q (fun x14 h12 => ∃ (k : Nat) (ν : Mu), VT ⟨"LetMill$Pat", "fits", "(LLetMill$Machine;I)Z"⟩ VMPat_fits k ν ∧ hK h12 b10 = k + 1 ∧ C G ν d [.ref (b10), .ref (gW G 3), .int (x14)] h12 (KI Q (fun x17 h15 => (x17 = 0 → (Q (.returned (some (.int 0))) h15)) ∧ (¬ x17 = 0 → (∀ x19 : Int32, x19 = l3 + 1 → (X G mX27_fits (d + 1) none [] 2 [(0, .ref (l0)), (1, .ref (gW G 3)), (2, .int (l2)), (3, .int (x19))] [] h15 Q))))))))))))))) : X G mX27_fits (d + 1) none [] 2 [(0, .ref (l0)), (1, .ref (gW G 3)), (2, .int (l2)), (3, .int (l3))] [] h Q := by
  refine x_iload_n (pc' := 3) 3 (dX27_fits 2 rfl rfl) rfl rfl rfl ?_
  refine x_aload_n (pc' := 4) 0 (dX27_fits 3 rfl rfl) rfl rfl rfl ?_
  obtain ⟨k1, hf⟩ := hf
  obtain ⟨b2, e3, hf⟩ := hf
  refine x_getR (pc' := 7) (dX27_fits 4 rfl rfl) g310 q1452 (Or.inl rfl) rfl (hf_of 25 k1 rfl (by decide) m25_310) e3 ?_
  obtain ⟨k4, hf⟩ := hf
  refine x_alen (pc' := 8) (t := 8) (ty := .object "LetMill$Pat") (dX27_fits 5 rfl rfl) rfl rfl k4 ?_
  refine x_icmp_ge (pc' := 11) (tgt := 38) (dX27_fits 6 rfl rfl) (by decide) rfl (fun c5 => ?_) (fun c5 => ?_)
  · replace hf := hf.1 c5
    refine x_iconst (pc' := 39) (v := 1) (dX27_fits 22 rfl rfl) (by decide) rfl ?_
    exact x_zret (ty := .boolean) (dX27_fits 23 rfl rfl) rfl (by decide) hf
  · replace hf := hf.2 c5
    refine x_aload_n (pc' := 12) 0 (dX27_fits 7 rfl rfl) rfl rfl rfl ?_
    obtain ⟨b6, e7, hf⟩ := hf
    refine x_getR (pc' := 15) (dX27_fits 8 rfl rfl) g310 q1452 (Or.inl rfl) rfl (hf_of 25 k1 rfl (by decide) m25_310) e7 ?_
    refine x_iload_n (pc' := 16) 3 (dX27_fits 9 rfl rfl) rfl rfl rfl ?_
    obtain ⟨k8, hf⟩ := hf
    obtain ⟨i9, hf⟩ := hf
    obtain ⟨b10, e11, hf⟩ := hf
    refine x_aald (pc' := 17) (t := 8) (C := "LetMill$Pat") (dX27_fits 10 rfl rfl) rfl (by decide) rfl k8 i9 e11 ?_
    refine x_aload_n (pc' := 18) 1 (dX27_fits 11 rfl rfl) rfl rfl rfl ?_
    refine x_aload_n (pc' := 19) 1 (dX27_fits 12 rfl rfl) rfl rfl rfl ?_
    refine x_iload_n (pc' := 20) 2 (dX27_fits 13 rfl rfl) rfl rfl rfl ?_
    refine x_iload_n (pc' := 21) 3 (dX27_fits 14 rfl rfl) rfl rfl rfl ?_
    refine x_inv (pc' := 24) (ν := mX6_part) (av := [_, _, _]) (st := [_, _]) rfl rfl (dX27_fits 15 rfl rfl) (Nat.le_of_ble_eq_true rfl) wX6_part q220 (inv_V (k := 4) (dX27_fits 15 rfl rfl) q3149 q3094 q3095 wX6_part (by decide) lX6_part (by decide) s3.1) (exN (by decide)) rfl ?_
    refine C.mono hf (fun _ _ => KI.g (fun x14 h12 hf le13 => ?_))
    have k1 := leK le13 k1 (by decide)
    have k4 := leK le13 k4 (by decide)
    have k8 := leK le13 k8 (by decide)
    replace s3 := s3.le sc3 (le13)
    obtain ⟨k, ν, ⟨v0, v1, v2, v3, v4, v5, v6, v7⟩, k20, hf⟩ := hf
    refine x_inv (pc' := 27) (ν := ν) (st := []) rfl (sub_tr v7 rfl) (dX27_fits 16 rfl rfl) (by have := v5; simp only [List.map, List.sum_cons, List.sum_nil, Value.category]; omega) v1 v2 (inv_U (k := k) (av := [_, _]) (dX27_fits 16 rfl rfl) q3150 q3105 (by decide) v3 v4 (by decide) (show _ = some 2 by decide +kernel) v0 k20) (exN v6) rfl ?_
    refine C.mono hf (fun _ _ => KI.g (fun x17 h15 hf le16 => ?_))
    replace le16 := Le.nx v6 le16
    have k1 := leK le16 k1 (by decide)
    have k4 := leK le16 k4 (by decide)
    have k8 := leK le16 k8 (by decide)
    replace s3 := s3.le sc3 (le16)
    refine x_if_ne (pc' := 30) (tgt := 32) (dX27_fits 17 rfl rfl) (by decide) rfl (fun c18 => ?_) (fun c18 => ?_)
    · replace hf := hf.2 c18
      replace hf := hf _ rfl
      refine x_iinc (pc' := 35) 3 (dX27_fits 20 rfl rfl) rfl (by rfl) (by decide) rfl rfl ?_
      refine x_goto (tgt := 2) (dX27_fits 21 rfl rfl) (by decide) ?_
      exact X.sub [1, 2, 3, 0] rfl (by simp) hf
    · replace hf := hf.1 (Classical.not_not.mp c18)
      replace c18 := Classical.not_not.mp c18
      refine x_iconst (pc' := 31) (v := 0) (dX27_fits 18 rfl rfl) (by decide) rfl ?_
      exact x_zret (ty := .boolean) (dX27_fits 19 rfl rfl) rfl (by decide) hf
theorem bX27_bind (G : Gh) (d : Nat) (h : AH) (Q : Outcome → AH → Prop) (a0 : Nat) (p2 : Int32) (p3 : Int32) (hf : X G mX27_bind (d + 1) none [] 6 [(0, .ref (a0)), (1, .ref (gW G 3)), (2, .int (p2)), (4, .int (p3)), (5, .int (0))] [] h Q) : C G mX27_bind (d + 1) [.ref (a0), .ref (gW G 3), .int (p2), .int (p3)] h Q := by
  refine C.of_X (by decide +kernel) (Nat.le_of_ble_eq_true rfl) wX27_bind ?_
  show X G mX27_bind (d + 1) none [] 0 [(0, .ref (a0)), (1, .ref (gW G 3)), (2, .int (p2)), (3, .int (p3))] [] h Q
  refine x_iload_n (pc' := 1) 3 (dX27_bind 0 rfl rfl) rfl rfl rfl ?_
  refine x_istore (pc' := 3) (dX27_bind 1 rfl rfl) (by decide) rfl rfl ?_
  refine x_iconst (pc' := 4) (v := 0) (dX27_bind 2 rfl rfl) (by decide) rfl ?_
  refine x_istore (pc' := 6) (dX27_bind 3 rfl rfl) (by decide) rfl rfl ?_
  exact X.sub [2, 3, 4, 1, 0] rfl (by simp) hf
theorem bX27_bind_6 (G : Gh) (d : Nat) (h : AH) (Q : Outcome → AH → Prop) (l0 : Nat) (l2 : Int32) (l4 : Int32) (l5 : Int32) (s3 : So 3 (gW G) h) (hf : hK h l0 = 26 ∧ (∃ b2, fR h l0 310 = some b2 ∧ (hK h b2 = 1008 ∧ (((Int32.ofNat (hL h b2)) ≤ l5 → (Q (.returned (some (.int l4))) h)) ∧ (¬ ((Int32.ofNat (hL h b2)) ≤ l5) → (∃ b6, fR h l0 310 = some b6 ∧ (hK h b6 = 1008 ∧ vp_in l5 (hL h b6) ∧ ∃ b10, aR h b6 l5.toNatClampNeg = some b10 ∧ (C G mX6_part d [.ref (gW G 3), .int (l2), .int (l5)] h (KI Q (fun x14 h12 => ∃ (k : Nat) (ν : Mu), VT yX19_bind VMPat_bind k ν ∧ hK h12 b10 = k + 1 ∧ C G ν d [.ref (b10), .ref (gW G 3), .int (x14), .int (l4)] h12 (KI Q (fun x17 h15 => ∀ x18 : Int32, x18 = l5 + 1 → (X G mX27_bind (d + 1) none [] 6 [(0, .ref (l0)), (1, .ref (gW G 3)), (2, .int (l2)), (4, .int (x17)), (5, .int (x18))] [] h15 Q))))))))))))) : X G mX27_bind (d + 1) none [] 6 [(0, .ref (l0)), (1, .ref (gW G 3)), (2, .int (l2)), (4, .int (l4)), (5, .int (l5))] [] h Q := by
  refine x_iload (pc' := 8) 4 (dX27_bind 4 rfl rfl) rfl rfl ?_
  refine x_aload_n (pc' := 9) 0 (dX27_bind 5 rfl rfl) rfl rfl rfl ?_
  obtain ⟨k1, hf⟩ := hf
  obtain ⟨b2, e3, hf⟩ := hf
  refine x_getR (pc' := 12) (dX27_bind 6 rfl rfl) g310 q1452 (Or.inl rfl) rfl (hf_of 25 k1 rfl (by decide) m25_310) e3 ?_
  obtain ⟨k4, hf⟩ := hf
  refine x_alen (pc' := 13) (t := 8) (ty := .object "LetMill$Pat") (dX27_bind 7 rfl rfl) rfl rfl k4 ?_
  refine x_icmp_ge (pc' := 16) (tgt := 44) (dX27_bind 8 rfl rfl) (by decide) rfl (fun c5 => ?_) (fun c5 => ?_)
  · replace hf := hf.1 c5
    refine x_iload (pc' := 46) 3 (dX27_bind 23 rfl rfl) rfl rfl ?_
    exact x_iret (dX27_bind 24 rfl rfl) rfl hf
  · replace hf := hf.2 c5
    refine x_aload_n (pc' := 17) 0 (dX27_bind 9 rfl rfl) rfl rfl rfl ?_
    obtain ⟨b6, e7, hf⟩ := hf
    refine x_getR (pc' := 20) (dX27_bind 10 rfl rfl) g310 q1452 (Or.inl rfl) rfl (hf_of 25 k1 rfl (by decide) m25_310) e7 ?_
    refine x_iload (pc' := 22) 4 (dX27_bind 11 rfl rfl) rfl rfl ?_
    obtain ⟨k8, hf⟩ := hf
    obtain ⟨i9, hf⟩ := hf
    obtain ⟨b10, e11, hf⟩ := hf
    refine x_aald (pc' := 23) (t := 8) (C := "LetMill$Pat") (dX27_bind 12 rfl rfl) rfl (by decide) rfl k8 i9 e11 ?_
    refine x_aload_n (pc' := 24) 1 (dX27_bind 13 rfl rfl) rfl rfl rfl ?_
    refine x_aload_n (pc' := 25) 1 (dX27_bind 14 rfl rfl) rfl rfl rfl ?_
    refine x_iload_n (pc' := 26) 2 (dX27_bind 15 rfl rfl) rfl rfl rfl ?_
    refine x_iload (pc' := 28) 4 (dX27_bind 16 rfl rfl) rfl rfl ?_
    refine x_inv (pc' := 31) (ν := mX6_part) (av := [_, _, _]) (st := [_, _]) rfl rfl (dX27_bind 17 rfl rfl) (Nat.le_of_ble_eq_true rfl) wX6_part q220 (inv_V (k := 4) (dX27_bind 17 rfl rfl) q3149 q3094 q3095 wX6_part (by decide) lX6_part (by decide) s3.1) (exN (by decide)) rfl ?_
    refine C.mono hf (fun _ _ => KI.g (fun x14 h12 hf le13 => ?_))
    have k1 := leK le13 k1 (by decide)
    have k4 := leK le13 k4 (by decide)
    have k8 := leK le13 k8 (by decide)
    replace s3 := s3.le sc3 (le13)
    refine x_iload (pc' := 33) 3 (dX27_bind 18 rfl rfl) rfl rfl ?_
    obtain ⟨k, ν, ⟨v0, v1, v2, v3, v4, v5, v6, v7⟩, k19, hf⟩ := hf
    refine x_inv (pc' := 36) (ν := ν) (st := []) rfl (sub_tr v7 rfl) (dX27_bind 19 rfl rfl) (by have := v5; simp only [List.map, List.sum_cons, List.sum_nil, Value.category]; omega) v1 v2 (inv_O (ξ := mX19_bind) (k := k) (av := [_, _, _]) (dX27_bind 19 rfl rfl) q3187 q3167 q3166 q3195 v3 v4 (by decide) lX19_bind v0 k19) (exN v6) rfl ?_
    refine C.mono hf (fun _ _ => KI.g (fun x17 h15 hf le16 => ?_))
    replace le16 := Le.nx v6 le16
    have k1 := leK le16 k1 (by decide)
    have k4 := leK le16 k4 (by decide)
    have k8 := leK le16 k8 (by decide)
    replace s3 := s3.le sc3 (le16)
    refine x_istore (pc' := 38) (dX27_bind 20 rfl rfl) (by decide) rfl rfl ?_
    replace hf := hf _ rfl
    refine x_iinc (pc' := 41) 4 (dX27_bind 21 rfl rfl) rfl (by rfl) (by decide) rfl rfl ?_
    refine x_goto (tgt := 6) (dX27_bind 22 rfl rfl) (by decide) ?_
    exact X.sub [2, 3, 4, 1, 0] rfl (by simp) hf
theorem bX28_init (G : Gh) (d : Nat) (h : AH) (Q : Outcome → AH → Prop) (a0 : Nat) (p1 : Int32) (p2 : Nat) (p3 : Nat) (hf : C G mX19_init d [.ref (a0), .int (p1)] h (KV Q (fun h1 => hK h1 a0 = 27 ∧ (∀ h4, h4 = pR h1 a0 311 (some p2) → (∀ h5, h5 = pR h4 a0 312 (some p3) → (Q (.returned none) h5)))))) : C G mX28_init (d + 1) [.ref (a0), .int (p1), .ref (p2), .ref (p3)] h Q := by
  refine C.of_X (by decide +kernel) (Nat.le_of_ble_eq_true rfl) wX28_init ?_
  show X G mX28_init (d + 1) (some a0) [] 0 [(0, .ref (a0)), (1, .int (p1)), (2, .ref (p2)), (3, .ref (p3))] [] h Q
  refine x_aload_n (pc' := 1) 0 (dX28_init 0 rfl rfl) rfl rfl rfl ?_
  refine x_iload_n (pc' := 2) 1 (dX28_init 1 rfl rfl) rfl rfl rfl ?_
  refine x_inv (pc' := 5) (ν := mX19_init) (av := [_, _]) (st := []) rfl rfl (dX28_init 2 rfl rfl) (Nat.le_of_ble_eq_true rfl) wX19_init q240 (inv_I (dX28_init 2 rfl rfl) q1462 q1344 q1345 rfl (by decide) lX19_init) (fun b hb => by exact Or.inr (by rw [← hb]; rfl)) rfl ?_
  refine C.mono hf (fun _ _ => KV.g (fun h1 hf le2 => ?_))
  refine x_aload_n (pc' := 6) 0 (dX28_init 3 rfl rfl) rfl rfl rfl ?_
  refine x_aload_n (pc' := 7) 2 (dX28_init 4 rfl rfl) rfl rfl rfl ?_
  obtain ⟨k3, hf⟩ := hf
  refine x_putR (pc' := 10) (dX28_init 5 rfl rfl) g311 q1463 (Or.inl rfl) (Or.inr ⟨rfl, rfl, rfl, rfl⟩) (Or.inr rfl) rfl (hf_of 26 k3 rfl (by decide) m26_311) (fun h4 e7 => ?_)
  replace hf := hf h4 e7
  replace k3 : hK h4 a0 = 27 := by rw [e7]; exact k3
  refine x_aload_n (pc' := 11) 0 (dX28_init 6 rfl rfl) rfl rfl rfl ?_
  refine x_aload_n (pc' := 12) 3 (dX28_init 7 rfl rfl) rfl rfl rfl ?_
  refine x_putR (pc' := 15) (dX28_init 8 rfl rfl) g312 q1464 (Or.inl rfl) (Or.inr ⟨rfl, rfl, rfl, rfl⟩) (Or.inr rfl) rfl (hf_of 26 k3 rfl (by decide) m26_312) (fun h5 e6 => ?_)
  replace hf := hf h5 e6
  replace k3 : hK h5 a0 = 27 := by rw [e6]; exact k3
  exact x_vret (dX28_init 9 rfl rfl) rfl hf
theorem bX28_resolveFrom (G : Gh) (d : Nat) (h : AH) (Q : Outcome → AH → Prop) (a0 : Nat) (p2 : Int32) (hf : hK h a0 = 27 ∧ (∃ b2, fR h a0 311 = some b2 ∧ (∃ (k : Nat) (ν : Mu), VT ⟨"LetMill$Pat", "resolveFrom", "(LLetMill$Scope;I)V"⟩ VMPat_resolveFrom k ν ∧ hK h b2 = k + 1 ∧ C G ν d [.ref (b2), .ref (gW G 4), .int (p2)] h (KV Q (fun h4 => ∃ b6, fR h4 a0 312 = some b6 ∧ (∃ (k : Nat) (ν : Mu), VT ⟨"LetMill$Pat", "resolveFrom", "(LLetMill$Scope;I)V"⟩ VMPat_resolveFrom k ν ∧ hK h4 b6 = k + 1 ∧ C G ν d [.ref (b6), .ref (gW G 4), .int (p2)] h4 (KV Q (fun h8 => Q (.returned none) h8)))))))) : C G mX28_resolveFrom (d + 1) [.ref (a0), .ref (gW G 4), .int (p2)] h Q := by
  refine C.of_X (by decide +kernel) (Nat.le_of_ble_eq_true rfl) wX28_resolveFrom ?_
  show X G mX28_resolveFrom (d + 1) none [] 0 [(0, .ref (a0)), (1, .ref (gW G 4)), (2, .int (p2))] [] h Q
  refine x_aload_n (pc' := 1) 0 (dX28_resolveFrom 0 rfl rfl) rfl rfl rfl ?_
  obtain ⟨k1, hf⟩ := hf
  obtain ⟨b2, e3, hf⟩ := hf
  refine x_getR (pc' := 4) (dX28_resolveFrom 1 rfl rfl) g311 q1463 (Or.inl rfl) rfl (hf_of 26 k1 rfl (by decide) m26_311) e3 ?_
  refine x_aload_n (pc' := 5) 1 (dX28_resolveFrom 2 rfl rfl) rfl rfl rfl ?_
  refine x_iload_n (pc' := 6) 2 (dX28_resolveFrom 3 rfl rfl) rfl rfl rfl ?_
  obtain ⟨k, ν, ⟨v0, v1, v2, v3, v4, v5, v6, v7⟩, k13, hf⟩ := hf
  refine x_inv (pc' := 9) (ν := ν) (st := []) rfl (sub_tr v7 rfl) (dX28_resolveFrom 4 rfl rfl) (by have := v5; simp only [List.map, List.sum_cons, List.sum_nil, Value.category]; omega) v1 v2 (inv_U (k := k) (av := [_, _]) (dX28_resolveFrom 4 rfl rfl) q2236 q2209 (by decide) v3 v4 (by decide) (show _ = some 2 by decide +kernel) v0 k13) (exN v6) rfl ?_
  refine C.mono hf (fun _ _ => KV.g (fun h4 hf le5 => ?_))
  replace le5 := Le.nx v6 le5
  have k1 := leK le5 k1 (by decide)
  refine x_aload_n (pc' := 10) 0 (dX28_resolveFrom 5 rfl rfl) rfl rfl rfl ?_
  obtain ⟨b6, e7, hf⟩ := hf
  refine x_getR (pc' := 13) (dX28_resolveFrom 6 rfl rfl) g312 q1464 (Or.inl rfl) rfl (hf_of 26 k1 rfl (by decide) m26_312) e7 ?_
  refine x_aload_n (pc' := 14) 1 (dX28_resolveFrom 7 rfl rfl) rfl rfl rfl ?_
  refine x_iload_n (pc' := 15) 2 (dX28_resolveFrom 8 rfl rfl) rfl rfl rfl ?_
  obtain ⟨k, ν, ⟨v0, v1, v2, v3, v4, v5, v6, v7⟩, k10, hf⟩ := hf
  refine x_inv (pc' := 18) (ν := ν) (st := []) rfl (sub_tr v7 rfl) (dX28_resolveFrom 9 rfl rfl) (by have := v5; simp only [List.map, List.sum_cons, List.sum_nil, Value.category]; omega) v1 v2 (inv_U (k := k) (av := [_, _]) (dX28_resolveFrom 9 rfl rfl) q2236 q2209 (by decide) v3 v4 (by decide) (show _ = some 2 by decide +kernel) v0 k10) (exN v6) rfl ?_
  refine C.mono hf (fun _ _ => KV.g (fun h8 hf le9 => ?_))
  replace le9 := Le.nx v6 le9
  have k1 := leK le9 k1 (by decide)
  exact x_vret (dX28_resolveFrom 10 rfl rfl) rfl hf
theorem bX28_infer (G : Gh) (d : Nat) (h : AH) (Q : Outcome → AH → Prop) (a0 : Nat) (s2 : So 2 (gW G) h) (s6 : So 6 (gW G) h) (hf : hK h a0 = 27 ∧ (∃ b2, fR h a0 311 = some b2 ∧ (∃ (k : Nat) (ν : Mu), VT ⟨"LetMill$Pat", "infer", "(LLetMill$Typer;)I"⟩ VMPat_infer k ν ∧ hK h b2 = k + 1 ∧ C G ν d [.ref (b2), .ref (gW G 6)] h (KI Q (fun x6 h4 => ∃ b7, fR h4 a0 312 = some b7 ∧ (∃ (k : Nat) (ν : Mu), VT ⟨"LetMill$Pat", "infer", "(LLetMill$Typer;)I"⟩ VMPat_infer k ν ∧ hK h4 b7 = k + 1 ∧ C G ν d [.ref (b7), .ref (gW G 6)] h4 (KI Q (fun x11 h9 => C G mX3_built_3 d [.ref (gW G 2), .int (10), .int (x6)] h9 (KI Q (fun x14 h12 => ∃ b15, fR h12 a0 312 = some b15 ∧ (HF h12 b15 302 0 ∧ (C G mX11_same d [.ref (gW G 6), .int (x11), .int (x14), .int (fI h12 b15 302)] h12 (KV Q (fun h18 => Q (.returned (some (.int x14))) h18)))))))))))))) : C G mX28_infer (d + 1) [.ref (a0), .ref (gW G 6)] h Q := by
  refine C.of_X (by decide +kernel) (Nat.le_of_ble_eq_true rfl) wX28_infer ?_
  show X G mX28_infer (d + 1) none [] 0 [(0, .ref (a0)), (1, .ref (gW G 6))] [] h Q
  refine x_aload_n (pc' := 1) 0 (dX28_infer 0 rfl rfl) rfl rfl rfl ?_
  obtain ⟨k1, hf⟩ := hf
  obtain ⟨b2, e3, hf⟩ := hf
  refine x_getR (pc' := 4) (dX28_infer 1 rfl rfl) g311 q1463 (Or.inl rfl) rfl (hf_of 26 k1 rfl (by decide) m26_311) e3 ?_
  refine x_aload_n (pc' := 5) 1 (dX28_infer 2 rfl rfl) rfl rfl rfl ?_
  obtain ⟨k, ν, ⟨v0, v1, v2, v3, v4, v5, v6, v7⟩, k23, hf⟩ := hf
  refine x_inv (pc' := 8) (ν := ν) (st := []) rfl (sub_tr v7 rfl) (dX28_infer 3 rfl rfl) (by have := v5; simp only [List.map, List.sum_cons, List.sum_nil, Value.category]; omega) v1 v2 (inv_U (k := k) (av := [_]) (dX28_infer 3 rfl rfl) q2474 q2436 (by decide) v3 v4 (by decide) (show _ = some 1 by decide +kernel) v0 k23) (exN v6) rfl ?_
  refine C.mono hf (fun _ _ => KI.g (fun x6 h4 hf le5 => ?_))
  replace le5 := Le.nx v6 le5
  have k1 := leK le5 k1 (by decide)
  replace s2 := s2.le sc2 (le5)
  replace s6 := s6.le sc6 (le5)
  refine x_istore_n (pc' := 9) (dX28_infer 4 rfl rfl) rfl (by decide) rfl rfl ?_
  refine x_aload_n (pc' := 10) 1 (dX28_infer 5 rfl rfl) rfl rfl rfl ?_
  obtain ⟨b7, e8, hf⟩ := hf
  refine x_getR (pc' := 13) (dX28_infer 6 rfl rfl) g312 q1464 (Or.inl rfl) rfl (hf_of 26 k1 rfl (by decide) m26_312) e8 ?_
  refine x_aload_n (pc' := 14) 2 (dX28_infer 7 rfl rfl) rfl rfl rfl ?_
  obtain ⟨k, ν, ⟨v0, v1, v2, v3, v4, v5, v6, v7⟩, k20, hf⟩ := hf
  refine x_inv (pc' := 17) (ν := ν) (st := []) rfl (sub_tr v7 rfl) (dX28_infer 8 rfl rfl) (by have := v5; simp only [List.map, List.sum_cons, List.sum_nil, Value.category]; omega) v1 v2 (inv_U (k := k) (av := [_]) (dX28_infer 8 rfl rfl) q2474 q2436 (by decide) v3 v4 (by decide) (show _ = some 1 by decide +kernel) v0 k20) (exN v6) rfl ?_
  refine C.mono hf (fun _ _ => KI.g (fun x11 h9 hf le10 => ?_))
  replace le10 := Le.nx v6 le10
  have k1 := leK le10 k1 (by decide)
  replace s2 := s2.le sc2 (le10)
  replace s6 := s6.le sc6 (le10)
  refine x_istore_n (pc' := 18) (dX28_infer 9 rfl rfl) rfl (by decide) rfl rfl ?_
  refine x_aload_n (pc' := 19) 3 (dX28_infer 10 rfl rfl) rfl rfl rfl ?_
  refine x_getR (pc' := 22) (dX28_infer 11 rfl rfl) g108 q810 (Or.inl rfl) rfl (hf_of 9 s6.1 rfl (by decide) m9_108) (s6.2 0 _ rfl rfl).1 ?_
  refine x_bipush (pc' := 24) (v := 10) (dX28_infer 12 rfl rfl) (by decide) rfl ?_
  refine x_iload_n (pc' := 25) 1 (dX28_infer 13 rfl rfl) rfl rfl rfl ?_
  refine x_inv (pc' := 28) (ν := mX3_built_3) (av := [_, _, _]) (st := []) rfl rfl (dX28_infer 14 rfl rfl) (Nat.le_of_ble_eq_true rfl) wX3_built_3 q213 (inv_V (k := 2) (dX28_infer 14 rfl rfl) q2481 q2378 q2379 wX3_built_3 (by decide) lX3_built_3 (by decide) s2.1) (exN (by decide)) rfl ?_
  refine C.mono hf (fun _ _ => KI.g (fun x14 h12 hf le13 => ?_))
  have k1 := leK le13 k1 (by decide)
  replace s2 := s2.le sc2 (le13)
  replace s6 := s6.le sc6 (le13)
  refine x_istore (pc' := 30) (dX28_infer 15 rfl rfl) (by decide) rfl rfl ?_
  refine x_aload_n (pc' := 31) 4 (dX28_infer 16 rfl rfl) rfl rfl rfl ?_
  refine x_iload_n (pc' := 32) 1 (dX28_infer 17 rfl rfl) rfl rfl rfl ?_
  refine x_iload (pc' := 34) 0 (dX28_infer 18 rfl rfl) rfl rfl ?_
  refine x_aload_n (pc' := 35) 3 (dX28_infer 19 rfl rfl) rfl rfl rfl ?_
  obtain ⟨b15, e16, hf⟩ := hf
  refine x_getR (pc' := 38) (dX28_infer 20 rfl rfl) g312 q1464 (Or.inl rfl) rfl (hf_of 26 k1 rfl (by decide) m26_312) e16 ?_
  obtain ⟨u17, hf⟩ := hf
  refine x_getI (pc' := 41) (dX28_infer 21 rfl rfl) g302 q1352 (Or.inl rfl) rfl u17 ?_
  refine x_inv (pc' := 44) (ν := mX11_same) (av := [_, _, _, _]) (st := []) rfl rfl (dX28_infer 22 rfl rfl) (Nat.le_of_ble_eq_true rfl) wX11_same q225 (inv_V (k := 9) (dX28_infer 22 rfl rfl) q2482 q2483 q2484 wX11_same (by decide) lX11_same (by decide) s6.1) (exN (by decide)) rfl ?_
  refine C.mono hf (fun _ _ => KV.g (fun h18 hf le19 => ?_))
  have k1 := leK le19 k1 (by decide)
  replace s2 := s2.le sc2 (le19)
  replace s6 := s6.le sc6 (le19)
  refine x_iload (pc' := 46) 0 (dX28_infer 23 rfl rfl) rfl rfl ?_
  exact x_iret (dX28_infer 24 rfl rfl) rfl hf
theorem bX28_shape (G : Gh) (d : Nat) (h : AH) (Q : Outcome → AH → Prop) (a0 : Nat) (s5 : So 5 (gW G) h) (hf : hK h a0 = 27 ∧ (∃ b2, fR h a0 311 = some b2 ∧ (∃ (k : Nat) (ν : Mu), VT ⟨"LetMill$Pat", "shape", "(LLetMill$Matches;)I"⟩ VMPat_shape k ν ∧ hK h b2 = k + 1 ∧ C G ν d [.ref (b2), .ref (gW G 5)] h (KI Q (fun x6 h4 => ∃ b7, fR h4 a0 312 = some b7 ∧ (∃ (k : Nat) (ν : Mu), VT ⟨"LetMill$Pat", "shape", "(LLetMill$Matches;)I"⟩ VMPat_shape k ν ∧ hK h4 b7 = k + 1 ∧ C G ν d [.ref (b7), .ref (gW G 5)] h4 (KI Q (fun x11 h9 => C G mX10_pair d [.ref (gW G 5), .int (x6), .int (x11)] h9 (KI Q (fun x14 h12 => Q (.returned (some (.int x14))) h12)))))))))) : C G mX28_shape (d + 1) [.ref (a0), .ref (gW G 5)] h Q := by
  refine C.of_X (by decide +kernel) (Nat.le_of_ble_eq_true rfl) wX28_shape ?_
  show X G mX28_shape (d + 1) none [] 0 [(0, .ref (a0)), (1, .ref (gW G 5))] [] h Q
  refine x_aload_n (pc' := 1) 1 (dX28_shape 0 rfl rfl) rfl rfl rfl ?_
  refine x_aload_n (pc' := 2) 0 (dX28_shape 1 rfl rfl) rfl rfl rfl ?_
  obtain ⟨k1, hf⟩ := hf
  obtain ⟨b2, e3, hf⟩ := hf
  refine x_getR (pc' := 5) (dX28_shape 2 rfl rfl) g311 q1463 (Or.inl rfl) rfl (hf_of 26 k1 rfl (by decide) m26_311) e3 ?_
  refine x_aload_n (pc' := 6) 1 (dX28_shape 3 rfl rfl) rfl rfl rfl ?_
  obtain ⟨k, ν, ⟨v0, v1, v2, v3, v4, v5, v6, v7⟩, k18, hf⟩ := hf
  refine x_inv (pc' := 9) (ν := ν) (st := [_]) rfl (sub_tr v7 rfl) (dX28_shape 4 rfl rfl) (by have := v5; simp only [List.map, List.sum_cons, List.sum_nil, Value.category]; omega) v1 v2 (inv_U (k := k) (av := [_]) (dX28_shape 4 rfl rfl) q2574 q2544 (by decide) v3 v4 (by decide) (show _ = some 1 by decide +kernel) v0 k18) (exN v6) rfl ?_
  refine C.mono hf (fun _ _ => KI.g (fun x6 h4 hf le5 => ?_))
  replace le5 := Le.nx v6 le5
  have k1 := leK le5 k1 (by decide)
  replace s5 := s5.le sc5 (le5)
  refine x_aload_n (pc' := 10) 0 (dX28_shape 5 rfl rfl) rfl rfl rfl ?_
  obtain ⟨b7, e8, hf⟩ := hf
  refine x_getR (pc' := 13) (dX28_shape 6 rfl rfl) g312 q1464 (Or.inl rfl) rfl (hf_of 26 k1 rfl (by decide) m26_312) e8 ?_
  refine x_aload_n (pc' := 14) 1 (dX28_shape 7 rfl rfl) rfl rfl rfl ?_
  obtain ⟨k, ν, ⟨v0, v1, v2, v3, v4, v5, v6, v7⟩, k15, hf⟩ := hf
  refine x_inv (pc' := 17) (ν := ν) (st := [_, _]) rfl (sub_tr v7 rfl) (dX28_shape 8 rfl rfl) (by have := v5; simp only [List.map, List.sum_cons, List.sum_nil, Value.category]; omega) v1 v2 (inv_U (k := k) (av := [_]) (dX28_shape 8 rfl rfl) q2574 q2544 (by decide) v3 v4 (by decide) (show _ = some 1 by decide +kernel) v0 k15) (exN v6) rfl ?_
  refine C.mono hf (fun _ _ => KI.g (fun x11 h9 hf le10 => ?_))
  replace le10 := Le.nx v6 le10
  have k1 := leK le10 k1 (by decide)
  replace s5 := s5.le sc5 (le10)
  refine x_inv (pc' := 20) (ν := mX10_pair) (av := [_, _, _]) (st := []) rfl rfl (dX28_shape 9 rfl rfl) (Nat.le_of_ble_eq_true rfl) wX10_pair q224 (inv_V (k := 8) (dX28_shape 9 rfl rfl) q2584 q2585 q2586 wX10_pair (by decide) lX10_pair (by decide) s5.1) (exN (by decide)) rfl ?_
  refine C.mono hf (fun _ _ => KI.g (fun x14 h12 hf le13 => ?_))
  have k1 := leK le13 k1 (by decide)
  replace s5 := s5.le sc5 (le13)
  exact x_iret (dX28_shape 10 rfl rfl) rfl hf
theorem bX28_fits (G : Gh) (d : Nat) (h : AH) (Q : Outcome → AH → Prop) (a0 : Nat) (p2 : Int32) (s3 : So 3 (gW G) h) (hf : C G mX6_isPair d [.ref (gW G 3), .int (p2)] h (KI Q (fun x3 h1 => (x3 = 0 → (Q (.returned (some (.int 0))) h1)) ∧ (¬ x3 = 0 → (hK h1 a0 = 27 ∧ (∃ b6, fR h1 a0 311 = some b6 ∧ (C G mX6_head d [.ref (gW G 3), .int (p2)] h1 (KI Q (fun x10 h8 => ∃ (k : Nat) (ν : Mu), VT ⟨"LetMill$Pat", "fits", "(LLetMill$Machine;I)Z"⟩ VMPat_fits k ν ∧ hK h8 b6 = k + 1 ∧ C G ν d [.ref (b6), .ref (gW G 3), .int (x10)] h8 (KI Q (fun x13 h11 => (x13 = 0 → (Q (.returned (some (.int 0))) h11)) ∧ (¬ x13 = 0 → (∃ b15, fR h11 a0 312 = some b15 ∧ (C G mX6_tail d [.ref (gW G 3), .int (p2)] h11 (KI Q (fun x19 h17 => ∃ (k : Nat) (ν : Mu), VT ⟨"LetMill$Pat", "fits", "(LLetMill$Machine;I)Z"⟩ VMPat_fits k ν ∧ hK h17 b15 = k + 1 ∧ C G ν d [.ref (b15), .ref (gW G 3), .int (x19)] h17 (KI Q (fun x22 h20 => (x22 = 0 → (Q (.returned (some (.int 0))) h20)) ∧ (¬ x22 = 0 → (Q (.returned (some (.int 1))) h20)))))))))))))))))))) : C G mX28_fits (d + 1) [.ref (a0), .ref (gW G 3), .int (p2)] h Q := by
  refine C.of_X (by decide +kernel) (Nat.le_of_ble_eq_true rfl) wX28_fits ?_
  show X G mX28_fits (d + 1) none [] 0 [(0, .ref (a0)), (1, .ref (gW G 3)), (2, .int (p2))] [] h Q
  refine x_aload_n (pc' := 1) 1 (dX28_fits 0 rfl rfl) rfl rfl rfl ?_
  refine x_iload_n (pc' := 2) 2 (dX28_fits 1 rfl rfl) rfl rfl rfl ?_
  refine x_inv (pc' := 5) (ν := mX6_isPair) (av := [_, _]) (st := []) rfl rfl (dX28_fits 2 rfl rfl) (Nat.le_of_ble_eq_true rfl) wX6_isPair q220 (inv_V (k := 4) (dX28_fits 2 rfl rfl) q3144 q3128 q3129 wX6_isPair (by decide) lX6_isPair (by decide) s3.1) (exN (by decide)) rfl ?_
  refine C.mono hf (fun _ _ => KI.g (fun x3 h1 hf le2 => ?_))
  replace s3 := s3.le sc3 (le2)
  refine x_if_eq (pc' := 8) (tgt := 44) (dX28_fits 3 rfl rfl) (by decide) rfl (fun c4 => ?_) (fun c4 => ?_)
  · replace hf := hf.1 c4
    refine x_iconst (pc' := 45) (v := 0) (dX28_fits 22 rfl rfl) (by decide) rfl ?_
    exact x_zret (ty := .boolean) (dX28_fits 23 rfl rfl) rfl (by decide) hf
  · replace hf := hf.2 c4
    refine x_aload_n (pc' := 9) 0 (dX28_fits 4 rfl rfl) rfl rfl rfl ?_
    obtain ⟨k5, hf⟩ := hf
    obtain ⟨b6, e7, hf⟩ := hf
    refine x_getR (pc' := 12) (dX28_fits 5 rfl rfl) g311 q1463 (Or.inl rfl) rfl (hf_of 26 k5 rfl (by decide) m26_311) e7 ?_
    refine x_aload_n (pc' := 13) 1 (dX28_fits 6 rfl rfl) rfl rfl rfl ?_
    refine x_aload_n (pc' := 14) 1 (dX28_fits 7 rfl rfl) rfl rfl rfl ?_
    refine x_iload_n (pc' := 15) 2 (dX28_fits 8 rfl rfl) rfl rfl rfl ?_
    refine x_inv (pc' := 18) (ν := mX6_head) (av := [_, _]) (st := [_, _]) rfl rfl (dX28_fits 9 rfl rfl) (Nat.le_of_ble_eq_true rfl) wX6_head q220 (inv_V (k := 4) (dX28_fits 9 rfl rfl) q3145 q3132 q3133 wX6_head (by decide) lX6_head (by decide) s3.1) (exN (by decide)) rfl ?_
    refine C.mono hf (fun _ _ => KI.g (fun x10 h8 hf le9 => ?_))
    have k5 := leK le9 k5 (by decide)
    replace s3 := s3.le sc3 (le9)
    obtain ⟨k, ν, ⟨v0, v1, v2, v3, v4, v5, v6, v7⟩, k27, hf⟩ := hf
    refine x_inv (pc' := 21) (ν := ν) (st := []) rfl (sub_tr v7 rfl) (dX28_fits 10 rfl rfl) (by have := v5; simp only [List.map, List.sum_cons, List.sum_nil, Value.category]; omega) v1 v2 (inv_U (k := k) (av := [_, _]) (dX28_fits 10 rfl rfl) q3146 q3105 (by decide) v3 v4 (by decide) (show _ = some 2 by decide +kernel) v0 k27) (exN v6) rfl ?_
    refine C.mono hf (fun _ _ => KI.g (fun x13 h11 hf le12 => ?_))
    replace le12 := Le.nx v6 le12
    have k5 := leK le12 k5 (by decide)
    replace s3 := s3.le sc3 (le12)
    refine x_if_eq (pc' := 24) (tgt := 44) (dX28_fits 11 rfl rfl) (by decide) rfl (fun c14 => ?_) (fun c14 => ?_)
    · replace hf := hf.1 c14
      refine x_iconst (pc' := 45) (v := 0) (dX28_fits 22 rfl rfl) (by decide) rfl ?_
      exact x_zret (ty := .boolean) (dX28_fits 23 rfl rfl) rfl (by decide) hf
    · replace hf := hf.2 c14
      refine x_aload_n (pc' := 25) 0 (dX28_fits 12 rfl rfl) rfl rfl rfl ?_
      obtain ⟨b15, e16, hf⟩ := hf
      refine x_getR (pc' := 28) (dX28_fits 13 rfl rfl) g312 q1464 (Or.inl rfl) rfl (hf_of 26 k5 rfl (by decide) m26_312) e16 ?_
      refine x_aload_n (pc' := 29) 1 (dX28_fits 14 rfl rfl) rfl rfl rfl ?_
      refine x_aload_n (pc' := 30) 1 (dX28_fits 15 rfl rfl) rfl rfl rfl ?_
      refine x_iload_n (pc' := 31) 2 (dX28_fits 16 rfl rfl) rfl rfl rfl ?_
      refine x_inv (pc' := 34) (ν := mX6_tail) (av := [_, _]) (st := [_, _]) rfl rfl (dX28_fits 17 rfl rfl) (Nat.le_of_ble_eq_true rfl) wX6_tail q220 (inv_V (k := 4) (dX28_fits 17 rfl rfl) q3153 q3154 q3155 wX6_tail (by decide) lX6_tail (by decide) s3.1) (exN (by decide)) rfl ?_
      refine C.mono hf (fun _ _ => KI.g (fun x19 h17 hf le18 => ?_))
      have k5 := leK le18 k5 (by decide)
      replace s3 := s3.le sc3 (le18)
      obtain ⟨k, ν, ⟨v0, v1, v2, v3, v4, v5, v6, v7⟩, k24, hf⟩ := hf
      refine x_inv (pc' := 37) (ν := ν) (st := []) rfl (sub_tr v7 rfl) (dX28_fits 18 rfl rfl) (by have := v5; simp only [List.map, List.sum_cons, List.sum_nil, Value.category]; omega) v1 v2 (inv_U (k := k) (av := [_, _]) (dX28_fits 18 rfl rfl) q3146 q3105 (by decide) v3 v4 (by decide) (show _ = some 2 by decide +kernel) v0 k24) (exN v6) rfl ?_
      refine C.mono hf (fun _ _ => KI.g (fun x22 h20 hf le21 => ?_))
      replace le21 := Le.nx v6 le21
      have k5 := leK le21 k5 (by decide)
      replace s3 := s3.le sc3 (le21)
      refine x_if_eq (pc' := 40) (tgt := 44) (dX28_fits 19 rfl rfl) (by decide) rfl (fun c23 => ?_) (fun c23 => ?_)
      · replace hf := hf.1 c23
        refine x_iconst (pc' := 45) (v := 0) (dX28_fits 22 rfl rfl) (by decide) rfl ?_
        exact x_zret (ty := .boolean) (dX28_fits 23 rfl rfl) rfl (by decide) hf
      · replace hf := hf.2 c23
        refine x_iconst (pc' := 41) (v := 1) (dX28_fits 20 rfl rfl) (by decide) rfl ?_
        refine x_goto (tgt := 45) (dX28_fits 21 rfl rfl) (by decide) ?_
        exact x_zret (ty := .boolean) (dX28_fits 23 rfl rfl) rfl (by decide) hf
theorem bX28_bind (G : Gh) (d : Nat) (h : AH) (Q : Outcome → AH → Prop) (a0 : Nat) (p2 : Int32) (p3 : Int32) (s3 : So 3 (gW G) h) (hf : hK h a0 = 27 ∧ (∃ b2, fR h a0 312 = some b2 ∧ (C G mX6_tail d [.ref (gW G 3), .int (p2)] h (KI Q (fun x6 h4 => ∃ b7, fR h4 a0 311 = some b7 ∧ (C G mX6_head d [.ref (gW G 3), .int (p2)] h4 (KI Q (fun x11 h9 => ∃ (k : Nat) (ν : Mu), VT yX19_bind VMPat_bind k ν ∧ hK h9 b7 = k + 1 ∧ C G ν d [.ref (b7), .ref (gW G 3), .int (x11), .int (p3)] h9 (KI Q (fun x14 h12 => ∃ (k : Nat) (ν : Mu), VT yX19_bind VMPat_bind k ν ∧ hK h12 b2 = k + 1 ∧ C G ν d [.ref (b2), .ref (gW G 3), .int (x6), .int (x14)] h12 (KI Q (fun x17 h15 => Q (.returned (some (.int x17))) h15)))))))))))) : C G mX28_bind (d + 1) [.ref (a0), .ref (gW G 3), .int (p2), .int (p3)] h Q := by
  refine C.of_X (by decide +kernel) (Nat.le_of_ble_eq_true rfl) wX28_bind ?_
  show X G mX28_bind (d + 1) none [] 0 [(0, .ref (a0)), (1, .ref (gW G 3)), (2, .int (p2)), (3, .int (p3))] [] h Q
  refine x_aload_n (pc' := 1) 0 (dX28_bind 0 rfl rfl) rfl rfl rfl ?_
  obtain ⟨k1, hf⟩ := hf
  obtain ⟨b2, e3, hf⟩ := hf
  refine x_getR (pc' := 4) (dX28_bind 1 rfl rfl) g312 q1464 (Or.inl rfl) rfl (hf_of 26 k1 rfl (by decide) m26_312) e3 ?_
  refine x_aload_n (pc' := 5) 1 (dX28_bind 2 rfl rfl) rfl rfl rfl ?_
  refine x_aload_n (pc' := 6) 1 (dX28_bind 3 rfl rfl) rfl rfl rfl ?_
  refine x_iload_n (pc' := 7) 2 (dX28_bind 4 rfl rfl) rfl rfl rfl ?_
  refine x_inv (pc' := 10) (ν := mX6_tail) (av := [_, _]) (st := [_, _]) rfl rfl (dX28_bind 5 rfl rfl) (Nat.le_of_ble_eq_true rfl) wX6_tail q220 (inv_V (k := 4) (dX28_bind 5 rfl rfl) q3153 q3154 q3155 wX6_tail (by decide) lX6_tail (by decide) s3.1) (exN (by decide)) rfl ?_
  refine C.mono hf (fun _ _ => KI.g (fun x6 h4 hf le5 => ?_))
  have k1 := leK le5 k1 (by decide)
  replace s3 := s3.le sc3 (le5)
  refine x_aload_n (pc' := 11) 0 (dX28_bind 6 rfl rfl) rfl rfl rfl ?_
  obtain ⟨b7, e8, hf⟩ := hf
  refine x_getR (pc' := 14) (dX28_bind 7 rfl rfl) g311 q1463 (Or.inl rfl) rfl (hf_of 26 k1 rfl (by decide) m26_311) e8 ?_
  refine x_aload_n (pc' := 15) 1 (dX28_bind 8 rfl rfl) rfl rfl rfl ?_
  refine x_aload_n (pc' := 16) 1 (dX28_bind 9 rfl rfl) rfl rfl rfl ?_
  refine x_iload_n (pc' := 17) 2 (dX28_bind 10 rfl rfl) rfl rfl rfl ?_
  refine x_inv (pc' := 20) (ν := mX6_head) (av := [_, _]) (st := [_, _, _, _, _]) rfl rfl (dX28_bind 11 rfl rfl) (Nat.le_of_ble_eq_true rfl) wX6_head q220 (inv_V (k := 4) (dX28_bind 11 rfl rfl) q3145 q3132 q3133 wX6_head (by decide) lX6_head (by decide) s3.1) (exN (by decide)) rfl ?_
  refine C.mono hf (fun _ _ => KI.g (fun x11 h9 hf le10 => ?_))
  have k1 := leK le10 k1 (by decide)
  replace s3 := s3.le sc3 (le10)
  refine x_iload_n (pc' := 21) 3 (dX28_bind 12 rfl rfl) rfl rfl rfl ?_
  obtain ⟨k, ν, ⟨v0, v1, v2, v3, v4, v5, v6, v7⟩, k21, hf⟩ := hf
  refine x_inv (pc' := 24) (ν := ν) (st := [_, _, _]) rfl (sub_tr v7 rfl) (dX28_bind 13 rfl rfl) (by have := v5; simp only [List.map, List.sum_cons, List.sum_nil, Value.category]; omega) v1 v2 (inv_O (ξ := mX19_bind) (k := k) (av := [_, _, _]) (dX28_bind 13 rfl rfl) q3184 q3167 q3166 q3195 v3 v4 (by decide) lX19_bind v0 k21) (exN v6) rfl ?_
  refine C.mono hf (fun _ _ => KI.g (fun x14 h12 hf le13 => ?_))
  replace le13 := Le.nx v6 le13
  have k1 := leK le13 k1 (by decide)
  replace s3 := s3.le sc3 (le13)
  obtain ⟨k, ν, ⟨v0, v1, v2, v3, v4, v5, v6, v7⟩, k18, hf⟩ := hf
  refine x_inv (pc' := 27) (ν := ν) (st := []) rfl (sub_tr v7 rfl) (dX28_bind 14 rfl rfl) (by have := v5; simp only [List.map, List.sum_cons, List.sum_nil, Value.category]; omega) v1 v2 (inv_O (ξ := mX19_bind) (k := k) (av := [_, _, _]) (dX28_bind 14 rfl rfl) q3184 q3167 q3166 q3195 v3 v4 (by decide) lX19_bind v0 k18) (exN v6) rfl ?_
  refine C.mono hf (fun _ _ => KI.g (fun x17 h15 hf le16 => ?_))
  replace le16 := Le.nx v6 le16
  have k1 := leK le16 k1 (by decide)
  replace s3 := s3.le sc3 (le16)
  exact x_iret (dX28_bind 15 rfl rfl) rfl hf
theorem bX29_init (G : Gh) (d : Nat) (hd1 : 1 ≤ d) (h : AH) (Q : Outcome → AH → Prop) (a0 : Nat) (p1 : Int32) (hf : HF h a0 313 0 ∧ (∀ h2, h2 = pI h a0 313 p1 → (Q (.returned none) h2))) : C G mX29_init d [.ref (a0), .int (p1)] h Q := by
  refine C.of_X (by decide +kernel) (Nat.le_of_ble_eq_true rfl) wX29_init ?_
  show X G mX29_init d (some a0) [] 0 [(0, .ref (a0)), (1, .int (p1))] [] h Q
  refine x_aload_n (pc' := 1) 0 (dX29_init 0 rfl rfl) rfl rfl rfl ?_
  refine x_objInit (pc' := 4) (dX29_init 1 rfl rfl) q1822 q288 q289 (by decide) (by omega) rfl ?_
  refine x_aload_n (pc' := 5) 0 (dX29_init 2 rfl rfl) rfl rfl rfl ?_
  refine x_iload_n (pc' := 6) 1 (dX29_init 3 rfl rfl) rfl rfl rfl ?_
  obtain ⟨u1, hf⟩ := hf
  refine x_putI (pc' := 9) (dX29_init 4 rfl rfl) g313 q1826 (Or.inl rfl) (Or.inr ⟨rfl, rfl, rfl, rfl⟩) (Or.inr rfl) rfl u1 (fun h2 e3 => ?_)
  replace hf := hf h2 e3
  exact x_vret (dX29_init 5 rfl rfl) rfl hf
theorem bX29_exp (G : Gh) (d : Nat) (h : AH) (Q : Outcome → AH → Prop) (a0 : Nat) (hf : Q (.returned (some (.null))) h) : C G mX29_exp d [.ref (a0)] h Q := by
  refine C.of_X (by decide +kernel) (Nat.le_of_ble_eq_true rfl) wX29_exp ?_
  show X G mX29_exp d none [] 0 [(0, .ref (a0))] [] h Q
  refine x_null (pc' := 1) (dX29_exp 0 rfl rfl) rfl ?_
  exact x_aret (dX29_exp 1 rfl rfl) rfl (Or.inl ⟨_, rfl⟩) (Or.inl rfl) hf
theorem bX30_init (G : Gh) (d : Nat) (h : AH) (Q : Outcome → AH → Prop) (a0 : Nat) (p1 : Int32) (p2 : Nat) (p3 : Nat) (hf : C G mX29_init d [.ref (a0), .int (p1)] h (KV Q (fun h1 => hK h1 a0 = 28 ∧ (∀ h4, h4 = pR h1 a0 314 (some p2) → (∀ h5, h5 = pR h4 a0 315 (some p3) → (Q (.returned none) h5)))))) : C G mX30_init (d + 1) [.ref (a0), .int (p1), .ref (p2), .ref (p3)] h Q := by
  refine C.of_X (by decide +kernel) (Nat.le_of_ble_eq_true rfl) wX30_init ?_
  show X G mX30_init (d + 1) (some a0) [] 0 [(0, .ref (a0)), (1, .int (p1)), (2, .ref (p2)), (3, .ref (p3))] [] h Q
  refine x_aload_n (pc' := 1) 0 (dX30_init 0 rfl rfl) rfl rfl rfl ?_
  refine x_iload_n (pc' := 2) 1 (dX30_init 1 rfl rfl) rfl rfl rfl ?_
  refine x_inv (pc' := 5) (ν := mX29_init) (av := [_, _]) (st := []) rfl rfl (dX30_init 2 rfl rfl) (Nat.le_of_ble_eq_true rfl) wX29_init q250 (inv_I (dX30_init 2 rfl rfl) q1819 q1820 q1821 rfl (by decide) lX29_init) (fun b hb => by exact Or.inr (by rw [← hb]; rfl)) rfl ?_
  refine C.mono hf (fun _ _ => KV.g (fun h1 hf le2 => ?_))
  refine x_aload_n (pc' := 6) 0 (dX30_init 3 rfl rfl) rfl rfl rfl ?_
  refine x_aload_n (pc' := 7) 2 (dX30_init 4 rfl rfl) rfl rfl rfl ?_
  obtain ⟨k3, hf⟩ := hf
  refine x_putR (pc' := 10) (dX30_init 5 rfl rfl) g314 q1823 (Or.inl rfl) (Or.inr ⟨rfl, rfl, rfl, rfl⟩) (Or.inr rfl) rfl (hf_of 27 k3 rfl (by decide) m27_314) (fun h4 e7 => ?_)
  replace hf := hf h4 e7
  replace k3 : hK h4 a0 = 28 := by rw [e7]; exact k3
  refine x_aload_n (pc' := 11) 0 (dX30_init 6 rfl rfl) rfl rfl rfl ?_
  refine x_aload_n (pc' := 12) 3 (dX30_init 7 rfl rfl) rfl rfl rfl ?_
  refine x_putR (pc' := 15) (dX30_init 8 rfl rfl) g315 q1825 (Or.inl rfl) (Or.inr ⟨rfl, rfl, rfl, rfl⟩) (Or.inr rfl) rfl (hf_of 27 k3 rfl (by decide) m27_315) (fun h5 e6 => ?_)
  replace hf := hf h5 e6
  replace k3 : hK h5 a0 = 28 := by rw [e6]; exact k3
  exact x_vret (dX30_init 9 rfl rfl) rfl hf
theorem bX30_resolve (G : Gh) (d : Nat) (h : AH) (Q : Outcome → AH → Prop) (a0 : Nat) (s4 : So 4 (gW G) h) (hf : hK h a0 = 28 ∧ (∃ b2, fR h a0 315 = some b2 ∧ (∃ (k : Nat) (ν : Mu), VT ⟨"LetMill$Exp", "resolve", "(LLetMill$Scope;)V"⟩ VMExp_resolve k ν ∧ hK h b2 = k + 1 ∧ C G ν d [.ref (b2), .ref (gW G 4)] h (KV Q (fun h4 => ∃ b6, fR h4 a0 314 = some b6 ∧ (∃ (k : Nat) (ν : Mu), VT ⟨"LetMill$Pat", "resolveFrom", "(LLetMill$Scope;I)V"⟩ VMPat_resolveFrom k ν ∧ hK h4 b6 = k + 1 ∧ C G ν d [.ref (b6), .ref (gW G 4), .int (fI h4 (gW G 4) 83)] h4 (KV Q (fun h8 => Q (.returned none) h8)))))))) : C G mX30_resolve (d + 1) [.ref (a0), .ref (gW G 4)] h Q := by
  refine C.of_X (by decide +kernel) (Nat.le_of_ble_eq_true rfl) wX30_resolve ?_
  show X G mX30_resolve (d + 1) none [] 0 [(0, .ref (a0)), (1, .ref (gW G 4))] [] h Q
  refine x_aload_n (pc' := 1) 0 (dX30_resolve 0 rfl rfl) rfl rfl rfl ?_
  obtain ⟨k1, hf⟩ := hf
  obtain ⟨b2, e3, hf⟩ := hf
  refine x_getR (pc' := 4) (dX30_resolve 1 rfl rfl) g315 q1825 (Or.inl rfl) rfl (hf_of 27 k1 rfl (by decide) m27_315) e3 ?_
  refine x_aload_n (pc' := 5) 1 (dX30_resolve 2 rfl rfl) rfl rfl rfl ?_
  obtain ⟨k, ν, ⟨v0, v1, v2, v3, v4, v5, v6, v7⟩, k13, hf⟩ := hf
  refine x_inv (pc' := 8) (ν := ν) (st := []) rfl (sub_tr v7 rfl) (dX30_resolve 3 rfl rfl) (by have := v5; simp only [List.map, List.sum_cons, List.sum_nil, Value.category]; omega) v1 v2 (inv_U (k := k) (av := [_]) (dX30_resolve 3 rfl rfl) q2314 q2251 (by decide) v3 v4 (by decide) (show _ = some 1 by decide +kernel) v0 k13) (exN v6) rfl ?_
  refine C.mono hf (fun _ _ => KV.g (fun h4 hf le5 => ?_))
  replace le5 := Le.nx v6 le5
  have k1 := leK le5 k1 (by decide)
  replace s4 := s4.le sc4 (le5)
  refine x_aload_n (pc' := 9) 0 (dX30_resolve 4 rfl rfl) rfl rfl rfl ?_
  obtain ⟨b6, e7, hf⟩ := hf
  refine x_getR (pc' := 12) (dX30_resolve 5 rfl rfl) g314 q1823 (Or.inl rfl) rfl (hf_of 27 k1 rfl (by decide) m27_314) e7 ?_
  refine x_aload_n (pc' := 13) 1 (dX30_resolve 6 rfl rfl) rfl rfl rfl ?_
  refine x_aload_n (pc' := 14) 1 (dX30_resolve 7 rfl rfl) rfl rfl rfl ?_
  refine x_getI (pc' := 17) (dX30_resolve 8 rfl rfl) g83 q689 (Or.inl rfl) rfl (hf_of 7 s4.1 rfl (by decide) m7_83) ?_
  obtain ⟨k, ν, ⟨v0, v1, v2, v3, v4, v5, v6, v7⟩, k10, hf⟩ := hf
  refine x_inv (pc' := 20) (ν := ν) (st := []) rfl (sub_tr v7 rfl) (dX30_resolve 9 rfl rfl) (by have := v5; simp only [List.map, List.sum_cons, List.sum_nil, Value.category]; omega) v1 v2 (inv_U (k := k) (av := [_, _]) (dX30_resolve 9 rfl rfl) q2315 q2209 (by decide) v3 v4 (by decide) (show _ = some 2 by decide +kernel) v0 k10) (exN v6) rfl ?_
  refine C.mono hf (fun _ _ => KV.g (fun h8 hf le9 => ?_))
  replace le9 := Le.nx v6 le9
  have k1 := leK le9 k1 (by decide)
  replace s4 := s4.le sc4 (le9)
  exact x_vret (dX30_resolve 10 rfl rfl) rfl hf
theorem bX30_infer (G : Gh) (d : Nat) (h : AH) (Q : Outcome → AH → Prop) (a0 : Nat) (s5 : So 5 (gW G) h) (s6 : So 6 (gW G) h) (hf : hK h a0 = 28 ∧ (∃ b2, fR h a0 315 = some b2 ∧ (∃ (k : Nat) (ν : Mu), VT ⟨"LetMill$Exp", "infer", "(LLetMill$Typer;)I"⟩ VMExp_infer k ν ∧ hK h b2 = k + 1 ∧ C G ν d [.ref (b2), .ref (gW G 6)] h (KI Q (fun x6 h4 => ∀ x7 : Int32, x7 = fI h4 (gW G 6) 112 → (∃ b8, fR h4 a0 314 = some b8 ∧ (∃ (k : Nat) (ν : Mu), VT ⟨"LetMill$Pat", "infer", "(LLetMill$Typer;)I"⟩ VMPat_infer k ν ∧ hK h4 b8 = k + 1 ∧ C G ν d [.ref (b8), .ref (gW G 6)] h4 (KI Q (fun x12 h10 => ∃ b13, fR h10 a0 314 = some b13 ∧ (HF h10 b13 302 0 ∧ (C G mX11_same d [.ref (gW G 6), .int (x6), .int (x12), .int (fI h10 b13 302)] h10 (KV Q (fun h16 => ∃ b18, fR h16 a0 315 = some b18 ∧ (∃ (k : Nat) (ν : Mu), VT yX16_isStill VMExp_isStill k ν ∧ hK h16 b18 = k + 1 ∧ C G ν d [.ref (b18)] h16 (KI Q (fun x22 h20 => C G mX11_declared d [.ref (gW G 6), .int (x7), .int (fI h16 a0 313), .int (x22)] h20 (KV Q (fun h23 => ∃ b25, fR h23 a0 314 = some b25 ∧ (C G mX10_check_2 d [.ref (gW G 5), .ref (b25), .ref (gW G 1), .int (fI h23 a0 313)] h23 (KV Q (fun h27 => Q (.returned none) h27))))))))))))))))))))) : C G mX30_infer (d + 1) [.ref (a0), .ref (gW G 6)] h Q := by
  refine C.of_X (by decide +kernel) (Nat.le_of_ble_eq_true rfl) wX30_infer ?_
  show X G mX30_infer (d + 1) none [] 0 [(0, .ref (a0)), (1, .ref (gW G 6))] [] h Q
  refine x_aload_n (pc' := 1) 0 (dX30_infer 0 rfl rfl) rfl rfl rfl ?_
  obtain ⟨k1, hf⟩ := hf
  obtain ⟨b2, e3, hf⟩ := hf
  refine x_getR (pc' := 4) (dX30_infer 1 rfl rfl) g315 q1825 (Or.inl rfl) rfl (hf_of 27 k1 rfl (by decide) m27_315) e3 ?_
  refine x_aload_n (pc' := 5) 1 (dX30_infer 2 rfl rfl) rfl rfl rfl ?_
  obtain ⟨k, ν, ⟨v0, v1, v2, v3, v4, v5, v6, v7⟩, k35, hf⟩ := hf
  refine x_inv (pc' := 8) (ν := ν) (st := []) rfl (sub_tr v7 rfl) (dX30_infer 3 rfl rfl) (by have := v5; simp only [List.map, List.sum_cons, List.sum_nil, Value.category]; omega) v1 v2 (inv_U (k := k) (av := [_]) (dX30_infer 3 rfl rfl) q2640 q2512 (by decide) v3 v4 (by decide) (show _ = some 1 by decide +kernel) v0 k35) (exN v6) rfl ?_
  refine C.mono hf (fun _ _ => KI.g (fun x6 h4 hf le5 => ?_))
  replace le5 := Le.nx v6 le5
  have k1 := leK le5 k1 (by decide)
  replace s5 := s5.le sc5 (le5)
  replace s6 := s6.le sc6 (le5)
  refine x_istore_n (pc' := 9) (dX30_infer 4 rfl rfl) rfl (by decide) rfl rfl ?_
  refine x_aload_n (pc' := 10) 2 (dX30_infer 5 rfl rfl) rfl rfl rfl ?_
  refine x_getI (pc' := 13) (dX30_infer 6 rfl rfl) g112 q836 (Or.inl rfl) rfl (hf_of 9 s6.1 rfl (by decide) m9_112) ?_
  replace hf := hf _ rfl
  refine x_istore_n (pc' := 14) (dX30_infer 7 rfl rfl) rfl (by decide) rfl rfl ?_
  refine x_aload_n (pc' := 15) 2 (dX30_infer 8 rfl rfl) rfl rfl rfl ?_
  obtain ⟨b8, e9, hf⟩ := hf
  refine x_getR (pc' := 18) (dX30_infer 9 rfl rfl) g314 q1823 (Or.inl rfl) rfl (hf_of 27 k1 rfl (by decide) m27_314) e9 ?_
  refine x_aload_n (pc' := 19) 3 (dX30_infer 10 rfl rfl) rfl rfl rfl ?_
  obtain ⟨k, ν, ⟨v0, v1, v2, v3, v4, v5, v6, v7⟩, k32, hf⟩ := hf
  refine x_inv (pc' := 22) (ν := ν) (st := []) rfl (sub_tr v7 rfl) (dX30_infer 11 rfl rfl) (by have := v5; simp only [List.map, List.sum_cons, List.sum_nil, Value.category]; omega) v1 v2 (inv_U (k := k) (av := [_]) (dX30_infer 11 rfl rfl) q2678 q2436 (by decide) v3 v4 (by decide) (show _ = some 1 by decide +kernel) v0 k32) (exN v6) rfl ?_
  refine C.mono hf (fun _ _ => KI.g (fun x12 h10 hf le11 => ?_))
  replace le11 := Le.nx v6 le11
  have k1 := leK le11 k1 (by decide)
  replace s5 := s5.le sc5 (le11)
  replace s6 := s6.le sc6 (le11)
  refine x_istore (pc' := 24) (dX30_infer 12 rfl rfl) (by decide) rfl rfl ?_
  refine x_aload_n (pc' := 25) 4 (dX30_infer 13 rfl rfl) rfl rfl rfl ?_
  refine x_iload_n (pc' := 26) 2 (dX30_infer 14 rfl rfl) rfl rfl rfl ?_
  refine x_iload (pc' := 28) 0 (dX30_infer 15 rfl rfl) rfl rfl ?_
  refine x_aload_n (pc' := 29) 3 (dX30_infer 16 rfl rfl) rfl rfl rfl ?_
  obtain ⟨b13, e14, hf⟩ := hf
  refine x_getR (pc' := 32) (dX30_infer 17 rfl rfl) g314 q1823 (Or.inl rfl) rfl (hf_of 27 k1 rfl (by decide) m27_314) e14 ?_
  obtain ⟨u15, hf⟩ := hf
  refine x_getI (pc' := 35) (dX30_infer 18 rfl rfl) g302 q1355 (Or.inl rfl) rfl u15 ?_
  refine x_inv (pc' := 38) (ν := mX11_same) (av := [_, _, _, _]) (st := []) rfl rfl (dX30_infer 19 rfl rfl) (Nat.le_of_ble_eq_true rfl) wX11_same q225 (inv_V (k := 9) (dX30_infer 19 rfl rfl) q2679 q2483 q2484 wX11_same (by decide) lX11_same (by decide) s6.1) (exN (by decide)) rfl ?_
  refine C.mono hf (fun _ _ => KV.g (fun h16 hf le17 => ?_))
  have k1 := leK le17 k1 (by decide)
  replace s5 := s5.le sc5 (le17)
  replace s6 := s6.le sc6 (le17)
  refine x_aload_n (pc' := 39) 4 (dX30_infer 20 rfl rfl) rfl rfl rfl ?_
  refine x_iload_n (pc' := 40) 1 (dX30_infer 21 rfl rfl) rfl rfl rfl ?_
  refine x_aload_n (pc' := 41) 3 (dX30_infer 22 rfl rfl) rfl rfl rfl ?_
  refine x_getI (pc' := 44) (dX30_infer 23 rfl rfl) g313 q1831 (Or.inr q1832) rfl (hf_of 27 k1 rfl (by decide) m27_313) ?_
  refine x_aload_n (pc' := 45) 3 (dX30_infer 24 rfl rfl) rfl rfl rfl ?_
  obtain ⟨b18, e19, hf⟩ := hf
  refine x_getR (pc' := 48) (dX30_infer 25 rfl rfl) g315 q1825 (Or.inl rfl) rfl (hf_of 27 k1 rfl (by decide) m27_315) e19 ?_
  obtain ⟨k, ν, ⟨v0, v1, v2, v3, v4, v5, v6, v7⟩, k29, hf⟩ := hf
  refine x_inv (pc' := 51) (ν := ν) (st := [_, _, _]) rfl (sub_tr v7 rfl) (dX30_infer 26 rfl rfl) (by have := v5; simp only [List.map, List.sum_cons, List.sum_nil, Value.category]; omega) v1 v2 (inv_O (ξ := mX16_isStill) (k := k) (av := []) (dX30_infer 26 rfl rfl) q2680 q2682 q2681 q2740 v3 v4 (by decide) lX16_isStill v0 k29) (exN v6) rfl ?_
  refine C.mono hf (fun _ _ => KI.g (fun x22 h20 hf le21 => ?_))
  replace le21 := Le.nx v6 le21
  have k1 := leK le21 k1 (by decide)
  replace s5 := s5.le sc5 (le21)
  replace s6 := s6.le sc6 (le21)
  refine x_inv (pc' := 54) (ν := mX11_declared) (av := [_, _, _, _]) (st := []) rfl rfl (dX30_infer 27 rfl rfl) (Nat.le_of_ble_eq_true rfl) wX11_declared q225 (inv_V (k := 9) (dX30_infer 27 rfl rfl) q2741 q2742 q2743 wX11_declared (by decide) lX11_declared (by decide) s6.1) (exN (by decide)) rfl ?_
  refine C.mono hf (fun _ _ => KV.g (fun h23 hf le24 => ?_))
  have k1 := leK le24 k1 (by decide)
  replace s5 := s5.le sc5 (le24)
  replace s6 := s6.le sc6 (le24)
  refine x_aload_n (pc' := 55) 4 (dX30_infer 28 rfl rfl) rfl rfl rfl ?_
  refine x_getR (pc' := 58) (dX30_infer 29 rfl rfl) g110 q831 (Or.inl rfl) rfl (hf_of 9 s6.1 rfl (by decide) m9_110) (s6.2 2 _ rfl rfl).1 ?_
  refine x_aload_n (pc' := 59) 3 (dX30_infer 30 rfl rfl) rfl rfl rfl ?_
  obtain ⟨b25, e26, hf⟩ := hf
  refine x_getR (pc' := 62) (dX30_infer 31 rfl rfl) g314 q1823 (Or.inl rfl) rfl (hf_of 27 k1 rfl (by decide) m27_314) e26 ?_
  refine x_aload_n (pc' := 63) 4 (dX30_infer 32 rfl rfl) rfl rfl rfl ?_
  refine x_getR (pc' := 66) (dX30_infer 33 rfl rfl) g109 q826 (Or.inl rfl) rfl (hf_of 9 s6.1 rfl (by decide) m9_109) (s6.2 1 _ rfl rfl).1 ?_
  refine x_aload_n (pc' := 67) 3 (dX30_infer 34 rfl rfl) rfl rfl rfl ?_
  refine x_getI (pc' := 70) (dX30_infer 35 rfl rfl) g313 q1831 (Or.inr q1832) rfl (hf_of 27 k1 rfl (by decide) m27_313) ?_
  refine x_inv (pc' := 73) (ν := mX10_check_2) (av := [_, _, _, _]) (st := []) rfl rfl (dX30_infer 36 rfl rfl) (Nat.le_of_ble_eq_true rfl) wX10_check_2 q224 (inv_V (k := 8) (dX30_infer 36 rfl rfl) q2755 q2756 q2757 wX10_check_2 (by decide) lX10_check_2 (by decide) s5.1) (exN (by decide)) rfl ?_
  refine C.mono hf (fun _ _ => KV.g (fun h27 hf le28 => ?_))
  have k1 := leK le28 k1 (by decide)
  replace s5 := s5.le sc5 (le28)
  replace s6 := s6.le sc6 (le28)
  exact x_vret (dX30_infer 37 rfl rfl) rfl hf
theorem bX30_exp (G : Gh) (d : Nat) (h : AH) (Q : Outcome → AH → Prop) (a0 : Nat) (hf : hK h a0 = 28 ∧ (∃ b2, fR h a0 315 = some b2 ∧ (Q (.returned (some (.ref (b2)))) h))) : C G mX30_exp d [.ref (a0)] h Q := by
  refine C.of_X (by decide +kernel) (Nat.le_of_ble_eq_true rfl) wX30_exp ?_
  show X G mX30_exp d none [] 0 [(0, .ref (a0))] [] h Q
  refine x_aload_n (pc' := 1) 0 (dX30_exp 0 rfl rfl) rfl rfl rfl ?_
  obtain ⟨k1, hf⟩ := hf
  obtain ⟨b2, e3, hf⟩ := hf
  refine x_getR (pc' := 4) (dX30_exp 1 rfl rfl) g315 q1825 (Or.inl rfl) rfl (hf_of 27 k1 rfl (by decide) m27_315) e3 ?_
  exact x_aret (dX30_exp 2 rfl rfl) rfl (Or.inl ⟨_, rfl⟩) (Or.inr ⟨_, rfl⟩) hf
theorem bX30_begin (G : Gh) (d : Nat) (h : AH) (Q : Outcome → AH → Prop) (a0 : Nat) (p2 : Int32) (hf : Q (.returned (some (.int p2))) h) : C G mX30_begin d [.ref (a0), .ref (gW G 3), .int (p2)] h Q := by
  refine C.of_X (by decide +kernel) (Nat.le_of_ble_eq_true rfl) wX30_begin ?_
  show X G mX30_begin d none [] 0 [(0, .ref (a0)), (1, .ref (gW G 3)), (2, .int (p2))] [] h Q
  refine x_iload_n (pc' := 1) 2 (dX30_begin 0 rfl rfl) rfl rfl rfl ?_
  exact x_iret (dX30_begin 1 rfl rfl) rfl hf
theorem bX31_init (G : Gh) (d : Nat) (hd1 : 1 ≤ d) (h : AH) (Q : Outcome → AH → Prop) (a0 : Nat) (p1 : Int32) (p2 : Nat) (p3 : Nat) (hf : hK h a0 = 29 ∧ (∀ h2, h2 = pI h a0 316 p1 → (∀ h3, h3 = pR h2 a0 317 (some p2) → (∀ h4, h4 = pR h3 a0 318 (some p3) → (Q (.returned none) h4))))) : C G mX31_init d [.ref (a0), .int (p1), .ref (p2), .ref (p3)] h Q := by
  refine C.of_X (by decide +kernel) (Nat.le_of_ble_eq_true rfl) wX31_init ?_
  show X G mX31_init d (some a0) [] 0 [(0, .ref (a0)), (1, .int (p1)), (2, .ref (p2)), (3, .ref (p3))] [] h Q
  refine x_aload_n (pc' := 1) 0 (dX31_init 0 rfl rfl) rfl rfl rfl ?_
  refine x_objInit (pc' := 4) (dX31_init 1 rfl rfl) q1490 q288 q289 (by decide) (by omega) rfl ?_
  refine x_aload_n (pc' := 5) 0 (dX31_init 2 rfl rfl) rfl rfl rfl ?_
  refine x_iload_n (pc' := 6) 1 (dX31_init 3 rfl rfl) rfl rfl rfl ?_
  obtain ⟨k1, hf⟩ := hf
  refine x_putI (pc' := 9) (dX31_init 4 rfl rfl) g316 q1491 (Or.inl rfl) (Or.inr ⟨rfl, rfl, rfl, rfl⟩) (Or.inr rfl) rfl (hf_of 28 k1 rfl (by decide) m28_316) (fun h2 e7 => ?_)
  replace hf := hf h2 e7
  replace k1 : hK h2 a0 = 29 := by rw [e7]; exact k1
  refine x_aload_n (pc' := 10) 0 (dX31_init 5 rfl rfl) rfl rfl rfl ?_
  refine x_aload_n (pc' := 11) 2 (dX31_init 6 rfl rfl) rfl rfl rfl ?_
  refine x_putR (pc' := 14) (dX31_init 7 rfl rfl) g317 q1494 (Or.inl rfl) (Or.inr ⟨rfl, rfl, rfl, rfl⟩) (Or.inr rfl) rfl (hf_of 28 k1 rfl (by decide) m28_317) (fun h3 e6 => ?_)
  replace hf := hf h3 e6
  replace k1 : hK h3 a0 = 29 := by rw [e6]; exact k1
  refine x_aload_n (pc' := 15) 0 (dX31_init 8 rfl rfl) rfl rfl rfl ?_
  refine x_aload_n (pc' := 16) 3 (dX31_init 9 rfl rfl) rfl rfl rfl ?_
  refine x_putR (pc' := 19) (dX31_init 10 rfl rfl) g318 q1500 (Or.inl rfl) (Or.inr ⟨rfl, rfl, rfl, rfl⟩) (Or.inr rfl) rfl (hf_of 28 k1 rfl (by decide) m28_318) (fun h4 e5 => ?_)
  replace hf := hf h4 e5
  replace k1 : hK h4 a0 = 29 := by rw [e5]; exact k1
  exact x_vret (dX31_init 11 rfl rfl) rfl hf
theorem bX32_init (G : Gh) (d : Nat) (h : AH) (Q : Outcome → AH → Prop) (a0 : Nat) (p1 : Int32) (p2 : Nat) (hf : C G mX16_init d [.ref (a0), .int (p1)] h (KV Q (fun h1 => hK h1 a0 = 30 ∧ (∀ h4, h4 = pR h1 a0 319 (some p2) → (Q (.returned none) h4))))) : C G mX32_init (d + 1) [.ref (a0), .int (p1), .ref (p2)] h Q := by
  refine C.of_X (by decide +kernel) (Nat.le_of_ble_eq_true rfl) wX32_init ?_
  show X G mX32_init (d + 1) (some a0) [] 0 [(0, .ref (a0)), (1, .int (p1)), (2, .ref (p2))] [] h Q
  refine x_aload_n (pc' := 1) 0 (dX32_init 0 rfl rfl) rfl rfl rfl ?_
  refine x_iload_n (pc' := 2) 1 (dX32_init 1 rfl rfl) rfl rfl rfl ?_
  refine x_inv (pc' := 5) (ν := mX16_init) (av := [_, _]) (st := []) rfl rfl (dX32_init 2 rfl rfl) (Nat.le_of_ble_eq_true rfl) wX16_init q237 (inv_I (dX32_init 2 rfl rfl) q1520 q1521 q1522 rfl (by decide) lX16_init) (fun b hb => by exact Or.inr (by rw [← hb]; rfl)) rfl ?_
  refine C.mono hf (fun _ _ => KV.g (fun h1 hf le2 => ?_))
  refine x_aload_n (pc' := 6) 0 (dX32_init 3 rfl rfl) rfl rfl rfl ?_
  refine x_aload_n (pc' := 7) 2 (dX32_init 4 rfl rfl) rfl rfl rfl ?_
  obtain ⟨k3, hf⟩ := hf
  refine x_putR (pc' := 10) (dX32_init 5 rfl rfl) g319 q1524 (Or.inl rfl) (Or.inr ⟨rfl, rfl, rfl, rfl⟩) (Or.inr rfl) rfl (hf_of 29 k3 rfl (by decide) m29_319) (fun h4 e5 => ?_)
  replace hf := hf h4 e5
  replace k3 : hK h4 a0 = 30 := by rw [e5]; exact k3
  exact x_vret (dX32_init 6 rfl rfl) rfl hf
theorem bX32_resolve (G : Gh) (d : Nat) (h : AH) (Q : Outcome → AH → Prop) (a0 : Nat) (hf : X G mX32_resolve (d + 1) none [] 2 [(0, .ref (a0)), (1, .ref (gW G 4)), (2, .int (0))] [] h Q) : C G mX32_resolve (d + 1) [.ref (a0), .ref (gW G 4)] h Q := by
  refine C.of_X (by decide +kernel) (Nat.le_of_ble_eq_true rfl) wX32_resolve ?_
  show X G mX32_resolve (d + 1) none [] 0 [(0, .ref (a0)), (1, .ref (gW G 4))] [] h Q
  refine x_iconst (pc' := 1) (v := 0) (dX32_resolve 0 rfl rfl) (by decide) rfl ?_
  refine x_istore_n (pc' := 2) (dX32_resolve 1 rfl rfl) rfl (by decide) rfl rfl ?_
  exact X.sub [1, 2, 0] rfl (by simp) hf
theorem bX32_resolve_2 (G : Gh) (d : Nat) (h : AH) (Q : Outcome → AH → Prop) (l0 : Nat) (l2 : Int32) (s4 : So 4 (gW G) h) (hf : hK h l0 = 30 ∧ (∃ b2, fR h l0 319 = some b2 ∧ (hK h b2 = 6 ∧ (((fI h b2 78) ≤ l2 → (Q (.returned none) h)) ∧ (¬ ((fI h b2 78) ≤ l2) → (∃ b6, fR h l0 319 = some b6 ∧ (hK h b6 = 6 ∧ (C G mX7_clause d [.ref (b6), .int (l2)] h (KR Q (fun b11 h8 => C G mX9_clause d [.ref (gW G 4), .ref (b11)] h8 (KV Q (fun h12 => ∀ x14 : Int32, x14 = l2 + 1 → (X G mX32_resolve (d + 1) none [] 2 [(0, .ref (l0)), (1, .ref (gW G 4)), (2, .int (x14))] [] h12 Q))))))))))))) : X G mX32_resolve (d + 1) none [] 2 [(0, .ref (l0)), (1, .ref (gW G 4)), (2, .int (l2))] [] h Q := by
  refine x_iload_n (pc' := 3) 2 (dX32_resolve 2 rfl rfl) rfl rfl rfl ?_
  refine x_aload_n (pc' := 4) 0 (dX32_resolve 3 rfl rfl) rfl rfl rfl ?_
  obtain ⟨k1, hf⟩ := hf
  obtain ⟨b2, e3, hf⟩ := hf
  refine x_getR (pc' := 7) (dX32_resolve 4 rfl rfl) g319 q1524 (Or.inl rfl) rfl (hf_of 29 k1 rfl (by decide) m29_319) e3 ?_
  obtain ⟨k4, hf⟩ := hf
  refine x_getI (pc' := 10) (dX32_resolve 5 rfl rfl) g78 q569 (Or.inl rfl) rfl (hf_of 5 k4 rfl (by decide) m5_78) ?_
  refine x_icmp_ge (pc' := 13) (tgt := 31) (dX32_resolve 6 rfl rfl) (by decide) rfl (fun c5 => ?_) (fun c5 => ?_)
  · replace hf := hf.1 c5
    exact x_vret (dX32_resolve 15 rfl rfl) rfl hf
  · replace hf := hf.2 c5
    refine x_aload_n (pc' := 14) 1 (dX32_resolve 7 rfl rfl) rfl rfl rfl ?_
    refine x_aload_n (pc' := 15) 0 (dX32_resolve 8 rfl rfl) rfl rfl rfl ?_
    obtain ⟨b6, e7, hf⟩ := hf
    refine x_getR (pc' := 18) (dX32_resolve 9 rfl rfl) g319 q1524 (Or.inl rfl) rfl (hf_of 29 k1 rfl (by decide) m29_319) e7 ?_
    refine x_iload_n (pc' := 19) 2 (dX32_resolve 10 rfl rfl) rfl rfl rfl ?_
    obtain ⟨k10, hf⟩ := hf
    refine x_inv (pc' := 22) (ν := mX7_clause) (av := [_, _]) (st := [_]) rfl rfl (dX32_resolve 11 rfl rfl) (Nat.le_of_ble_eq_true rfl) wX7_clause q221 (inv_V (k := 5) (dX32_resolve 11 rfl rfl) q2268 q2197 q2198 wX7_clause (by decide) lX7_clause (by decide) k10) (exN (by decide)) rfl ?_
    refine C.mono hf (fun _ _ => KR.g (fun b11 h8 hf le9 => ?_))
    have k1 := leK le9 k1 (by decide)
    have k4 := leK le9 k4 (by decide)
    have k10 := leK le9 k10 (by decide)
    replace s4 := s4.le sc4 (le9)
    refine x_inv (pc' := 25) (ν := mX9_clause) (av := [_, _]) (st := []) rfl rfl (dX32_resolve 12 rfl rfl) (Nat.le_of_ble_eq_true rfl) wX9_clause q223 (inv_V (k := 7) (dX32_resolve 12 rfl rfl) q2269 q2204 q2205 wX9_clause (by decide) lX9_clause (by decide) s4.1) (exN (by decide)) rfl ?_
    refine C.mono hf (fun _ _ => KV.g (fun h12 hf le13 => ?_))
    have k1 := leK le13 k1 (by decide)
    have k4 := leK le13 k4 (by decide)
    have k10 := leK le13 k10 (by decide)
    replace s4 := s4.le sc4 (le13)
    replace hf := hf _ rfl
    refine x_iinc (pc' := 28) 2 (dX32_resolve 13 rfl rfl) rfl (by rfl) (by decide) rfl rfl ?_
    refine x_goto (tgt := 2) (dX32_resolve 14 rfl rfl) (by decide) ?_
    exact X.sub [1, 2, 0] rfl (by simp) hf
theorem bX32_infer (G : Gh) (d : Nat) (h : AH) (Q : Outcome → AH → Prop) (a0 : Nat) (s2 : So 2 (gW G) h) (s5 : So 5 (gW G) h) (s6 : So 6 (gW G) h) (hf : (¬ (1 : Int32) < 0) ∧ (hc h + 1 ≤ MC) ∧ (hs h + (1 : Int32).toNatClampNeg ≤ MS) ∧ ∀ q1, hK h q1 = 0 → ∀ h3, h3 = nA h q1 0 (1 : Int32).toNatClampNeg → (Ns (gW G) q1 ∧ vp_in 0 (hL h3 q1) ∧ ∀ h8, h8 = sI h3 q1 (0 : Int32).toNatClampNeg ((-1)) → (hK h8 a0 = 30 ∧ (∃ b12, fR h8 a0 319 = some b12 ∧ (C G mX11_match d [.ref (gW G 6), .ref (b12), .ref (q1)] h8 (KI Q (fun x16 h14 => ∃ b17, fR h14 a0 319 = some b17 ∧ (C G mX10_check d [.ref (gW G 5), .ref (b17), .ref (gW G 1), .int (fI h14 a0 296)] h14 (KV Q (fun h19 => vp_in 0 (hL h19 q1) ∧ (C G mX3_fun d [.ref (gW G 2), .int (aI h19 q1 (0 : Int32).toNatClampNeg), .int (x16)] h19 (KI Q (fun x24 h22 => Q (.returned (some (.int x24))) h22))))))))))))) : C G mX32_infer (d + 1) [.ref (a0), .ref (gW G 6)] h Q := by
  refine C.of_X (by decide +kernel) (Nat.le_of_ble_eq_true rfl) wX32_infer ?_
  show X G mX32_infer (d + 1) none [] 0 [(0, .ref (a0)), (1, .ref (gW G 6))] [] h Q
  refine x_iconst (pc' := 1) (v := 1) (dX32_infer 0 rfl rfl) (by decide) rfl ?_
  obtain ⟨z5, n1, n2, hf⟩ := hf
  refine x_newa0 (pc' := 3) (dX32_infer 1 rfl rfl) rfl z5 (by decide) n1 n2 (fun q1 h3 k2 e4 => ?_)
  replace hf := hf q1 k2 h3 e4
  replace s2 : So 2 (gW G) h3 := by rw [e4]; exact s2.le sc2 (nA_le k2)
  replace s5 : So 5 (gW G) h3 := by rw [e4]; exact s5.le sc5 (nA_le k2)
  replace s6 : So 6 (gW G) h3 := by rw [e4]; exact s6.le sc6 (nA_le k2)
  have k6 : hK h3 q1 = 1000 := by rw [e4]; exact kNAs
  refine x_astore_n (pc' := 4) (dX32_infer 2 rfl rfl) rfl (by decide) rfl rfl ?_
  refine x_aload_n (pc' := 5) 0 (dX32_infer 3 rfl rfl) rfl rfl rfl ?_
  refine x_iconst (pc' := 6) (v := 0) (dX32_infer 4 rfl rfl) (by decide) rfl ?_
  refine x_iconst (pc' := 7) (v := -1) (dX32_infer 5 rfl rfl) (by decide) rfl ?_
  obtain ⟨n10, hf⟩ := hf
  obtain ⟨i7, hf⟩ := hf
  refine x_iast (pc' := 8) (dX32_infer 6 rfl rfl) rfl k6 (Or.inr ⟨n10, by decide⟩) i7 (fun h8 e9 => ?_)
  replace hf := hf h8 e9
  replace k6 : hK h8 q1 = 1000 := by rw [e9]; exact k6
  replace s2 : So 2 (gW G) h8 := by rw [e9]; exact s2.le sc2 (sI_le )
  replace s5 : So 5 (gW G) h8 := by rw [e9]; exact s5.le sc5 (sI_le )
  replace s6 : So 6 (gW G) h8 := by rw [e9]; exact s6.le sc6 (sI_le )
  refine x_aload_n (pc' := 9) 2 (dX32_infer 7 rfl rfl) rfl rfl rfl ?_
  refine x_aload_n (pc' := 10) 1 (dX32_infer 8 rfl rfl) rfl rfl rfl ?_
  obtain ⟨k11, hf⟩ := hf
  obtain ⟨b12, e13, hf⟩ := hf
  refine x_getR (pc' := 13) (dX32_infer 9 rfl rfl) g319 q1524 (Or.inl rfl) rfl (hf_of 29 k11 rfl (by decide) m29_319) e13 ?_
  refine x_aload_n (pc' := 14) 0 (dX32_infer 10 rfl rfl) rfl rfl rfl ?_
  refine x_inv (pc' := 17) (ν := mX11_match) (av := [_, _, _]) (st := []) rfl rfl (dX32_infer 11 rfl rfl) (Nat.le_of_ble_eq_true rfl) wX11_match q225 (inv_V (k := 9) (dX32_infer 11 rfl rfl) q2532 q2426 q2427 wX11_match (by decide) lX11_match (by decide) s6.1) (exN (by decide)) rfl ?_
  refine C.mono hf (fun _ _ => KI.g (fun x16 h14 hf le15 => ?_))
  have k6 := leK le15 k6 (by decide)
  have k11 := leK le15 k11 (by decide)
  replace s2 := s2.le sc2 (le15)
  replace s5 := s5.le sc5 (le15)
  replace s6 := s6.le sc6 (le15)
  refine x_istore_n (pc' := 18) (dX32_infer 12 rfl rfl) rfl (by decide) rfl rfl ?_
  refine x_aload_n (pc' := 19) 3 (dX32_infer 13 rfl rfl) rfl rfl rfl ?_
  refine x_getR (pc' := 22) (dX32_infer 14 rfl rfl) g110 q828 (Or.inl rfl) rfl (hf_of 9 s6.1 rfl (by decide) m9_110) (s6.2 2 _ rfl rfl).1 ?_
  refine x_aload_n (pc' := 23) 2 (dX32_infer 15 rfl rfl) rfl rfl rfl ?_
  obtain ⟨b17, e18, hf⟩ := hf
  refine x_getR (pc' := 26) (dX32_infer 16 rfl rfl) g319 q1524 (Or.inl rfl) rfl (hf_of 29 k11 rfl (by decide) m29_319) e18 ?_
  refine x_aload_n (pc' := 27) 3 (dX32_infer 17 rfl rfl) rfl rfl rfl ?_
  refine x_getR (pc' := 30) (dX32_infer 18 rfl rfl) g109 q822 (Or.inl rfl) rfl (hf_of 9 s6.1 rfl (by decide) m9_109) (s6.2 1 _ rfl rfl).1 ?_
  refine x_aload_n (pc' := 31) 2 (dX32_infer 19 rfl rfl) rfl rfl rfl ?_
  refine x_getI (pc' := 34) (dX32_infer 20 rfl rfl) g296 q1533 (Or.inr q1534) rfl (hf_of 29 k11 rfl (by decide) m29_296) ?_
  refine x_inv (pc' := 37) (ν := mX10_check) (av := [_, _, _, _]) (st := []) rfl rfl (dX32_infer 21 rfl rfl) (Nat.le_of_ble_eq_true rfl) wX10_check q224 (inv_V (k := 8) (dX32_infer 21 rfl rfl) q2533 q2534 q2535 wX10_check (by decide) lX10_check (by decide) s5.1) (exN (by decide)) rfl ?_
  refine C.mono hf (fun _ _ => KV.g (fun h19 hf le20 => ?_))
  have k6 := leK le20 k6 (by decide)
  have k11 := leK le20 k11 (by decide)
  replace s2 := s2.le sc2 (le20)
  replace s5 := s5.le sc5 (le20)
  replace s6 := s6.le sc6 (le20)
  refine x_aload_n (pc' := 38) 3 (dX32_infer 22 rfl rfl) rfl rfl rfl ?_
  refine x_getR (pc' := 41) (dX32_infer 23 rfl rfl) g108 q814 (Or.inl rfl) rfl (hf_of 9 s6.1 rfl (by decide) m9_108) (s6.2 0 _ rfl rfl).1 ?_
  refine x_aload_n (pc' := 42) 1 (dX32_infer 24 rfl rfl) rfl rfl rfl ?_
  refine x_iconst (pc' := 43) (v := 0) (dX32_infer 25 rfl rfl) (by decide) rfl ?_
  obtain ⟨i21, hf⟩ := hf
  refine x_iald (pc' := 44) (dX32_infer 26 rfl rfl) rfl k6 i21 ?_
  refine x_iload_n (pc' := 45) 0 (dX32_infer 27 rfl rfl) rfl rfl rfl ?_
  refine x_inv (pc' := 48) (ν := mX3_fun) (av := [_, _, _]) (st := []) rfl rfl (dX32_infer 28 rfl rfl) (Nat.le_of_ble_eq_true rfl) wX3_fun q213 (inv_V (k := 2) (dX32_infer 28 rfl rfl) q2628 q2374 q2375 wX3_fun (by decide) lX3_fun (by decide) s2.1) (exN (by decide)) rfl ?_
  refine C.mono hf (fun _ _ => KI.g (fun x24 h22 hf le23 => ?_))
  have k6 := leK le23 k6 (by decide)
  have k11 := leK le23 k11 (by decide)
  replace s2 := s2.le sc2 (le23)
  replace s5 := s5.le sc5 (le23)
  replace s6 := s6.le sc6 (le23)
  exact x_iret (dX32_infer 29 rfl rfl) rfl hf
theorem bX32_isStill (G : Gh) (d : Nat) (h : AH) (Q : Outcome → AH → Prop) (a0 : Nat) (hf : Q (.returned (some (.int 1))) h) : C G mX32_isStill d [.ref (a0)] h Q := by
  refine C.of_X (by decide +kernel) (Nat.le_of_ble_eq_true rfl) wX32_isStill ?_
  show X G mX32_isStill d none [] 0 [(0, .ref (a0))] [] h Q
  refine x_iconst (pc' := 1) (v := 1) (dX32_isStill 0 rfl rfl) (by decide) rfl ?_
  exact x_zret (ty := .boolean) (dX32_isStill 1 rfl rfl) rfl (by decide) hf
theorem bX32_begin (G : Gh) (d : Nat) (h : AH) (Q : Outcome → AH → Prop) (a0 : Nat) (p2 : Int32) (s3 : So 3 (gW G) h) (hf : C G mX6_pay d [.ref (gW G 3), .int (1)] h (KI Q (fun x3 h1 => (x3 = 0 → (Q (.returned none) h1)) ∧ (¬ x3 = 0 → (hK h1 a0 = 30 ∧ (((fI h1 a0 320) = 0 → (∃ b12, fR h1 a0 319 = some b12 ∧ (C G mX6_code d [.ref (gW G 3), .ref (b12)] h1 (KI Q (fun x16 h14 => ∀ h17, h17 = pI h14 a0 320 x16 → (C G mX6_closure d [.ref (gW G 3), .int (fI h17 a0 320), .int (p2), .int (0), .int (0)] h17 (KI Q (fun x20 h18 => C G mX6_give d [.ref (gW G 3), .int (x20)] h18 (KV Q (fun h21 => Q (.returned none) h21)))))))))) ∧ (¬ ((fI h1 a0 320) = 0) → (C G mX6_closure d [.ref (gW G 3), .int (fI h1 a0 320), .int (p2), .int (0), .int (0)] h1 (KI Q (fun x9 h7 => C G mX6_give d [.ref (gW G 3), .int (x9)] h7 (KV Q (fun h10 => Q (.returned none) h10)))))))))))) : C G mX32_begin (d + 1) [.ref (a0), .ref (gW G 3), .int (p2)] h Q := by
  refine C.of_X (by decide +kernel) (Nat.le_of_ble_eq_true rfl) wX32_begin ?_
  show X G mX32_begin (d + 1) none [] 0 [(0, .ref (a0)), (1, .ref (gW G 3)), (2, .int (p2))] [] h Q
  refine x_aload_n (pc' := 1) 1 (dX32_begin 0 rfl rfl) rfl rfl rfl ?_
  refine x_iconst (pc' := 2) (v := 1) (dX32_begin 1 rfl rfl) (by decide) rfl ?_
  refine x_inv (pc' := 5) (ν := mX6_pay) (av := [_, _]) (st := []) rfl rfl (dX32_begin 2 rfl rfl) (Nat.le_of_ble_eq_true rfl) wX6_pay q220 (inv_V (k := 4) (dX32_begin 2 rfl rfl) q2944 q2891 q2892 wX6_pay (by decide) lX6_pay (by decide) s3.1) (exN (by decide)) rfl ?_
  refine C.mono hf (fun _ _ => KI.g (fun x3 h1 hf le2 => ?_))
  replace s3 := s3.le sc3 (le2)
  refine x_if_ne (pc' := 8) (tgt := 9) (dX32_begin 3 rfl rfl) (by decide) rfl (fun c4 => ?_) (fun c4 => ?_)
  · replace hf := hf.2 c4
    refine x_aload_n (pc' := 10) 0 (dX32_begin 5 rfl rfl) rfl rfl rfl ?_
    obtain ⟨k5, hf⟩ := hf
    refine x_getI (pc' := 13) (dX32_begin 6 rfl rfl) g320 q1525 (Or.inl rfl) rfl (hf_of 29 k5 rfl (by decide) m29_320) ?_
    refine x_if_ne (pc' := 16) (tgt := 28) (dX32_begin 7 rfl rfl) (by decide) rfl (fun c6 => ?_) (fun c6 => ?_)
    · replace hf := hf.2 c6
      refine x_aload_n (pc' := 29) 1 (dX32_begin 14 rfl rfl) rfl rfl rfl ?_
      refine x_aload_n (pc' := 30) 1 (dX32_begin 15 rfl rfl) rfl rfl rfl ?_
      refine x_aload_n (pc' := 31) 0 (dX32_begin 16 rfl rfl) rfl rfl rfl ?_
      refine x_getI (pc' := 34) (dX32_begin 17 rfl rfl) g320 q1525 (Or.inl rfl) rfl (hf_of 29 k5 rfl (by decide) m29_320) ?_
      refine x_iload_n (pc' := 35) 2 (dX32_begin 18 rfl rfl) rfl rfl rfl ?_
      refine x_iconst (pc' := 36) (v := 0) (dX32_begin 19 rfl rfl) (by decide) rfl ?_
      refine x_iconst (pc' := 37) (v := 0) (dX32_begin 20 rfl rfl) (by decide) rfl ?_
      refine x_inv (pc' := 40) (ν := mX6_closure) (av := [_, _, _, _, _]) (st := [_]) rfl rfl (dX32_begin 21 rfl rfl) (Nat.le_of_ble_eq_true rfl) wX6_closure q220 (inv_V (k := 4) (dX32_begin 21 rfl rfl) q2949 q2950 q2951 wX6_closure (by decide) lX6_closure (by decide) s3.1) (exN (by decide)) rfl ?_
      refine C.mono hf (fun _ _ => KI.g (fun x9 h7 hf le8 => ?_))
      have k5 := leK le8 k5 (by decide)
      replace s3 := s3.le sc3 (le8)
      refine x_inv (pc' := 43) (ν := mX6_give) (av := [_, _]) (st := []) rfl rfl (dX32_begin 22 rfl rfl) (Nat.le_of_ble_eq_true rfl) wX6_give q220 (inv_V (k := 4) (dX32_begin 22 rfl rfl) q2953 q2913 q2914 wX6_give (by decide) lX6_give (by decide) s3.1) (exN (by decide)) rfl ?_
      refine C.mono hf (fun _ _ => KV.g (fun h10 hf le11 => ?_))
      have k5 := leK le11 k5 (by decide)
      replace s3 := s3.le sc3 (le11)
      exact x_vret (dX32_begin 23 rfl rfl) rfl hf
    · replace hf := hf.1 (Classical.not_not.mp c6)
      replace c6 := Classical.not_not.mp c6
      refine x_aload_n (pc' := 17) 0 (dX32_begin 8 rfl rfl) rfl rfl rfl ?_
      refine x_aload_n (pc' := 18) 1 (dX32_begin 9 rfl rfl) rfl rfl rfl ?_
      refine x_aload_n (pc' := 19) 0 (dX32_begin 10 rfl rfl) rfl rfl rfl ?_
      obtain ⟨b12, e13, hf⟩ := hf
      refine x_getR (pc' := 22) (dX32_begin 11 rfl rfl) g319 q1524 (Or.inl rfl) rfl (hf_of 29 k5 rfl (by decide) m29_319) e13 ?_
      refine x_inv (pc' := 25) (ν := mX6_code) (av := [_, _]) (st := [_]) rfl rfl (dX32_begin 12 rfl rfl) (Nat.le_of_ble_eq_true rfl) wX6_code q220 (inv_V (k := 4) (dX32_begin 12 rfl rfl) q2945 q2946 q2947 wX6_code (by decide) lX6_code (by decide) s3.1) (exN (by decide)) rfl ?_
      refine C.mono hf (fun _ _ => KI.g (fun x16 h14 hf le15 => ?_))
      have k5 := leK le15 k5 (by decide)
      replace s3 := s3.le sc3 (le15)
      refine x_putI (pc' := 28) (dX32_begin 13 rfl rfl) g320 q1525 (Or.inl rfl) (Or.inl rfl) (Or.inl (by decide)) rfl (hf_of 29 k5 rfl (by decide) m29_320) (fun h17 e23 => ?_)
      replace hf := hf h17 e23
      replace k5 : hK h17 a0 = 30 := by rw [e23]; exact k5
      replace s3 : So 3 (gW G) h17 := by rw [e23]; exact s3.le sc3 (pI_le (Or.inl rfl))
      refine x_aload_n (pc' := 29) 1 (dX32_begin 14 rfl rfl) rfl rfl rfl ?_
      refine x_aload_n (pc' := 30) 1 (dX32_begin 15 rfl rfl) rfl rfl rfl ?_
      refine x_aload_n (pc' := 31) 0 (dX32_begin 16 rfl rfl) rfl rfl rfl ?_
      refine x_getI (pc' := 34) (dX32_begin 17 rfl rfl) g320 q1525 (Or.inl rfl) rfl (hf_of 29 k5 rfl (by decide) m29_320) ?_
      refine x_iload_n (pc' := 35) 2 (dX32_begin 18 rfl rfl) rfl rfl rfl ?_
      refine x_iconst (pc' := 36) (v := 0) (dX32_begin 19 rfl rfl) (by decide) rfl ?_
      refine x_iconst (pc' := 37) (v := 0) (dX32_begin 20 rfl rfl) (by decide) rfl ?_
      refine x_inv (pc' := 40) (ν := mX6_closure) (av := [_, _, _, _, _]) (st := [_]) rfl rfl (dX32_begin 21 rfl rfl) (Nat.le_of_ble_eq_true rfl) wX6_closure q220 (inv_V (k := 4) (dX32_begin 21 rfl rfl) q2949 q2950 q2951 wX6_closure (by decide) lX6_closure (by decide) s3.1) (exN (by decide)) rfl ?_
      refine C.mono hf (fun _ _ => KI.g (fun x20 h18 hf le19 => ?_))
      have k5 := leK le19 k5 (by decide)
      replace s3 := s3.le sc3 (le19)
      refine x_inv (pc' := 43) (ν := mX6_give) (av := [_, _]) (st := []) rfl rfl (dX32_begin 22 rfl rfl) (Nat.le_of_ble_eq_true rfl) wX6_give q220 (inv_V (k := 4) (dX32_begin 22 rfl rfl) q2953 q2913 q2914 wX6_give (by decide) lX6_give (by decide) s3.1) (exN (by decide)) rfl ?_
      refine C.mono hf (fun _ _ => KV.g (fun h21 hf le22 => ?_))
      have k5 := leK le22 k5 (by decide)
      replace s3 := s3.le sc3 (le22)
      exact x_vret (dX32_begin 23 rfl rfl) rfl hf
  · replace hf := hf.1 (Classical.not_not.mp c4)
    replace c4 := Classical.not_not.mp c4
    exact x_vret (dX32_begin 4 rfl rfl) rfl hf
theorem bX33_init (G : Gh) (d : Nat) (h : AH) (Q : Outcome → AH → Prop) (a0 : Nat) (p1 : Int32) (p2 : Nat) (p3 : Nat) (hf : C G mX16_init d [.ref (a0), .int (p1)] h (KV Q (fun h1 => hK h1 a0 = 31 ∧ (∀ h4, h4 = pR h1 a0 321 (some p2) → (∀ h5, h5 = pR h4 a0 322 (some p3) → (Q (.returned none) h5)))))) : C G mX33_init (d + 1) [.ref (a0), .int (p1), .ref (p2), .ref (p3)] h Q := by
  refine C.of_X (by decide +kernel) (Nat.le_of_ble_eq_true rfl) wX33_init ?_
  show X G mX33_init (d + 1) (some a0) [] 0 [(0, .ref (a0)), (1, .int (p1)), (2, .ref (p2)), (3, .ref (p3))] [] h Q
  refine x_aload_n (pc' := 1) 0 (dX33_init 0 rfl rfl) rfl rfl rfl ?_
  refine x_iload_n (pc' := 2) 1 (dX33_init 1 rfl rfl) rfl rfl rfl ?_
  refine x_inv (pc' := 5) (ν := mX16_init) (av := [_, _]) (st := []) rfl rfl (dX33_init 2 rfl rfl) (Nat.le_of_ble_eq_true rfl) wX16_init q237 (inv_I (dX33_init 2 rfl rfl) q1561 q1521 q1522 rfl (by decide) lX16_init) (fun b hb => by exact Or.inr (by rw [← hb]; rfl)) rfl ?_
  refine C.mono hf (fun _ _ => KV.g (fun h1 hf le2 => ?_))
  refine x_aload_n (pc' := 6) 0 (dX33_init 3 rfl rfl) rfl rfl rfl ?_
  refine x_aload_n (pc' := 7) 2 (dX33_init 4 rfl rfl) rfl rfl rfl ?_
  obtain ⟨k3, hf⟩ := hf
  refine x_putR (pc' := 10) (dX33_init 5 rfl rfl) g321 q1562 (Or.inl rfl) (Or.inr ⟨rfl, rfl, rfl, rfl⟩) (Or.inr rfl) rfl (hf_of 30 k3 rfl (by decide) m30_321) (fun h4 e7 => ?_)
  replace hf := hf h4 e7
  replace k3 : hK h4 a0 = 31 := by rw [e7]; exact k3
  refine x_aload_n (pc' := 11) 0 (dX33_init 6 rfl rfl) rfl rfl rfl ?_
  refine x_aload_n (pc' := 12) 3 (dX33_init 7 rfl rfl) rfl rfl rfl ?_
  refine x_putR (pc' := 15) (dX33_init 8 rfl rfl) g322 q1563 (Or.inl rfl) (Or.inr ⟨rfl, rfl, rfl, rfl⟩) (Or.inr rfl) rfl (hf_of 30 k3 rfl (by decide) m30_322) (fun h5 e6 => ?_)
  replace hf := hf h5 e6
  replace k3 : hK h5 a0 = 31 := by rw [e6]; exact k3
  exact x_vret (dX33_init 9 rfl rfl) rfl hf
theorem bX33_resolve (G : Gh) (d : Nat) (h : AH) (Q : Outcome → AH → Prop) (a0 : Nat) (hf : hK h a0 = 31 ∧ (∃ b2, fR h a0 321 = some b2 ∧ (∃ (k : Nat) (ν : Mu), VT ⟨"LetMill$Exp", "resolve", "(LLetMill$Scope;)V"⟩ VMExp_resolve k ν ∧ hK h b2 = k + 1 ∧ C G ν d [.ref (b2), .ref (gW G 4)] h (KV Q (fun h4 => X G mX33_resolve (d + 1) none [] 10 [(0, .ref (a0)), (1, .ref (gW G 4)), (2, .int (0))] [] h4 Q))))) : C G mX33_resolve (d + 1) [.ref (a0), .ref (gW G 4)] h Q := by
  refine C.of_X (by decide +kernel) (Nat.le_of_ble_eq_true rfl) wX33_resolve ?_
  show X G mX33_resolve (d + 1) none [] 0 [(0, .ref (a0)), (1, .ref (gW G 4))] [] h Q
  refine x_aload_n (pc' := 1) 0 (dX33_resolve 0 rfl rfl) rfl rfl rfl ?_
  obtain ⟨k1, hf⟩ := hf
  obtain ⟨b2, e3, hf⟩ := hf
  refine x_getR (pc' := 4) (dX33_resolve 1 rfl rfl) g321 q1562 (Or.inl rfl) rfl (hf_of 30 k1 rfl (by decide) m30_321) e3 ?_
  refine x_aload_n (pc' := 5) 1 (dX33_resolve 2 rfl rfl) rfl rfl rfl ?_
  obtain ⟨k, ν, ⟨v0, v1, v2, v3, v4, v5, v6, v7⟩, k6, hf⟩ := hf
  refine x_inv (pc' := 8) (ν := ν) (st := []) rfl (sub_tr v7 rfl) (dX33_resolve 3 rfl rfl) (by have := v5; simp only [List.map, List.sum_cons, List.sum_nil, Value.category]; omega) v1 v2 (inv_U (k := k) (av := [_]) (dX33_resolve 3 rfl rfl) q2260 q2251 (by decide) v3 v4 (by decide) (show _ = some 1 by decide +kernel) v0 k6) (exN v6) rfl ?_
  refine C.mono hf (fun _ _ => KV.g (fun h4 hf le5 => ?_))
  replace le5 := Le.nx v6 le5
  have k1 := leK le5 k1 (by decide)
  refine x_iconst (pc' := 9) (v := 0) (dX33_resolve 4 rfl rfl) (by decide) rfl ?_
  refine x_istore_n (pc' := 10) (dX33_resolve 5 rfl rfl) rfl (by decide) rfl rfl ?_
  exact X.sub [1, 2, 0] rfl (by simp) hf
theorem bX33_resolve_10 (G : Gh) (d : Nat) (h : AH) (Q : Outcome → AH → Prop) (l0 : Nat) (l2 : Int32) (s4 : So 4 (gW G) h) (hf : hK h l0 = 31 ∧ (∃ b2, fR h l0 322 = some b2 ∧ (hK h b2 = 6 ∧ (((fI h b2 78) ≤ l2 → (Q (.returned none) h)) ∧ (¬ ((fI h b2 78) ≤ l2) → (∃ b6, fR h l0 322 = some b6 ∧ (hK h b6 = 6 ∧ (C G mX7_clause d [.ref (b6), .int (l2)] h (KR Q (fun b11 h8 => C G mX9_clause d [.ref (gW G 4), .ref (b11)] h8 (KV Q (fun h12 => ∀ x14 : Int32, x14 = l2 + 1 → (X G mX33_resolve (d + 1) none [] 10 [(0, .ref (l0)), (1, .ref (gW G 4)), (2, .int (x14))] [] h12 Q))))))))))))) : X G mX33_resolve (d + 1) none [] 10 [(0, .ref (l0)), (1, .ref (gW G 4)), (2, .int (l2))] [] h Q := by
  refine x_iload_n (pc' := 11) 2 (dX33_resolve 6 rfl rfl) rfl rfl rfl ?_
  refine x_aload_n (pc' := 12) 0 (dX33_resolve 7 rfl rfl) rfl rfl rfl ?_
  obtain ⟨k1, hf⟩ := hf
  obtain ⟨b2, e3, hf⟩ := hf
  refine x_getR (pc' := 15) (dX33_resolve 8 rfl rfl) g322 q1563 (Or.inl rfl) rfl (hf_of 30 k1 rfl (by decide) m30_322) e3 ?_
  obtain ⟨k4, hf⟩ := hf
  refine x_getI (pc' := 18) (dX33_resolve 9 rfl rfl) g78 q571 (Or.inl rfl) rfl (hf_of 5 k4 rfl (by decide) m5_78) ?_
  refine x_icmp_ge (pc' := 21) (tgt := 39) (dX33_resolve 10 rfl rfl) (by decide) rfl (fun c5 => ?_) (fun c5 => ?_)
  · replace hf := hf.1 c5
    exact x_vret (dX33_resolve 19 rfl rfl) rfl hf
  · replace hf := hf.2 c5
    refine x_aload_n (pc' := 22) 1 (dX33_resolve 11 rfl rfl) rfl rfl rfl ?_
    refine x_aload_n (pc' := 23) 0 (dX33_resolve 12 rfl rfl) rfl rfl rfl ?_
    obtain ⟨b6, e7, hf⟩ := hf
    refine x_getR (pc' := 26) (dX33_resolve 13 rfl rfl) g322 q1563 (Or.inl rfl) rfl (hf_of 30 k1 rfl (by decide) m30_322) e7 ?_
    refine x_iload_n (pc' := 27) 2 (dX33_resolve 14 rfl rfl) rfl rfl rfl ?_
    obtain ⟨k10, hf⟩ := hf
    refine x_inv (pc' := 30) (ν := mX7_clause) (av := [_, _]) (st := [_]) rfl rfl (dX33_resolve 15 rfl rfl) (Nat.le_of_ble_eq_true rfl) wX7_clause q221 (inv_V (k := 5) (dX33_resolve 15 rfl rfl) q2291 q2197 q2198 wX7_clause (by decide) lX7_clause (by decide) k10) (exN (by decide)) rfl ?_
    refine C.mono hf (fun _ _ => KR.g (fun b11 h8 hf le9 => ?_))
    have k1 := leK le9 k1 (by decide)
    have k4 := leK le9 k4 (by decide)
    have k10 := leK le9 k10 (by decide)
    replace s4 := s4.le sc4 (le9)
    refine x_inv (pc' := 33) (ν := mX9_clause) (av := [_, _]) (st := []) rfl rfl (dX33_resolve 16 rfl rfl) (Nat.le_of_ble_eq_true rfl) wX9_clause q223 (inv_V (k := 7) (dX33_resolve 16 rfl rfl) q2292 q2204 q2205 wX9_clause (by decide) lX9_clause (by decide) s4.1) (exN (by decide)) rfl ?_
    refine C.mono hf (fun _ _ => KV.g (fun h12 hf le13 => ?_))
    have k1 := leK le13 k1 (by decide)
    have k4 := leK le13 k4 (by decide)
    have k10 := leK le13 k10 (by decide)
    replace s4 := s4.le sc4 (le13)
    replace hf := hf _ rfl
    refine x_iinc (pc' := 36) 2 (dX33_resolve 17 rfl rfl) rfl (by rfl) (by decide) rfl rfl ?_
    refine x_goto (tgt := 10) (dX33_resolve 18 rfl rfl) (by decide) ?_
    exact X.sub [1, 2, 0] rfl (by simp) hf
theorem bX33_infer (G : Gh) (d : Nat) (h : AH) (Q : Outcome → AH → Prop) (a0 : Nat) (s5 : So 5 (gW G) h) (s6 : So 6 (gW G) h) (hf : hK h a0 = 31 ∧ (∃ b2, fR h a0 321 = some b2 ∧ (∃ (k : Nat) (ν : Mu), VT ⟨"LetMill$Exp", "infer", "(LLetMill$Typer;)I"⟩ VMExp_infer k ν ∧ hK h b2 = k + 1 ∧ C G ν d [.ref (b2), .ref (gW G 6)] h (KI Q (fun x6 h4 => (¬ (1 : Int32) < 0) ∧ (hc h4 + 1 ≤ MC) ∧ (hs h4 + (1 : Int32).toNatClampNeg ≤ MS) ∧ ∀ q7, hK h4 q7 = 0 → ∀ h9, h9 = nA h4 q7 0 (1 : Int32).toNatClampNeg → (Ns (gW G) q7 ∧ vp_in 0 (hL h9 q7) ∧ ∀ h14, h14 = sI h9 q7 (0 : Int32).toNatClampNeg ((-1)) → (∃ b17, fR h14 a0 322 = some b17 ∧ (C G mX11_match d [.ref (gW G 6), .ref (b17), .ref (q7)] h14 (KI Q (fun x21 h19 => vp_in 0 (hL h19 q7) ∧ (∃ b23, fR h19 a0 321 = some b23 ∧ (HF h19 b23 296 0 ∧ (C G mX11_same d [.ref (gW G 6), .int (x6), .int (aI h19 q7 (0 : Int32).toNatClampNeg), .int (fI h19 b23 296)] h19 (KV Q (fun h26 => ∃ b28, fR h26 a0 322 = some b28 ∧ (C G mX10_check d [.ref (gW G 5), .ref (b28), .ref (gW G 1), .int (fI h26 a0 296)] h26 (KV Q (fun h30 => Q (.returned (some (.int x21))) h30)))))))))))))))))) : C G mX33_infer (d + 1) [.ref (a0), .ref (gW G 6)] h Q := by
  refine C.of_X (by decide +kernel) (Nat.le_of_ble_eq_true rfl) wX33_infer ?_
  show X G mX33_infer (d + 1) none [] 0 [(0, .ref (a0)), (1, .ref (gW G 6))] [] h Q
  refine x_aload_n (pc' := 1) 0 (dX33_infer 0 rfl rfl) rfl rfl rfl ?_
  obtain ⟨k1, hf⟩ := hf
  obtain ⟨b2, e3, hf⟩ := hf
  refine x_getR (pc' := 4) (dX33_infer 1 rfl rfl) g321 q1562 (Or.inl rfl) rfl (hf_of 30 k1 rfl (by decide) m30_321) e3 ?_
  refine x_aload_n (pc' := 5) 1 (dX33_infer 2 rfl rfl) rfl rfl rfl ?_
  obtain ⟨k, ν, ⟨v0, v1, v2, v3, v4, v5, v6, v7⟩, k32, hf⟩ := hf
  refine x_inv (pc' := 8) (ν := ν) (st := []) rfl (sub_tr v7 rfl) (dX33_infer 3 rfl rfl) (by have := v5; simp only [List.map, List.sum_cons, List.sum_nil, Value.category]; omega) v1 v2 (inv_U (k := k) (av := [_]) (dX33_infer 3 rfl rfl) q2524 q2512 (by decide) v3 v4 (by decide) (show _ = some 1 by decide +kernel) v0 k32) (exN v6) rfl ?_
  refine C.mono hf (fun _ _ => KI.g (fun x6 h4 hf le5 => ?_))
  replace le5 := Le.nx v6 le5
  have k1 := leK le5 k1 (by decide)
  replace s5 := s5.le sc5 (le5)
  replace s6 := s6.le sc6 (le5)
  refine x_istore_n (pc' := 9) (dX33_infer 4 rfl rfl) rfl (by decide) rfl rfl ?_
  refine x_iconst (pc' := 10) (v := 1) (dX33_infer 5 rfl rfl) (by decide) rfl ?_
  obtain ⟨z11, n1, n2, hf⟩ := hf
  refine x_newa0 (pc' := 12) (dX33_infer 6 rfl rfl) rfl z11 (by decide) n1 n2 (fun q7 h9 k8 e10 => ?_)
  replace hf := hf q7 k8 h9 e10
  replace k1 : hK h9 a0 = 31 := by rw [e10]; exact kNA k1 (by decide) k8
  replace s5 : So 5 (gW G) h9 := by rw [e10]; exact s5.le sc5 (nA_le k8)
  replace s6 : So 6 (gW G) h9 := by rw [e10]; exact s6.le sc6 (nA_le k8)
  have k12 : hK h9 q7 = 1000 := by rw [e10]; exact kNAs
  refine x_astore_n (pc' := 13) (dX33_infer 7 rfl rfl) rfl (by decide) rfl rfl ?_
  refine x_aload_n (pc' := 14) 0 (dX33_infer 8 rfl rfl) rfl rfl rfl ?_
  refine x_iconst (pc' := 15) (v := 0) (dX33_infer 9 rfl rfl) (by decide) rfl ?_
  refine x_iconst (pc' := 16) (v := -1) (dX33_infer 10 rfl rfl) (by decide) rfl ?_
  obtain ⟨n16, hf⟩ := hf
  obtain ⟨i13, hf⟩ := hf
  refine x_iast (pc' := 17) (dX33_infer 11 rfl rfl) rfl k12 (Or.inr ⟨n16, by decide⟩) i13 (fun h14 e15 => ?_)
  replace hf := hf h14 e15
  replace k1 : hK h14 a0 = 31 := by rw [e15]; exact k1
  replace k12 : hK h14 q7 = 1000 := by rw [e15]; exact k12
  replace s5 : So 5 (gW G) h14 := by rw [e15]; exact s5.le sc5 (sI_le )
  replace s6 : So 6 (gW G) h14 := by rw [e15]; exact s6.le sc6 (sI_le )
  refine x_aload_n (pc' := 18) 3 (dX33_infer 12 rfl rfl) rfl rfl rfl ?_
  refine x_aload_n (pc' := 19) 2 (dX33_infer 13 rfl rfl) rfl rfl rfl ?_
  obtain ⟨b17, e18, hf⟩ := hf
  refine x_getR (pc' := 22) (dX33_infer 14 rfl rfl) g322 q1563 (Or.inl rfl) rfl (hf_of 30 k1 rfl (by decide) m30_322) e18 ?_
  refine x_aload_n (pc' := 23) 0 (dX33_infer 15 rfl rfl) rfl rfl rfl ?_
  refine x_inv (pc' := 26) (ν := mX11_match) (av := [_, _, _]) (st := []) rfl rfl (dX33_infer 16 rfl rfl) (Nat.le_of_ble_eq_true rfl) wX11_match q225 (inv_V (k := 9) (dX33_infer 16 rfl rfl) q2775 q2426 q2427 wX11_match (by decide) lX11_match (by decide) s6.1) (exN (by decide)) rfl ?_
  refine C.mono hf (fun _ _ => KI.g (fun x21 h19 hf le20 => ?_))
  have k1 := leK le20 k1 (by decide)
  have k12 := leK le20 k12 (by decide)
  replace s5 := s5.le sc5 (le20)
  replace s6 := s6.le sc6 (le20)
  refine x_istore (pc' := 28) (dX33_infer 17 rfl rfl) (by decide) rfl rfl ?_
  refine x_aload_n (pc' := 29) 4 (dX33_infer 18 rfl rfl) rfl rfl rfl ?_
  refine x_iload_n (pc' := 30) 2 (dX33_infer 19 rfl rfl) rfl rfl rfl ?_
  refine x_aload_n (pc' := 31) 1 (dX33_infer 20 rfl rfl) rfl rfl rfl ?_
  refine x_iconst (pc' := 32) (v := 0) (dX33_infer 21 rfl rfl) (by decide) rfl ?_
  obtain ⟨i22, hf⟩ := hf
  refine x_iald (pc' := 33) (dX33_infer 22 rfl rfl) rfl k12 i22 ?_
  refine x_aload_n (pc' := 34) 3 (dX33_infer 23 rfl rfl) rfl rfl rfl ?_
  obtain ⟨b23, e24, hf⟩ := hf
  refine x_getR (pc' := 37) (dX33_infer 24 rfl rfl) g321 q1562 (Or.inl rfl) rfl (hf_of 30 k1 rfl (by decide) m30_321) e24 ?_
  obtain ⟨u25, hf⟩ := hf
  refine x_getI (pc' := 40) (dX33_infer 25 rfl rfl) g296 q1535 (Or.inl rfl) rfl u25 ?_
  refine x_inv (pc' := 43) (ν := mX11_same) (av := [_, _, _, _]) (st := []) rfl rfl (dX33_infer 26 rfl rfl) (Nat.le_of_ble_eq_true rfl) wX11_same q225 (inv_V (k := 9) (dX33_infer 26 rfl rfl) q2776 q2483 q2484 wX11_same (by decide) lX11_same (by decide) s6.1) (exN (by decide)) rfl ?_
  refine C.mono hf (fun _ _ => KV.g (fun h26 hf le27 => ?_))
  have k1 := leK le27 k1 (by decide)
  have k12 := leK le27 k12 (by decide)
  replace s5 := s5.le sc5 (le27)
  replace s6 := s6.le sc6 (le27)
  refine x_aload_n (pc' := 44) 4 (dX33_infer 27 rfl rfl) rfl rfl rfl ?_
  refine x_getR (pc' := 47) (dX33_infer 28 rfl rfl) g110 q829 (Or.inl rfl) rfl (hf_of 9 s6.1 rfl (by decide) m9_110) (s6.2 2 _ rfl rfl).1 ?_
  refine x_aload_n (pc' := 48) 3 (dX33_infer 29 rfl rfl) rfl rfl rfl ?_
  obtain ⟨b28, e29, hf⟩ := hf
  refine x_getR (pc' := 51) (dX33_infer 30 rfl rfl) g322 q1563 (Or.inl rfl) rfl (hf_of 30 k1 rfl (by decide) m30_322) e29 ?_
  refine x_aload_n (pc' := 52) 4 (dX33_infer 31 rfl rfl) rfl rfl rfl ?_
  refine x_getR (pc' := 55) (dX33_infer 32 rfl rfl) g109 q823 (Or.inl rfl) rfl (hf_of 9 s6.1 rfl (by decide) m9_109) (s6.2 1 _ rfl rfl).1 ?_
  refine x_aload_n (pc' := 56) 3 (dX33_infer 33 rfl rfl) rfl rfl rfl ?_
  refine x_getI (pc' := 59) (dX33_infer 34 rfl rfl) g296 q1537 (Or.inr q1538) rfl (hf_of 30 k1 rfl (by decide) m30_296) ?_
  refine x_inv (pc' := 62) (ν := mX10_check) (av := [_, _, _, _]) (st := []) rfl rfl (dX33_infer 35 rfl rfl) (Nat.le_of_ble_eq_true rfl) wX10_check q224 (inv_V (k := 8) (dX33_infer 35 rfl rfl) q2777 q2534 q2535 wX10_check (by decide) lX10_check (by decide) s5.1) (exN (by decide)) rfl ?_
  refine C.mono hf (fun _ _ => KV.g (fun h30 hf le31 => ?_))
  have k1 := leK le31 k1 (by decide)
  have k12 := leK le31 k12 (by decide)
  replace s5 := s5.le sc5 (le31)
  replace s6 := s6.le sc6 (le31)
  refine x_iload (pc' := 64) 0 (dX33_infer 36 rfl rfl) rfl rfl ?_
  exact x_iret (dX33_infer 37 rfl rfl) rfl hf
theorem bX33_begin (G : Gh) (d : Nat) (h : AH) (Q : Outcome → AH → Prop) (a0 : Nat) (p2 : Int32) (s3 : So 3 (gW G) h) (hf : C G mX6_pay d [.ref (gW G 3), .int (1)] h (KI Q (fun x3 h1 => (x3 = 0 → (Q (.returned none) h1)) ∧ (¬ x3 = 0 → (C G mX6_frame d [.ref (gW G 3), .ref (a0), .int (0), .int (p2)] h1 (KV Q (fun h5 => hK h5 a0 = 31 ∧ (∃ b8, fR h5 a0 321 = some b8 ∧ (C G mX6_next d [.ref (gW G 3), .ref (b8), .int (p2)] h5 (KV Q (fun h10 => Q (.returned none) h10))))))))))) : C G mX33_begin (d + 1) [.ref (a0), .ref (gW G 3), .int (p2)] h Q := by
  refine C.of_X (by decide +kernel) (Nat.le_of_ble_eq_true rfl) wX33_begin ?_
  show X G mX33_begin (d + 1) none [] 0 [(0, .ref (a0)), (1, .ref (gW G 3)), (2, .int (p2))] [] h Q
  refine x_aload_n (pc' := 1) 1 (dX33_begin 0 rfl rfl) rfl rfl rfl ?_
  refine x_iconst (pc' := 2) (v := 1) (dX33_begin 1 rfl rfl) (by decide) rfl ?_
  refine x_inv (pc' := 5) (ν := mX6_pay) (av := [_, _]) (st := []) rfl rfl (dX33_begin 2 rfl rfl) (Nat.le_of_ble_eq_true rfl) wX6_pay q220 (inv_V (k := 4) (dX33_begin 2 rfl rfl) q2919 q2891 q2892 wX6_pay (by decide) lX6_pay (by decide) s3.1) (exN (by decide)) rfl ?_
  refine C.mono hf (fun _ _ => KI.g (fun x3 h1 hf le2 => ?_))
  replace s3 := s3.le sc3 (le2)
  refine x_if_ne (pc' := 8) (tgt := 9) (dX33_begin 3 rfl rfl) (by decide) rfl (fun c4 => ?_) (fun c4 => ?_)
  · replace hf := hf.2 c4
    refine x_aload_n (pc' := 10) 1 (dX33_begin 5 rfl rfl) rfl rfl rfl ?_
    refine x_aload_n (pc' := 11) 0 (dX33_begin 6 rfl rfl) rfl rfl rfl ?_
    refine x_iconst (pc' := 12) (v := 0) (dX33_begin 7 rfl rfl) (by decide) rfl ?_
    refine x_iload_n (pc' := 13) 2 (dX33_begin 8 rfl rfl) rfl rfl rfl ?_
    refine x_inv (pc' := 16) (ν := mX6_frame) (av := [_, _, _, _]) (st := []) rfl rfl (dX33_begin 9 rfl rfl) (Nat.le_of_ble_eq_true rfl) wX6_frame q220 (inv_V (k := 4) (dX33_begin 9 rfl rfl) q2920 q2899 q2900 wX6_frame (by decide) lX6_frame (by decide) s3.1) (exN (by decide)) rfl ?_
    refine C.mono hf (fun _ _ => KV.g (fun h5 hf le6 => ?_))
    replace s3 := s3.le sc3 (le6)
    refine x_aload_n (pc' := 17) 1 (dX33_begin 10 rfl rfl) rfl rfl rfl ?_
    refine x_aload_n (pc' := 18) 0 (dX33_begin 11 rfl rfl) rfl rfl rfl ?_
    obtain ⟨k7, hf⟩ := hf
    obtain ⟨b8, e9, hf⟩ := hf
    refine x_getR (pc' := 21) (dX33_begin 12 rfl rfl) g321 q1562 (Or.inl rfl) rfl (hf_of 30 k7 rfl (by decide) m30_321) e9 ?_
    refine x_iload_n (pc' := 22) 2 (dX33_begin 13 rfl rfl) rfl rfl rfl ?_
    refine x_inv (pc' := 25) (ν := mX6_next) (av := [_, _, _]) (st := []) rfl rfl (dX33_begin 14 rfl rfl) (Nat.le_of_ble_eq_true rfl) wX6_next q220 (inv_V (k := 4) (dX33_begin 14 rfl rfl) q2921 q2881 q2882 wX6_next (by decide) lX6_next (by decide) s3.1) (exN (by decide)) rfl ?_
    refine C.mono hf (fun _ _ => KV.g (fun h10 hf le11 => ?_))
    have k7 := leK le11 k7 (by decide)
    replace s3 := s3.le sc3 (le11)
    exact x_vret (dX33_begin 15 rfl rfl) rfl hf
  · replace hf := hf.1 (Classical.not_not.mp c4)
    replace c4 := Classical.not_not.mp c4
    exact x_vret (dX33_begin 4 rfl rfl) rfl hf
theorem bX33_resume (G : Gh) (d : Nat) (h : AH) (Q : Outcome → AH → Prop) (a0 : Nat) (p2 : Int32) (p3 : Int32) (p4 : Int32) (s3 : So 3 (gW G) h) (hf : hK h a0 = 31 ∧ (∃ b2, fR h a0 322 = some b2 ∧ (C G mX6_choose d [.ref (gW G 3), .ref (b2), .int (p4), .int (p3)] h (KV Q (fun h4 => Q (.returned none) h4))))) : C G mX33_resume (d + 1) [.ref (a0), .ref (gW G 3), .int (p2), .int (p3), .int (p4)] h Q := by
  refine C.of_X (by decide +kernel) (Nat.le_of_ble_eq_true rfl) wX33_resume ?_
  show X G mX33_resume (d + 1) none [] 0 [(0, .ref (a0)), (1, .ref (gW G 3)), (2, .int (p2)), (3, .int (p3)), (4, .int (p4))] [] h Q
  refine x_aload_n (pc' := 1) 1 (dX33_resume 0 rfl rfl) rfl rfl rfl ?_
  refine x_aload_n (pc' := 2) 0 (dX33_resume 1 rfl rfl) rfl rfl rfl ?_
  obtain ⟨k1, hf⟩ := hf
  obtain ⟨b2, e3, hf⟩ := hf
  refine x_getR (pc' := 5) (dX33_resume 2 rfl rfl) g322 q1563 (Or.inl rfl) rfl (hf_of 30 k1 rfl (by decide) m30_322) e3 ?_
  refine x_iload (pc' := 7) 4 (dX33_resume 3 rfl rfl) rfl rfl ?_
  refine x_iload_n (pc' := 8) 3 (dX33_resume 4 rfl rfl) rfl rfl rfl ?_
  refine x_inv (pc' := 11) (ν := mX6_choose) (av := [_, _, _, _]) (st := []) rfl rfl (dX33_resume 5 rfl rfl) (Nat.le_of_ble_eq_true rfl) wX6_choose q220 (inv_V (k := 4) (dX33_resume 5 rfl rfl) q3201 q3202 q3203 wX6_choose (by decide) lX6_choose (by decide) s3.1) (exN (by decide)) rfl ?_
  refine C.mono hf (fun _ _ => KV.g (fun h4 hf le5 => ?_))
  have k1 := leK le5 k1 (by decide)
  replace s3 := s3.le sc3 (le5)
  exact x_vret (dX33_resume 6 rfl rfl) rfl hf
theorem bX34_init (G : Gh) (d : Nat) (h : AH) (Q : Outcome → AH → Prop) (a0 : Nat) (p1 : Int32) (p2 : Nat) (p3 : Nat) (p4 : Nat) (hf : C G mX16_init d [.ref (a0), .int (p1)] h (KV Q (fun h1 => hK h1 a0 = 32 ∧ (∀ h4, h4 = pR h1 a0 323 (some p2) → (∀ h5, h5 = pR h4 a0 324 (some p3) → (∀ h6, h6 = pR h5 a0 325 (some p4) → (Q (.returned none) h6))))))) : C G mX34_init (d + 1) [.ref (a0), .int (p1), .ref (p2), .ref (p3), .ref (p4)] h Q := by
  refine C.of_X (by decide +kernel) (Nat.le_of_ble_eq_true rfl) wX34_init ?_
  show X G mX34_init (d + 1) (some a0) [] 0 [(0, .ref (a0)), (1, .int (p1)), (2, .ref (p2)), (3, .ref (p3)), (4, .ref (p4))] [] h Q
  refine x_aload_n (pc' := 1) 0 (dX34_init 0 rfl rfl) rfl rfl rfl ?_
  refine x_iload_n (pc' := 2) 1 (dX34_init 1 rfl rfl) rfl rfl rfl ?_
  refine x_inv (pc' := 5) (ν := mX16_init) (av := [_, _]) (st := []) rfl rfl (dX34_init 2 rfl rfl) (Nat.le_of_ble_eq_true rfl) wX16_init q237 (inv_I (dX34_init 2 rfl rfl) q1576 q1521 q1522 rfl (by decide) lX16_init) (fun b hb => by exact Or.inr (by rw [← hb]; rfl)) rfl ?_
  refine C.mono hf (fun _ _ => KV.g (fun h1 hf le2 => ?_))
  refine x_aload_n (pc' := 6) 0 (dX34_init 3 rfl rfl) rfl rfl rfl ?_
  refine x_aload_n (pc' := 7) 2 (dX34_init 4 rfl rfl) rfl rfl rfl ?_
  obtain ⟨k3, hf⟩ := hf
  refine x_putR (pc' := 10) (dX34_init 5 rfl rfl) g323 q1577 (Or.inl rfl) (Or.inr ⟨rfl, rfl, rfl, rfl⟩) (Or.inr rfl) rfl (hf_of 31 k3 rfl (by decide) m31_323) (fun h4 e9 => ?_)
  replace hf := hf h4 e9
  replace k3 : hK h4 a0 = 32 := by rw [e9]; exact k3
  refine x_aload_n (pc' := 11) 0 (dX34_init 6 rfl rfl) rfl rfl rfl ?_
  refine x_aload_n (pc' := 12) 3 (dX34_init 7 rfl rfl) rfl rfl rfl ?_
  refine x_putR (pc' := 15) (dX34_init 8 rfl rfl) g324 q1578 (Or.inl rfl) (Or.inr ⟨rfl, rfl, rfl, rfl⟩) (Or.inr rfl) rfl (hf_of 31 k3 rfl (by decide) m31_324) (fun h5 e8 => ?_)
  replace hf := hf h5 e8
  replace k3 : hK h5 a0 = 32 := by rw [e8]; exact k3
  refine x_aload_n (pc' := 16) 0 (dX34_init 9 rfl rfl) rfl rfl rfl ?_
  refine x_aload (pc' := 18) 4 (dX34_init 10 rfl rfl) rfl rfl ?_
  refine x_putR (pc' := 21) (dX34_init 11 rfl rfl) g325 q1579 (Or.inl rfl) (Or.inr ⟨rfl, rfl, rfl, rfl⟩) (Or.inr rfl) rfl (hf_of 31 k3 rfl (by decide) m31_325) (fun h6 e7 => ?_)
  replace hf := hf h6 e7
  replace k3 : hK h6 a0 = 32 := by rw [e7]; exact k3
  exact x_vret (dX34_init 12 rfl rfl) rfl hf
theorem bX34_resolve (G : Gh) (d : Nat) (h : AH) (Q : Outcome → AH → Prop) (a0 : Nat) (hf : hK h a0 = 32 ∧ (∃ b2, fR h a0 323 = some b2 ∧ (∃ (k : Nat) (ν : Mu), VT ⟨"LetMill$Exp", "resolve", "(LLetMill$Scope;)V"⟩ VMExp_resolve k ν ∧ hK h b2 = k + 1 ∧ C G ν d [.ref (b2), .ref (gW G 4)] h (KV Q (fun h4 => ∃ b6, fR h4 a0 324 = some b6 ∧ (∃ (k : Nat) (ν : Mu), VT ⟨"LetMill$Exp", "resolve", "(LLetMill$Scope;)V"⟩ VMExp_resolve k ν ∧ hK h4 b6 = k + 1 ∧ C G ν d [.ref (b6), .ref (gW G 4)] h4 (KV Q (fun h8 => ∃ b10, fR h8 a0 325 = some b10 ∧ (∃ (k : Nat) (ν : Mu), VT ⟨"LetMill$Exp", "resolve", "(LLetMill$Scope;)V"⟩ VMExp_resolve k ν ∧ hK h8 b10 = k + 1 ∧ C G ν d [.ref (b10), .ref (gW G 4)] h8 (KV Q (fun h12 => Q (.returned none) h12))))))))))) : C G mX34_resolve (d + 1) [.ref (a0), .ref (gW G 4)] h Q := by
  refine C.of_X (by decide +kernel) (Nat.le_of_ble_eq_true rfl) wX34_resolve ?_
  show X G mX34_resolve (d + 1) none [] 0 [(0, .ref (a0)), (1, .ref (gW G 4))] [] h Q
  refine x_aload_n (pc' := 1) 0 (dX34_resolve 0 rfl rfl) rfl rfl rfl ?_
  obtain ⟨k1, hf⟩ := hf
  obtain ⟨b2, e3, hf⟩ := hf
  refine x_getR (pc' := 4) (dX34_resolve 1 rfl rfl) g323 q1577 (Or.inl rfl) rfl (hf_of 31 k1 rfl (by decide) m31_323) e3 ?_
  refine x_aload_n (pc' := 5) 1 (dX34_resolve 2 rfl rfl) rfl rfl rfl ?_
  obtain ⟨k, ν, ⟨v0, v1, v2, v3, v4, v5, v6, v7⟩, k20, hf⟩ := hf
  refine x_inv (pc' := 8) (ν := ν) (st := []) rfl (sub_tr v7 rfl) (dX34_resolve 3 rfl rfl) (by have := v5; simp only [List.map, List.sum_cons, List.sum_nil, Value.category]; omega) v1 v2 (inv_U (k := k) (av := [_]) (dX34_resolve 3 rfl rfl) q2275 q2251 (by decide) v3 v4 (by decide) (show _ = some 1 by decide +kernel) v0 k20) (exN v6) rfl ?_
  refine C.mono hf (fun _ _ => KV.g (fun h4 hf le5 => ?_))
  replace le5 := Le.nx v6 le5
  have k1 := leK le5 k1 (by decide)
  refine x_aload_n (pc' := 9) 0 (dX34_resolve 4 rfl rfl) rfl rfl rfl ?_
  obtain ⟨b6, e7, hf⟩ := hf
  refine x_getR (pc' := 12) (dX34_resolve 5 rfl rfl) g324 q1578 (Or.inl rfl) rfl (hf_of 31 k1 rfl (by decide) m31_324) e7 ?_
  refine x_aload_n (pc' := 13) 1 (dX34_resolve 6 rfl rfl) rfl rfl rfl ?_
  obtain ⟨k, ν, ⟨v0, v1, v2, v3, v4, v5, v6, v7⟩, k17, hf⟩ := hf
  refine x_inv (pc' := 16) (ν := ν) (st := []) rfl (sub_tr v7 rfl) (dX34_resolve 7 rfl rfl) (by have := v5; simp only [List.map, List.sum_cons, List.sum_nil, Value.category]; omega) v1 v2 (inv_U (k := k) (av := [_]) (dX34_resolve 7 rfl rfl) q2275 q2251 (by decide) v3 v4 (by decide) (show _ = some 1 by decide +kernel) v0 k17) (exN v6) rfl ?_
  refine C.mono hf (fun _ _ => KV.g (fun h8 hf le9 => ?_))
  replace le9 := Le.nx v6 le9
  have k1 := leK le9 k1 (by decide)
  refine x_aload_n (pc' := 17) 0 (dX34_resolve 8 rfl rfl) rfl rfl rfl ?_
  obtain ⟨b10, e11, hf⟩ := hf
  refine x_getR (pc' := 20) (dX34_resolve 9 rfl rfl) g325 q1579 (Or.inl rfl) rfl (hf_of 31 k1 rfl (by decide) m31_325) e11 ?_
  refine x_aload_n (pc' := 21) 1 (dX34_resolve 10 rfl rfl) rfl rfl rfl ?_
  obtain ⟨k, ν, ⟨v0, v1, v2, v3, v4, v5, v6, v7⟩, k14, hf⟩ := hf
  refine x_inv (pc' := 24) (ν := ν) (st := []) rfl (sub_tr v7 rfl) (dX34_resolve 11 rfl rfl) (by have := v5; simp only [List.map, List.sum_cons, List.sum_nil, Value.category]; omega) v1 v2 (inv_U (k := k) (av := [_]) (dX34_resolve 11 rfl rfl) q2275 q2251 (by decide) v3 v4 (by decide) (show _ = some 1 by decide +kernel) v0 k14) (exN v6) rfl ?_
  refine C.mono hf (fun _ _ => KV.g (fun h12 hf le13 => ?_))
  replace le13 := Le.nx v6 le13
  have k1 := leK le13 k1 (by decide)
  exact x_vret (dX34_resolve 12 rfl rfl) rfl hf
theorem bX34_infer (G : Gh) (d : Nat) (h : AH) (Q : Outcome → AH → Prop) (a0 : Nat) (s2 : So 2 (gW G) h) (s6 : So 6 (gW G) h) (hf : hK h a0 = 32 ∧ (∃ b2, fR h a0 323 = some b2 ∧ (∃ (k : Nat) (ν : Mu), VT ⟨"LetMill$Exp", "infer", "(LLetMill$Typer;)I"⟩ VMExp_infer k ν ∧ hK h b2 = k + 1 ∧ C G ν d [.ref (b2), .ref (gW G 6)] h (KI Q (fun x6 h4 => ∃ b7, fR h4 a0 323 = some b7 ∧ (HF h4 b7 296 0 ∧ (C G mX11_same d [.ref (gW G 6), .int (x6), .int (fI h4 (gW G 2) 43), .int (fI h4 b7 296)] h4 (KV Q (fun h10 => ∃ b12, fR h10 a0 324 = some b12 ∧ (∃ (k : Nat) (ν : Mu), VT ⟨"LetMill$Exp", "infer", "(LLetMill$Typer;)I"⟩ VMExp_infer k ν ∧ hK h10 b12 = k + 1 ∧ C G ν d [.ref (b12), .ref (gW G 6)] h10 (KI Q (fun x16 h14 => ∃ b17, fR h14 a0 325 = some b17 ∧ (∃ (k : Nat) (ν : Mu), VT ⟨"LetMill$Exp", "infer", "(LLetMill$Typer;)I"⟩ VMExp_infer k ν ∧ hK h14 b17 = k + 1 ∧ C G ν d [.ref (b17), .ref (gW G 6)] h14 (KI Q (fun x21 h19 => ∃ b22, fR h19 a0 325 = some b22 ∧ (HF h19 b22 296 0 ∧ (C G mX11_same d [.ref (gW G 6), .int (x21), .int (x16), .int (fI h19 b22 296)] h19 (KV Q (fun h25 => Q (.returned (some (.int x16))) h25))))))))))))))))))) : C G mX34_infer (d + 1) [.ref (a0), .ref (gW G 6)] h Q := by
  refine C.of_X (by decide +kernel) (Nat.le_of_ble_eq_true rfl) wX34_infer ?_
  show X G mX34_infer (d + 1) none [] 0 [(0, .ref (a0)), (1, .ref (gW G 6))] [] h Q
  refine x_aload_n (pc' := 1) 1 (dX34_infer 0 rfl rfl) rfl rfl rfl ?_
  refine x_aload_n (pc' := 2) 0 (dX34_infer 1 rfl rfl) rfl rfl rfl ?_
  obtain ⟨k1, hf⟩ := hf
  obtain ⟨b2, e3, hf⟩ := hf
  refine x_getR (pc' := 5) (dX34_infer 2 rfl rfl) g323 q1577 (Or.inl rfl) rfl (hf_of 31 k1 rfl (by decide) m31_323) e3 ?_
  refine x_aload_n (pc' := 6) 1 (dX34_infer 3 rfl rfl) rfl rfl rfl ?_
  obtain ⟨k, ν, ⟨v0, v1, v2, v3, v4, v5, v6, v7⟩, k33, hf⟩ := hf
  refine x_inv (pc' := 9) (ν := ν) (st := [_]) rfl (sub_tr v7 rfl) (dX34_infer 4 rfl rfl) (by have := v5; simp only [List.map, List.sum_cons, List.sum_nil, Value.category]; omega) v1 v2 (inv_U (k := k) (av := [_]) (dX34_infer 4 rfl rfl) q2634 q2512 (by decide) v3 v4 (by decide) (show _ = some 1 by decide +kernel) v0 k33) (exN v6) rfl ?_
  refine C.mono hf (fun _ _ => KI.g (fun x6 h4 hf le5 => ?_))
  replace le5 := Le.nx v6 le5
  have k1 := leK le5 k1 (by decide)
  replace s2 := s2.le sc2 (le5)
  replace s6 := s6.le sc6 (le5)
  refine x_aload_n (pc' := 10) 1 (dX34_infer 5 rfl rfl) rfl rfl rfl ?_
  refine x_getR (pc' := 13) (dX34_infer 6 rfl rfl) g108 q809 (Or.inl rfl) rfl (hf_of 9 s6.1 rfl (by decide) m9_108) (s6.2 0 _ rfl rfl).1 ?_
  refine x_getI (pc' := 16) (dX34_infer 7 rfl rfl) g43 q499 (Or.inl rfl) rfl (hf_of 2 s2.1 rfl (by decide) m2_43) ?_
  refine x_aload_n (pc' := 17) 0 (dX34_infer 8 rfl rfl) rfl rfl rfl ?_
  obtain ⟨b7, e8, hf⟩ := hf
  refine x_getR (pc' := 20) (dX34_infer 9 rfl rfl) g323 q1577 (Or.inl rfl) rfl (hf_of 31 k1 rfl (by decide) m31_323) e8 ?_
  obtain ⟨u9, hf⟩ := hf
  refine x_getI (pc' := 23) (dX34_infer 10 rfl rfl) g296 q1532 (Or.inl rfl) rfl u9 ?_
  refine x_inv (pc' := 26) (ν := mX11_same) (av := [_, _, _, _]) (st := []) rfl rfl (dX34_infer 11 rfl rfl) (Nat.le_of_ble_eq_true rfl) wX11_same q225 (inv_V (k := 9) (dX34_infer 11 rfl rfl) q2760 q2483 q2484 wX11_same (by decide) lX11_same (by decide) s6.1) (exN (by decide)) rfl ?_
  refine C.mono hf (fun _ _ => KV.g (fun h10 hf le11 => ?_))
  have k1 := leK le11 k1 (by decide)
  replace s2 := s2.le sc2 (le11)
  replace s6 := s6.le sc6 (le11)
  refine x_aload_n (pc' := 27) 0 (dX34_infer 12 rfl rfl) rfl rfl rfl ?_
  obtain ⟨b12, e13, hf⟩ := hf
  refine x_getR (pc' := 30) (dX34_infer 13 rfl rfl) g324 q1578 (Or.inl rfl) rfl (hf_of 31 k1 rfl (by decide) m31_324) e13 ?_
  refine x_aload_n (pc' := 31) 1 (dX34_infer 14 rfl rfl) rfl rfl rfl ?_
  obtain ⟨k, ν, ⟨v0, v1, v2, v3, v4, v5, v6, v7⟩, k30, hf⟩ := hf
  refine x_inv (pc' := 34) (ν := ν) (st := []) rfl (sub_tr v7 rfl) (dX34_infer 15 rfl rfl) (by have := v5; simp only [List.map, List.sum_cons, List.sum_nil, Value.category]; omega) v1 v2 (inv_U (k := k) (av := [_]) (dX34_infer 15 rfl rfl) q2634 q2512 (by decide) v3 v4 (by decide) (show _ = some 1 by decide +kernel) v0 k30) (exN v6) rfl ?_
  refine C.mono hf (fun _ _ => KI.g (fun x16 h14 hf le15 => ?_))
  replace le15 := Le.nx v6 le15
  have k1 := leK le15 k1 (by decide)
  replace s2 := s2.le sc2 (le15)
  replace s6 := s6.le sc6 (le15)
  refine x_istore_n (pc' := 35) (dX34_infer 16 rfl rfl) rfl (by decide) rfl rfl ?_
  refine x_aload_n (pc' := 36) 1 (dX34_infer 17 rfl rfl) rfl rfl rfl ?_
  obtain ⟨b17, e18, hf⟩ := hf
  refine x_getR (pc' := 39) (dX34_infer 18 rfl rfl) g325 q1579 (Or.inl rfl) rfl (hf_of 31 k1 rfl (by decide) m31_325) e18 ?_
  refine x_aload_n (pc' := 40) 2 (dX34_infer 19 rfl rfl) rfl rfl rfl ?_
  obtain ⟨k, ν, ⟨v0, v1, v2, v3, v4, v5, v6, v7⟩, k27, hf⟩ := hf
  refine x_inv (pc' := 43) (ν := ν) (st := []) rfl (sub_tr v7 rfl) (dX34_infer 20 rfl rfl) (by have := v5; simp only [List.map, List.sum_cons, List.sum_nil, Value.category]; omega) v1 v2 (inv_U (k := k) (av := [_]) (dX34_infer 20 rfl rfl) q2634 q2512 (by decide) v3 v4 (by decide) (show _ = some 1 by decide +kernel) v0 k27) (exN v6) rfl ?_
  refine C.mono hf (fun _ _ => KI.g (fun x21 h19 hf le20 => ?_))
  replace le20 := Le.nx v6 le20
  have k1 := leK le20 k1 (by decide)
  replace s2 := s2.le sc2 (le20)
  replace s6 := s6.le sc6 (le20)
  refine x_istore_n (pc' := 44) (dX34_infer 21 rfl rfl) rfl (by decide) rfl rfl ?_
  refine x_aload_n (pc' := 45) 3 (dX34_infer 22 rfl rfl) rfl rfl rfl ?_
  refine x_iload_n (pc' := 46) 0 (dX34_infer 23 rfl rfl) rfl rfl rfl ?_
  refine x_iload_n (pc' := 47) 1 (dX34_infer 24 rfl rfl) rfl rfl rfl ?_
  refine x_aload_n (pc' := 48) 2 (dX34_infer 25 rfl rfl) rfl rfl rfl ?_
  obtain ⟨b22, e23, hf⟩ := hf
  refine x_getR (pc' := 51) (dX34_infer 26 rfl rfl) g325 q1579 (Or.inl rfl) rfl (hf_of 31 k1 rfl (by decide) m31_325) e23 ?_
  obtain ⟨u24, hf⟩ := hf
  refine x_getI (pc' := 54) (dX34_infer 27 rfl rfl) g296 q1532 (Or.inl rfl) rfl u24 ?_
  refine x_inv (pc' := 57) (ν := mX11_same) (av := [_, _, _, _]) (st := []) rfl rfl (dX34_infer 28 rfl rfl) (Nat.le_of_ble_eq_true rfl) wX11_same q225 (inv_V (k := 9) (dX34_infer 28 rfl rfl) q2760 q2483 q2484 wX11_same (by decide) lX11_same (by decide) s6.1) (exN (by decide)) rfl ?_
  refine C.mono hf (fun _ _ => KV.g (fun h25 hf le26 => ?_))
  have k1 := leK le26 k1 (by decide)
  replace s2 := s2.le sc2 (le26)
  replace s6 := s6.le sc6 (le26)
  refine x_iload_n (pc' := 58) 1 (dX34_infer 29 rfl rfl) rfl rfl rfl ?_
  exact x_iret (dX34_infer 30 rfl rfl) rfl hf
theorem bX34_begin (G : Gh) (d : Nat) (h : AH) (Q : Outcome → AH → Prop) (a0 : Nat) (p2 : Int32) (s3 : So 3 (gW G) h) (hf : C G mX6_pay d [.ref (gW G 3), .int (1)] h (KI Q (fun x3 h1 => (x3 = 0 → (Q (.returned none) h1)) ∧ (¬ x3 = 0 → (C G mX6_frame d [.ref (gW G 3), .ref (a0), .int (0), .int (p2)] h1 (KV Q (fun h5 => hK h5 a0 = 32 ∧ (∃ b8, fR h5 a0 323 = some b8 ∧ (C G mX6_next d [.ref (gW G 3), .ref (b8), .int (p2)] h5 (KV Q (fun h10 => Q (.returned none) h10))))))))))) : C G mX34_begin (d + 1) [.ref (a0), .ref (gW G 3), .int (p2)] h Q := by
  refine C.of_X (by decide +kernel) (Nat.le_of_ble_eq_true rfl) wX34_begin ?_
  show X G mX34_begin (d + 1) none [] 0 [(0, .ref (a0)), (1, .ref (gW G 3)), (2, .int (p2))] [] h Q
  refine x_aload_n (pc' := 1) 1 (dX34_begin 0 rfl rfl) rfl rfl rfl ?_
  refine x_iconst (pc' := 2) (v := 1) (dX34_begin 1 rfl rfl) (by decide) rfl ?_
  refine x_inv (pc' := 5) (ν := mX6_pay) (av := [_, _]) (st := []) rfl rfl (dX34_begin 2 rfl rfl) (Nat.le_of_ble_eq_true rfl) wX6_pay q220 (inv_V (k := 4) (dX34_begin 2 rfl rfl) q2961 q2891 q2892 wX6_pay (by decide) lX6_pay (by decide) s3.1) (exN (by decide)) rfl ?_
  refine C.mono hf (fun _ _ => KI.g (fun x3 h1 hf le2 => ?_))
  replace s3 := s3.le sc3 (le2)
  refine x_if_ne (pc' := 8) (tgt := 9) (dX34_begin 3 rfl rfl) (by decide) rfl (fun c4 => ?_) (fun c4 => ?_)
  · replace hf := hf.2 c4
    refine x_aload_n (pc' := 10) 1 (dX34_begin 5 rfl rfl) rfl rfl rfl ?_
    refine x_aload_n (pc' := 11) 0 (dX34_begin 6 rfl rfl) rfl rfl rfl ?_
    refine x_iconst (pc' := 12) (v := 0) (dX34_begin 7 rfl rfl) (by decide) rfl ?_
    refine x_iload_n (pc' := 13) 2 (dX34_begin 8 rfl rfl) rfl rfl rfl ?_
    refine x_inv (pc' := 16) (ν := mX6_frame) (av := [_, _, _, _]) (st := []) rfl rfl (dX34_begin 9 rfl rfl) (Nat.le_of_ble_eq_true rfl) wX6_frame q220 (inv_V (k := 4) (dX34_begin 9 rfl rfl) q2962 q2899 q2900 wX6_frame (by decide) lX6_frame (by decide) s3.1) (exN (by decide)) rfl ?_
    refine C.mono hf (fun _ _ => KV.g (fun h5 hf le6 => ?_))
    replace s3 := s3.le sc3 (le6)
    refine x_aload_n (pc' := 17) 1 (dX34_begin 10 rfl rfl) rfl rfl rfl ?_
    refine x_aload_n (pc' := 18) 0 (dX34_begin 11 rfl rfl) rfl rfl rfl ?_
    obtain ⟨k7, hf⟩ := hf
    obtain ⟨b8, e9, hf⟩ := hf
    refine x_getR (pc' := 21) (dX34_begin 12 rfl rfl) g323 q1577 (Or.inl rfl) rfl (hf_of 31 k7 rfl (by decide) m31_323) e9 ?_
    refine x_iload_n (pc' := 22) 2 (dX34_begin 13 rfl rfl) rfl rfl rfl ?_
    refine x_inv (pc' := 25) (ν := mX6_next) (av := [_, _, _]) (st := []) rfl rfl (dX34_begin 14 rfl rfl) (Nat.le_of_ble_eq_true rfl) wX6_next q220 (inv_V (k := 4) (dX34_begin 14 rfl rfl) q2963 q2881 q2882 wX6_next (by decide) lX6_next (by decide) s3.1) (exN (by decide)) rfl ?_
    refine C.mono hf (fun _ _ => KV.g (fun h10 hf le11 => ?_))
    have k7 := leK le11 k7 (by decide)
    replace s3 := s3.le sc3 (le11)
    exact x_vret (dX34_begin 15 rfl rfl) rfl hf
  · replace hf := hf.1 (Classical.not_not.mp c4)
    replace c4 := Classical.not_not.mp c4
    exact x_vret (dX34_begin 4 rfl rfl) rfl hf
theorem bX34_resume (G : Gh) (d : Nat) (h : AH) (Q : Outcome → AH → Prop) (a0 : Nat) (p2 : Int32) (p3 : Int32) (p4 : Int32) (s3 : So 3 (gW G) h) (hf : C G mX6_isTrue d [.ref (gW G 3), .int (p4)] h (KI Q (fun x3 h1 => (x3 = 0 → (hK h1 a0 = 32 ∧ (∃ b6, fR h1 a0 325 = some b6 ∧ (C G mX6_next d [.ref (gW G 3), .ref (b6), .int (p3)] h1 (KV Q (fun h8 => Q (.returned none) h8)))))) ∧ (¬ x3 = 0 → (hK h1 a0 = 32 ∧ (∃ b11, fR h1 a0 324 = some b11 ∧ (C G mX6_next d [.ref (gW G 3), .ref (b11), .int (p3)] h1 (KV Q (fun h13 => Q (.returned none) h13))))))))) : C G mX34_resume (d + 1) [.ref (a0), .ref (gW G 3), .int (p2), .int (p3), .int (p4)] h Q := by
  refine C.of_X (by decide +kernel) (Nat.le_of_ble_eq_true rfl) wX34_resume ?_
  show X G mX34_resume (d + 1) none [] 0 [(0, .ref (a0)), (1, .ref (gW G 3)), (2, .int (p2)), (3, .int (p3)), (4, .int (p4))] [] h Q
  refine x_aload_n (pc' := 1) 1 (dX34_resume 0 rfl rfl) rfl rfl rfl ?_
  refine x_aload_n (pc' := 2) 1 (dX34_resume 1 rfl rfl) rfl rfl rfl ?_
  refine x_iload (pc' := 4) 4 (dX34_resume 2 rfl rfl) rfl rfl ?_
  refine x_inv (pc' := 7) (ν := mX6_isTrue) (av := [_, _]) (st := [_]) rfl rfl (dX34_resume 3 rfl rfl) (Nat.le_of_ble_eq_true rfl) wX6_isTrue q220 (inv_V (k := 4) (dX34_resume 3 rfl rfl) q3234 q3084 q3085 wX6_isTrue (by decide) lX6_isTrue (by decide) s3.1) (exN (by decide)) rfl ?_
  refine C.mono hf (fun _ _ => KI.g (fun x3 h1 hf le2 => ?_))
  replace s3 := s3.le sc3 (le2)
  refine x_if_eq (pc' := 10) (tgt := 17) (dX34_resume 4 rfl rfl) (by decide) rfl (fun c4 => ?_) (fun c4 => ?_)
  · replace hf := hf.1 c4
    refine x_aload_n (pc' := 18) 0 (dX34_resume 8 rfl rfl) rfl rfl rfl ?_
    obtain ⟨k5, hf⟩ := hf
    obtain ⟨b6, e7, hf⟩ := hf
    refine x_getR (pc' := 21) (dX34_resume 9 rfl rfl) g325 q1579 (Or.inl rfl) rfl (hf_of 31 k5 rfl (by decide) m31_325) e7 ?_
    refine x_iload_n (pc' := 22) 3 (dX34_resume 10 rfl rfl) rfl rfl rfl ?_
    refine x_inv (pc' := 25) (ν := mX6_next) (av := [_, _, _]) (st := []) rfl rfl (dX34_resume 11 rfl rfl) (Nat.le_of_ble_eq_true rfl) wX6_next q220 (inv_V (k := 4) (dX34_resume 11 rfl rfl) q2963 q2881 q2882 wX6_next (by decide) lX6_next (by decide) s3.1) (exN (by decide)) rfl ?_
    refine C.mono hf (fun _ _ => KV.g (fun h8 hf le9 => ?_))
    have k5 := leK le9 k5 (by decide)
    replace s3 := s3.le sc3 (le9)
    exact x_vret (dX34_resume 12 rfl rfl) rfl hf
  · replace hf := hf.2 c4
    refine x_aload_n (pc' := 11) 0 (dX34_resume 5 rfl rfl) rfl rfl rfl ?_
    obtain ⟨k10, hf⟩ := hf
    obtain ⟨b11, e12, hf⟩ := hf
    refine x_getR (pc' := 14) (dX34_resume 6 rfl rfl) g324 q1578 (Or.inl rfl) rfl (hf_of 31 k10 rfl (by decide) m31_324) e12 ?_
    refine x_goto (tgt := 21) (dX34_resume 7 rfl rfl) (by decide) ?_
    refine x_iload_n (pc' := 22) 3 (dX34_resume 10 rfl rfl) rfl rfl rfl ?_
    refine x_inv (pc' := 25) (ν := mX6_next) (av := [_, _, _]) (st := []) rfl rfl (dX34_resume 11 rfl rfl) (Nat.le_of_ble_eq_true rfl) wX6_next q220 (inv_V (k := 4) (dX34_resume 11 rfl rfl) q2963 q2881 q2882 wX6_next (by decide) lX6_next (by decide) s3.1) (exN (by decide)) rfl ?_
    refine C.mono hf (fun _ _ => KV.g (fun h13 hf le14 => ?_))
    have k10 := leK le14 k10 (by decide)
    replace s3 := s3.le sc3 (le14)
    exact x_vret (dX34_resume 12 rfl rfl) rfl hf
theorem bX35_init (G : Gh) (d : Nat) (h : AH) (Q : Outcome → AH → Prop) (a0 : Nat) (p1 : Int32) (hf : C G mX16_init d [.ref (a0), .int (p1)] h (KV Q (fun h1 => Q (.returned none) h1))) : C G mX35_init (d + 1) [.ref (a0), .int (p1)] h Q := by
  refine C.of_X (by decide +kernel) (Nat.le_of_ble_eq_true rfl) wX35_init ?_
  show X G mX35_init (d + 1) (some a0) [] 0 [(0, .ref (a0)), (1, .int (p1))] [] h Q
  refine x_aload_n (pc' := 1) 0 (dX35_init 0 rfl rfl) rfl rfl rfl ?_
  refine x_iload_n (pc' := 2) 1 (dX35_init 1 rfl rfl) rfl rfl rfl ?_
  refine x_inv (pc' := 5) (ν := mX16_init) (av := [_, _]) (st := []) rfl rfl (dX35_init 2 rfl rfl) (Nat.le_of_ble_eq_true rfl) wX16_init q237 (inv_I (dX35_init 2 rfl rfl) q1606 q1521 q1522 rfl (by decide) lX16_init) (fun b hb => by exact Or.inr (by rw [← hb]; rfl)) rfl ?_
  refine C.mono hf (fun _ _ => KV.g (fun h1 hf le2 => ?_))
  exact x_vret (dX35_init 3 rfl rfl) rfl hf
theorem bX35_resolve (G : Gh) (d : Nat) (h : AH) (Q : Outcome → AH → Prop) (a0 : Nat) (s4 : So 4 (gW G) h) (hf : hK h a0 = 33 ∧ (C G mX9_name d [.ref (gW G 4), .int (fI h a0 296)] h (KN Q (fun h2 => ∀ h5, h5 = pR h2 a0 326 none → (OC (fR h5 a0 326) (Q (.returned none) h5) (fun b6 => OC (fR h5 a0 326) (False) (fun b8 => hK h5 b8 = 13 ∧ (∀ h11, h11 = pI h5 a0 327 (((fI h5 (gW G 4) 84) - 1) - (fI h5 b8 129)) → (Q (.returned none) h11)))))) (fun b4 h2 => ∀ h14, h14 = pR h2 a0 326 (some b4) → (OC (fR h14 a0 326) (Q (.returned none) h14) (fun b15 => OC (fR h14 a0 326) (False) (fun b17 => hK h14 b17 = 13 ∧ (∀ h20, h20 = pI h14 a0 327 (((fI h14 (gW G 4) 84) - 1) - (fI h14 b17 129)) → (Q (.returned none) h20))))))))) : C G mX35_resolve (d + 1) [.ref (a0), .ref (gW G 4)] h Q := by
  refine C.of_X (by decide +kernel) (Nat.le_of_ble_eq_true rfl) wX35_resolve ?_
  show X G mX35_resolve (d + 1) none [] 0 [(0, .ref (a0)), (1, .ref (gW G 4))] [] h Q
  refine x_aload_n (pc' := 1) 0 (dX35_resolve 0 rfl rfl) rfl rfl rfl ?_
  refine x_aload_n (pc' := 2) 1 (dX35_resolve 1 rfl rfl) rfl rfl rfl ?_
  refine x_aload_n (pc' := 3) 0 (dX35_resolve 2 rfl rfl) rfl rfl rfl ?_
  obtain ⟨k1, hf⟩ := hf
  refine x_getI (pc' := 6) (dX35_resolve 3 rfl rfl) g296 q1527 (Or.inr q1528) rfl (hf_of 32 k1 rfl (by decide) m32_296) ?_
  refine x_inv (pc' := 9) (ν := mX9_name) (av := [_, _]) (st := [_]) rfl rfl (dX35_resolve 4 rfl rfl) (Nat.le_of_ble_eq_true rfl) wX9_name q223 (inv_V (k := 7) (dX35_resolve 4 rfl rfl) q2284 q2285 q2286 wX9_name (by decide) lX9_name (by decide) s4.1) (exN (by decide)) rfl ?_
  refine C.mono hf (fun _ _ => KN.g (fun h2 hf le3 => ?_) (fun b4 h2 hf le3 => ?_))
  · have k1 := leK le3 k1 (by decide)
    replace s4 := s4.le sc4 (le3)
    refine x_putN (pc' := 12) (dX35_resolve 5 rfl rfl) g326 q1607 (Or.inl rfl) (Or.inl rfl) (Or.inl (by decide)) rfl (hf_of 32 k1 rfl (by decide) m32_326) (fun h5 e13 => ?_)
    replace hf := hf h5 e13
    replace k1 : hK h5 a0 = 33 := by rw [e13]; exact k1
    replace s4 : So 4 (gW G) h5 := by rw [e13]; exact s4.le sc4 (pR_le (Or.inl rfl))
    refine x_aload_n (pc' := 13) 0 (dX35_resolve 6 rfl rfl) rfl rfl rfl ?_
    obtain ⟨ho0, ho1⟩ := hf
    rcases hr : fR _ a0 326 with _ | b6
    · replace hf := ho0 hr
      refine x_getN (pc' := 16) (dX35_resolve 7 rfl rfl) g326 q1607 (Or.inl rfl) rfl (hf_of 32 k1 rfl (by decide) m32_326) hr ?_
      refine x_ifnullN (tgt := 37) (dX35_resolve 8 rfl rfl) (by decide) ?_
      exact x_vret (dX35_resolve 19 rfl rfl) rfl hf
    · replace hf := ho1 _ hr
      refine x_getR (pc' := 16) (dX35_resolve 7 rfl rfl) g326 q1607 (Or.inl rfl) rfl (hf_of 32 k1 rfl (by decide) m32_326) hr ?_
      refine x_ifnull (pc' := 19) (dX35_resolve 8 rfl rfl) rfl ?_
      refine x_aload_n (pc' := 20) 0 (dX35_resolve 9 rfl rfl) rfl rfl rfl ?_
      refine x_aload_n (pc' := 21) 1 (dX35_resolve 10 rfl rfl) rfl rfl rfl ?_
      refine x_getI (pc' := 24) (dX35_resolve 11 rfl rfl) g84 q692 (Or.inl rfl) rfl (hf_of 7 s4.1 rfl (by decide) m7_84) ?_
      refine x_iconst (pc' := 25) (v := 1) (dX35_resolve 12 rfl rfl) (by decide) rfl ?_
      refine x_isub (pc' := 26) (dX35_resolve 13 rfl rfl) rfl ?_
      refine x_aload_n (pc' := 27) 0 (dX35_resolve 14 rfl rfl) rfl rfl rfl ?_
      obtain ⟨ho0, ho1⟩ := hf
      rcases hr : fR _ a0 326 with _ | b8
      · replace hf := ho0 hr
        refine x_getN (pc' := 30) (dX35_resolve 15 rfl rfl) g326 q1607 (Or.inl rfl) rfl (hf_of 32 k1 rfl (by decide) m32_326) hr ?_
        exact hf.elim
      · replace hf := ho1 _ hr
        refine x_getR (pc' := 30) (dX35_resolve 15 rfl rfl) g326 q1607 (Or.inl rfl) rfl (hf_of 32 k1 rfl (by decide) m32_326) hr ?_
        obtain ⟨k10, hf⟩ := hf
        refine x_getI (pc' := 33) (dX35_resolve 16 rfl rfl) g129 q929 (Or.inl rfl) rfl (hf_of 12 k10 rfl (by decide) m12_129) ?_
        refine x_isub (pc' := 34) (dX35_resolve 17 rfl rfl) rfl ?_
        refine x_putI (pc' := 37) (dX35_resolve 18 rfl rfl) g327 q1608 (Or.inl rfl) (Or.inl rfl) (Or.inl (by decide)) rfl (hf_of 32 k1 rfl (by decide) m32_327) (fun h11 e12 => ?_)
        replace hf := hf h11 e12
        replace k1 : hK h11 a0 = 33 := by rw [e12]; exact k1
        replace k10 : hK h11 b8 = 13 := by rw [e12]; exact k10
        replace s4 : So 4 (gW G) h11 := by rw [e12]; exact s4.le sc4 (pI_le (Or.inl rfl))
        exact x_vret (dX35_resolve 19 rfl rfl) rfl hf
  · have k1 := leK le3 k1 (by decide)
    replace s4 := s4.le sc4 (le3)
    refine x_putR (pc' := 12) (dX35_resolve 5 rfl rfl) g326 q1607 (Or.inl rfl) (Or.inl rfl) (Or.inl (by decide)) rfl (hf_of 32 k1 rfl (by decide) m32_326) (fun h14 e22 => ?_)
    replace hf := hf h14 e22
    replace k1 : hK h14 a0 = 33 := by rw [e22]; exact k1
    replace s4 : So 4 (gW G) h14 := by rw [e22]; exact s4.le sc4 (pR_le (Or.inl rfl))
    refine x_aload_n (pc' := 13) 0 (dX35_resolve 6 rfl rfl) rfl rfl rfl ?_
    obtain ⟨ho0, ho1⟩ := hf
    rcases hr : fR _ a0 326 with _ | b15
    · replace hf := ho0 hr
      refine x_getN (pc' := 16) (dX35_resolve 7 rfl rfl) g326 q1607 (Or.inl rfl) rfl (hf_of 32 k1 rfl (by decide) m32_326) hr ?_
      refine x_ifnullN (tgt := 37) (dX35_resolve 8 rfl rfl) (by decide) ?_
      exact x_vret (dX35_resolve 19 rfl rfl) rfl hf
    · replace hf := ho1 _ hr
      refine x_getR (pc' := 16) (dX35_resolve 7 rfl rfl) g326 q1607 (Or.inl rfl) rfl (hf_of 32 k1 rfl (by decide) m32_326) hr ?_
      refine x_ifnull (pc' := 19) (dX35_resolve 8 rfl rfl) rfl ?_
      refine x_aload_n (pc' := 20) 0 (dX35_resolve 9 rfl rfl) rfl rfl rfl ?_
      refine x_aload_n (pc' := 21) 1 (dX35_resolve 10 rfl rfl) rfl rfl rfl ?_
      refine x_getI (pc' := 24) (dX35_resolve 11 rfl rfl) g84 q692 (Or.inl rfl) rfl (hf_of 7 s4.1 rfl (by decide) m7_84) ?_
      refine x_iconst (pc' := 25) (v := 1) (dX35_resolve 12 rfl rfl) (by decide) rfl ?_
      refine x_isub (pc' := 26) (dX35_resolve 13 rfl rfl) rfl ?_
      refine x_aload_n (pc' := 27) 0 (dX35_resolve 14 rfl rfl) rfl rfl rfl ?_
      obtain ⟨ho0, ho1⟩ := hf
      rcases hr : fR _ a0 326 with _ | b17
      · replace hf := ho0 hr
        refine x_getN (pc' := 30) (dX35_resolve 15 rfl rfl) g326 q1607 (Or.inl rfl) rfl (hf_of 32 k1 rfl (by decide) m32_326) hr ?_
        exact hf.elim
      · replace hf := ho1 _ hr
        refine x_getR (pc' := 30) (dX35_resolve 15 rfl rfl) g326 q1607 (Or.inl rfl) rfl (hf_of 32 k1 rfl (by decide) m32_326) hr ?_
        obtain ⟨k19, hf⟩ := hf
        refine x_getI (pc' := 33) (dX35_resolve 16 rfl rfl) g129 q929 (Or.inl rfl) rfl (hf_of 12 k19 rfl (by decide) m12_129) ?_
        refine x_isub (pc' := 34) (dX35_resolve 17 rfl rfl) rfl ?_
        refine x_putI (pc' := 37) (dX35_resolve 18 rfl rfl) g327 q1608 (Or.inl rfl) (Or.inl rfl) (Or.inl (by decide)) rfl (hf_of 32 k1 rfl (by decide) m32_327) (fun h20 e21 => ?_)
        replace hf := hf h20 e21
        replace k1 : hK h20 a0 = 33 := by rw [e21]; exact k1
        replace k19 : hK h20 b17 = 13 := by rw [e21]; exact k19
        replace s4 : So 4 (gW G) h20 := by rw [e21]; exact s4.le sc4 (pI_le (Or.inl rfl))
        exact x_vret (dX35_resolve 19 rfl rfl) rfl hf
theorem bX35_infer (G : Gh) (d : Nat) (h : AH) (Q : Outcome → AH → Prop) (a0 : Nat) (s6 : So 6 (gW G) h) (hf : hK h a0 = 33 ∧ (OC (fR h a0 326) (C G mX11_typeOf d [.ref (gW G 6), .null] h (KI Q (fun x6 h4 => Q (.returned (some (.int x6))) h4))) (fun b2 => C G mX11_typeOf d [.ref (gW G 6), .ref (b2)] h (KI Q (fun x9 h7 => Q (.returned (some (.int x9))) h7))))) : C G mX35_infer (d + 1) [.ref (a0), .ref (gW G 6)] h Q := by
  refine C.of_X (by decide +kernel) (Nat.le_of_ble_eq_true rfl) wX35_infer ?_
  show X G mX35_infer (d + 1) none [] 0 [(0, .ref (a0)), (1, .ref (gW G 6))] [] h Q
  refine x_aload_n (pc' := 1) 1 (dX35_infer 0 rfl rfl) rfl rfl rfl ?_
  refine x_aload_n (pc' := 2) 0 (dX35_infer 1 rfl rfl) rfl rfl rfl ?_
  obtain ⟨k1, hf⟩ := hf
  obtain ⟨ho0, ho1⟩ := hf
  rcases hr : fR _ a0 326 with _ | b2
  · replace hf := ho0 hr
    refine x_getN (pc' := 5) (dX35_infer 2 rfl rfl) g326 q1607 (Or.inl rfl) rfl (hf_of 32 k1 rfl (by decide) m32_326) hr ?_
    refine x_inv (pc' := 8) (ν := mX11_typeOf) (av := [_, _]) (st := []) rfl rfl (dX35_infer 3 rfl rfl) (Nat.le_of_ble_eq_true rfl) wX11_typeOf q225 (inv_V (k := 9) (dX35_infer 3 rfl rfl) q2657 q2658 q2659 wX11_typeOf (by decide) lX11_typeOf (by decide) s6.1) (exN (by decide)) rfl ?_
    refine C.mono hf (fun _ _ => KI.g (fun x6 h4 hf le5 => ?_))
    have k1 := leK le5 k1 (by decide)
    replace s6 := s6.le sc6 (le5)
    exact x_iret (dX35_infer 4 rfl rfl) rfl hf
  · replace hf := ho1 _ hr
    refine x_getR (pc' := 5) (dX35_infer 2 rfl rfl) g326 q1607 (Or.inl rfl) rfl (hf_of 32 k1 rfl (by decide) m32_326) hr ?_
    refine x_inv (pc' := 8) (ν := mX11_typeOf) (av := [_, _]) (st := []) rfl rfl (dX35_infer 3 rfl rfl) (Nat.le_of_ble_eq_true rfl) wX11_typeOf q225 (inv_V (k := 9) (dX35_infer 3 rfl rfl) q2657 q2658 q2659 wX11_typeOf (by decide) lX11_typeOf (by decide) s6.1) (exN (by decide)) rfl ?_
    refine C.mono hf (fun _ _ => KI.g (fun x9 h7 hf le8 => ?_))
    have k1 := leK le8 k1 (by decide)
    replace s6 := s6.le sc6 (le8)
    exact x_iret (dX35_infer 4 rfl rfl) rfl hf
theorem bX35_isStill (G : Gh) (d : Nat) (h : AH) (Q : Outcome → AH → Prop) (a0 : Nat) (hf : Q (.returned (some (.int 1))) h) : C G mX35_isStill d [.ref (a0)] h Q := by
  refine C.of_X (by decide +kernel) (Nat.le_of_ble_eq_true rfl) wX35_isStill ?_
  show X G mX35_isStill d none [] 0 [(0, .ref (a0))] [] h Q
  refine x_iconst (pc' := 1) (v := 1) (dX35_isStill 0 rfl rfl) (by decide) rfl ?_
  exact x_zret (ty := .boolean) (dX35_isStill 1 rfl rfl) rfl (by decide) hf
theorem bX35_begin (G : Gh) (d : Nat) (h : AH) (Q : Outcome → AH → Prop) (a0 : Nat) (p2 : Int32) (s3 : So 3 (gW G) h) (hf : C G mX6_pay d [.ref (gW G 3), .int (1)] h (KI Q (fun x3 h1 => (x3 = 0 → (Q (.returned none) h1)) ∧ (¬ x3 = 0 → (hK h1 a0 = 33 ∧ (OC (fR h1 a0 326) (False) (fun b6 => hK h1 b6 = 13 ∧ ((0 ≤ (fI h1 b6 129) → (C G mX6_known d [.ref (gW G 3), .int (p2), .int (fI h1 a0 327)] h1 (KI Q (fun x12 h10 => C G mX6_give d [.ref (gW G 3), .int (x12)] h10 (KV Q (fun h13 => Q (.returned none) h13)))))) ∧ (¬ (0 ≤ (fI h1 b6 129)) → (OC (fR h1 a0 326) (False) (fun b15 => hK h1 b15 = 13 ∧ (C G mX6_give d [.ref (gW G 3), .int (fI h1 b15 131)] h1 (KV Q (fun h18 => Q (.returned none) h18)))))))))))))) : C G mX35_begin (d + 1) [.ref (a0), .ref (gW G 3), .int (p2)] h Q := by
  refine C.of_X (by decide +kernel) (Nat.le_of_ble_eq_true rfl) wX35_begin ?_
  show X G mX35_begin (d + 1) none [] 0 [(0, .ref (a0)), (1, .ref (gW G 3)), (2, .int (p2))] [] h Q
  refine x_aload_n (pc' := 1) 1 (dX35_begin 0 rfl rfl) rfl rfl rfl ?_
  refine x_iconst (pc' := 2) (v := 1) (dX35_begin 1 rfl rfl) (by decide) rfl ?_
  refine x_inv (pc' := 5) (ν := mX6_pay) (av := [_, _]) (st := []) rfl rfl (dX35_begin 2 rfl rfl) (Nat.le_of_ble_eq_true rfl) wX6_pay q220 (inv_V (k := 4) (dX35_begin 2 rfl rfl) q3037 q2891 q2892 wX6_pay (by decide) lX6_pay (by decide) s3.1) (exN (by decide)) rfl ?_
  refine C.mono hf (fun _ _ => KI.g (fun x3 h1 hf le2 => ?_))
  replace s3 := s3.le sc3 (le2)
  refine x_if_eq (pc' := 8) (tgt := 41) (dX35_begin 3 rfl rfl) (by decide) rfl (fun c4 => ?_) (fun c4 => ?_)
  · replace hf := hf.1 c4
    exact x_vret (dX35_begin 19 rfl rfl) rfl hf
  · replace hf := hf.2 c4
    refine x_aload_n (pc' := 9) 1 (dX35_begin 4 rfl rfl) rfl rfl rfl ?_
    refine x_aload_n (pc' := 10) 0 (dX35_begin 5 rfl rfl) rfl rfl rfl ?_
    obtain ⟨k5, hf⟩ := hf
    obtain ⟨ho0, ho1⟩ := hf
    rcases hr : fR _ a0 326 with _ | b6
    · replace hf := ho0 hr
      refine x_getN (pc' := 13) (dX35_begin 6 rfl rfl) g326 q1607 (Or.inl rfl) rfl (hf_of 32 k5 rfl (by decide) m32_326) hr ?_
      exact hf.elim
    · replace hf := ho1 _ hr
      refine x_getR (pc' := 13) (dX35_begin 6 rfl rfl) g326 q1607 (Or.inl rfl) rfl (hf_of 32 k5 rfl (by decide) m32_326) hr ?_
      obtain ⟨k8, hf⟩ := hf
      refine x_getI (pc' := 16) (dX35_begin 7 rfl rfl) g129 q929 (Or.inl rfl) rfl (hf_of 12 k8 rfl (by decide) m12_129) ?_
      refine x_if_ge (pc' := 19) (tgt := 29) (dX35_begin 8 rfl rfl) (by decide) rfl (fun c9 => ?_) (fun c9 => ?_)
      · replace hf := hf.1 c9
        refine x_aload_n (pc' := 30) 1 (dX35_begin 13 rfl rfl) rfl rfl rfl ?_
        refine x_iload_n (pc' := 31) 2 (dX35_begin 14 rfl rfl) rfl rfl rfl ?_
        refine x_aload_n (pc' := 32) 0 (dX35_begin 15 rfl rfl) rfl rfl rfl ?_
        refine x_getI (pc' := 35) (dX35_begin 16 rfl rfl) g327 q1608 (Or.inl rfl) rfl (hf_of 32 k5 rfl (by decide) m32_327) ?_
        refine x_inv (pc' := 38) (ν := mX6_known) (av := [_, _, _]) (st := [_]) rfl rfl (dX35_begin 17 rfl rfl) (Nat.le_of_ble_eq_true rfl) wX6_known q220 (inv_V (k := 4) (dX35_begin 17 rfl rfl) q3038 q3039 q3040 wX6_known (by decide) lX6_known (by decide) s3.1) (exN (by decide)) rfl ?_
        refine C.mono hf (fun _ _ => KI.g (fun x12 h10 hf le11 => ?_))
        have k5 := leK le11 k5 (by decide)
        have k8 := leK le11 k8 (by decide)
        replace s3 := s3.le sc3 (le11)
        refine x_inv (pc' := 41) (ν := mX6_give) (av := [_, _]) (st := []) rfl rfl (dX35_begin 18 rfl rfl) (Nat.le_of_ble_eq_true rfl) wX6_give q220 (inv_V (k := 4) (dX35_begin 18 rfl rfl) q3042 q2913 q2914 wX6_give (by decide) lX6_give (by decide) s3.1) (exN (by decide)) rfl ?_
        refine C.mono hf (fun _ _ => KV.g (fun h13 hf le14 => ?_))
        have k5 := leK le14 k5 (by decide)
        have k8 := leK le14 k8 (by decide)
        replace s3 := s3.le sc3 (le14)
        exact x_vret (dX35_begin 19 rfl rfl) rfl hf
      · replace hf := hf.2 c9
        refine x_aload_n (pc' := 20) 0 (dX35_begin 9 rfl rfl) rfl rfl rfl ?_
        obtain ⟨ho0, ho1⟩ := hf
        rcases hr : fR _ a0 326 with _ | b15
        · replace hf := ho0 hr
          refine x_getN (pc' := 23) (dX35_begin 10 rfl rfl) g326 q1607 (Or.inl rfl) rfl (hf_of 32 k5 rfl (by decide) m32_326) hr ?_
          exact hf.elim
        · replace hf := ho1 _ hr
          refine x_getR (pc' := 23) (dX35_begin 10 rfl rfl) g326 q1607 (Or.inl rfl) rfl (hf_of 32 k5 rfl (by decide) m32_326) hr ?_
          obtain ⟨k17, hf⟩ := hf
          refine x_getI (pc' := 26) (dX35_begin 11 rfl rfl) g131 q936 (Or.inl rfl) rfl (hf_of 12 k17 rfl (by decide) m12_131) ?_
          refine x_goto (tgt := 38) (dX35_begin 12 rfl rfl) (by decide) ?_
          refine x_inv (pc' := 41) (ν := mX6_give) (av := [_, _]) (st := []) rfl rfl (dX35_begin 18 rfl rfl) (Nat.le_of_ble_eq_true rfl) wX6_give q220 (inv_V (k := 4) (dX35_begin 18 rfl rfl) q3042 q2913 q2914 wX6_give (by decide) lX6_give (by decide) s3.1) (exN (by decide)) rfl ?_
          refine C.mono hf (fun _ _ => KV.g (fun h18 hf le19 => ?_))
          have k5 := leK le19 k5 (by decide)
          have k8 := leK le19 k8 (by decide)
          have k17 := leK le19 k17 (by decide)
          replace s3 := s3.le sc3 (le19)
          exact x_vret (dX35_begin 19 rfl rfl) rfl hf
theorem bX36_init (G : Gh) (d : Nat) (h : AH) (Q : Outcome → AH → Prop) (a0 : Nat) (p1 : Int32) (hf : C G mX16_init d [.ref (a0), .int (p1)] h (KV Q (fun h1 => Q (.returned none) h1))) : C G mX36_init (d + 1) [.ref (a0), .int (p1)] h Q := by
  refine C.of_X (by decide +kernel) (Nat.le_of_ble_eq_true rfl) wX36_init ?_
  show X G mX36_init (d + 1) (some a0) [] 0 [(0, .ref (a0)), (1, .int (p1))] [] h Q
  refine x_aload_n (pc' := 1) 0 (dX36_init 0 rfl rfl) rfl rfl rfl ?_
  refine x_iload_n (pc' := 2) 1 (dX36_init 1 rfl rfl) rfl rfl rfl ?_
  refine x_inv (pc' := 5) (ν := mX16_init) (av := [_, _]) (st := []) rfl rfl (dX36_init 2 rfl rfl) (Nat.le_of_ble_eq_true rfl) wX16_init q237 (inv_I (dX36_init 2 rfl rfl) q1621 q1521 q1522 rfl (by decide) lX16_init) (fun b hb => by exact Or.inr (by rw [← hb]; rfl)) rfl ?_
  refine C.mono hf (fun _ _ => KV.g (fun h1 hf le2 => ?_))
  exact x_vret (dX36_init 3 rfl rfl) rfl hf
theorem bX36_resolve (G : Gh) (d : Nat) (h : AH) (Q : Outcome → AH → Prop) (a0 : Nat) (s4 : So 4 (gW G) h) (hf : hK h a0 = 34 ∧ (C G mX9_con d [.ref (gW G 4), .int (fI h a0 296)] h (KN Q (fun h2 => ∀ h5, h5 = pR h2 a0 328 none → (Q (.returned none) h5)) (fun b4 h2 => ∀ h7, h7 = pR h2 a0 328 (some b4) → (Q (.returned none) h7))))) : C G mX36_resolve (d + 1) [.ref (a0), .ref (gW G 4)] h Q := by
  refine C.of_X (by decide +kernel) (Nat.le_of_ble_eq_true rfl) wX36_resolve ?_
  show X G mX36_resolve (d + 1) none [] 0 [(0, .ref (a0)), (1, .ref (gW G 4))] [] h Q
  refine x_aload_n (pc' := 1) 0 (dX36_resolve 0 rfl rfl) rfl rfl rfl ?_
  refine x_aload_n (pc' := 2) 1 (dX36_resolve 1 rfl rfl) rfl rfl rfl ?_
  refine x_aload_n (pc' := 3) 0 (dX36_resolve 2 rfl rfl) rfl rfl rfl ?_
  obtain ⟨k1, hf⟩ := hf
  refine x_getI (pc' := 6) (dX36_resolve 3 rfl rfl) g296 q1529 (Or.inr q1530) rfl (hf_of 33 k1 rfl (by decide) m33_296) ?_
  refine x_inv (pc' := 9) (ν := mX9_con) (av := [_, _]) (st := [_]) rfl rfl (dX36_resolve 4 rfl rfl) (Nat.le_of_ble_eq_true rfl) wX9_con q223 (inv_V (k := 7) (dX36_resolve 4 rfl rfl) q2290 q2217 q2218 wX9_con (by decide) lX9_con (by decide) s4.1) (exN (by decide)) rfl ?_
  refine C.mono hf (fun _ _ => KN.g (fun h2 hf le3 => ?_) (fun b4 h2 hf le3 => ?_))
  · have k1 := leK le3 k1 (by decide)
    replace s4 := s4.le sc4 (le3)
    refine x_putN (pc' := 12) (dX36_resolve 5 rfl rfl) g328 q1622 (Or.inl rfl) (Or.inl rfl) (Or.inl (by decide)) rfl (hf_of 33 k1 rfl (by decide) m33_328) (fun h5 e6 => ?_)
    replace hf := hf h5 e6
    replace k1 : hK h5 a0 = 34 := by rw [e6]; exact k1
    replace s4 : So 4 (gW G) h5 := by rw [e6]; exact s4.le sc4 (pR_le (Or.inl rfl))
    exact x_vret (dX36_resolve 6 rfl rfl) rfl hf
  · have k1 := leK le3 k1 (by decide)
    replace s4 := s4.le sc4 (le3)
    refine x_putR (pc' := 12) (dX36_resolve 5 rfl rfl) g328 q1622 (Or.inl rfl) (Or.inl rfl) (Or.inl (by decide)) rfl (hf_of 33 k1 rfl (by decide) m33_328) (fun h7 e8 => ?_)
    replace hf := hf h7 e8
    replace k1 : hK h7 a0 = 34 := by rw [e8]; exact k1
    replace s4 : So 4 (gW G) h7 := by rw [e8]; exact s4.le sc4 (pR_le (Or.inl rfl))
    exact x_vret (dX36_resolve 6 rfl rfl) rfl hf
theorem bX36_infer (G : Gh) (d : Nat) (h : AH) (Q : Outcome → AH → Prop) (a0 : Nat) (s2 : So 2 (gW G) h) (s6 : So 6 (gW G) h) (hf : hK h a0 = 34 ∧ (∃ b2, fR h a0 328 = some b2 ∧ (hK h b2 = 54 ∧ (∃ b5, fR h b2 373 = some b5 ∧ (C G mX3_read d [.ref (gW G 2), .ref (b5)] h (KI Q (fun x9 h7 => ∃ b10, fR h7 a0 328 = some b10 ∧ (hK h7 b10 = 54 ∧ (((fI h7 b10 371) = 0 → (Q (.returned (some (.int x9))) h7)) ∧ (¬ ((fI h7 b10 371) = 0) → (∃ b14, fR h7 a0 328 = some b14 ∧ (hK h7 b14 = 54 ∧ (∃ b17, fR h7 b14 372 = some b17 ∧ (C G mX3_readOn d [.ref (gW G 2), .ref (b17)] h7 (KI Q (fun x21 h19 => C G mX3_fun d [.ref (gW G 2), .int (x21), .int (x9)] h19 (KI Q (fun x24 h22 => Q (.returned (some (.int x24))) h22)))))))))))))))))) : C G mX36_infer (d + 1) [.ref (a0), .ref (gW G 6)] h Q := by
  refine C.of_X (by decide +kernel) (Nat.le_of_ble_eq_true rfl) wX36_infer ?_
  show X G mX36_infer (d + 1) none [] 0 [(0, .ref (a0)), (1, .ref (gW G 6))] [] h Q
  refine x_aload_n (pc' := 1) 1 (dX36_infer 0 rfl rfl) rfl rfl rfl ?_
  refine x_getR (pc' := 4) (dX36_infer 1 rfl rfl) g108 q802 (Or.inl rfl) rfl (hf_of 9 s6.1 rfl (by decide) m9_108) (s6.2 0 _ rfl rfl).1 ?_
  refine x_aload_n (pc' := 5) 0 (dX36_infer 2 rfl rfl) rfl rfl rfl ?_
  obtain ⟨k1, hf⟩ := hf
  obtain ⟨b2, e3, hf⟩ := hf
  refine x_getR (pc' := 8) (dX36_infer 3 rfl rfl) g328 q1622 (Or.inl rfl) rfl (hf_of 33 k1 rfl (by decide) m33_328) e3 ?_
  obtain ⟨k4, hf⟩ := hf
  obtain ⟨b5, e6, hf⟩ := hf
  refine x_getR (pc' := 11) (dX36_infer 4 rfl rfl) g373 q2155 (Or.inl rfl) rfl (hf_of 53 k4 rfl (by decide) m53_373) e6 ?_
  refine x_inv (pc' := 14) (ν := mX3_read) (av := [_, _]) (st := []) rfl rfl (dX36_infer 5 rfl rfl) (Nat.le_of_ble_eq_true rfl) wX3_read q213 (inv_V (k := 2) (dX36_infer 5 rfl rfl) q2670 q2445 q2446 wX3_read (by decide) lX3_read (by decide) s2.1) (exN (by decide)) rfl ?_
  refine C.mono hf (fun _ _ => KI.g (fun x9 h7 hf le8 => ?_))
  have k1 := leK le8 k1 (by decide)
  have k4 := leK le8 k4 (by decide)
  replace s2 := s2.le sc2 (le8)
  replace s6 := s6.le sc6 (le8)
  refine x_istore_n (pc' := 15) (dX36_infer 6 rfl rfl) rfl (by decide) rfl rfl ?_
  refine x_aload_n (pc' := 16) 1 (dX36_infer 7 rfl rfl) rfl rfl rfl ?_
  obtain ⟨b10, e11, hf⟩ := hf
  refine x_getR (pc' := 19) (dX36_infer 8 rfl rfl) g328 q1622 (Or.inl rfl) rfl (hf_of 33 k1 rfl (by decide) m33_328) e11 ?_
  obtain ⟨k12, hf⟩ := hf
  refine x_getZ (pc' := 22) (dX36_infer 9 rfl rfl) g371 q2149 (Or.inl rfl) rfl (hf_of 53 k12 rfl (by decide) m53_371) ?_
  refine x_if_eq (pc' := 25) (tgt := 50) (dX36_infer 10 rfl rfl) (by decide) rfl (fun c13 => ?_) (fun c13 => ?_)
  · replace hf := hf.1 c13
    refine x_iload_n (pc' := 51) 0 (dX36_infer 22 rfl rfl) rfl rfl rfl ?_
    exact x_iret (dX36_infer 23 rfl rfl) rfl hf
  · replace hf := hf.2 c13
    refine x_aload_n (pc' := 26) 2 (dX36_infer 11 rfl rfl) rfl rfl rfl ?_
    refine x_getR (pc' := 29) (dX36_infer 12 rfl rfl) g108 q802 (Or.inl rfl) rfl (hf_of 9 s6.1 rfl (by decide) m9_108) (s6.2 0 _ rfl rfl).1 ?_
    refine x_aload_n (pc' := 30) 2 (dX36_infer 13 rfl rfl) rfl rfl rfl ?_
    refine x_getR (pc' := 33) (dX36_infer 14 rfl rfl) g108 q802 (Or.inl rfl) rfl (hf_of 9 s6.1 rfl (by decide) m9_108) (s6.2 0 _ rfl rfl).1 ?_
    refine x_aload_n (pc' := 34) 1 (dX36_infer 15 rfl rfl) rfl rfl rfl ?_
    obtain ⟨b14, e15, hf⟩ := hf
    refine x_getR (pc' := 37) (dX36_infer 16 rfl rfl) g328 q1622 (Or.inl rfl) rfl (hf_of 33 k1 rfl (by decide) m33_328) e15 ?_
    obtain ⟨k16, hf⟩ := hf
    obtain ⟨b17, e18, hf⟩ := hf
    refine x_getR (pc' := 40) (dX36_infer 17 rfl rfl) g372 q2152 (Or.inl rfl) rfl (hf_of 53 k16 rfl (by decide) m53_372) e18 ?_
    refine x_inv (pc' := 43) (ν := mX3_readOn) (av := [_, _]) (st := [_]) rfl rfl (dX36_infer 18 rfl rfl) (Nat.le_of_ble_eq_true rfl) wX3_readOn q213 (inv_V (k := 2) (dX36_infer 18 rfl rfl) q2671 q2454 q2455 wX3_readOn (by decide) lX3_readOn (by decide) s2.1) (exN (by decide)) rfl ?_
    refine C.mono hf (fun _ _ => KI.g (fun x21 h19 hf le20 => ?_))
    have k1 := leK le20 k1 (by decide)
    have k4 := leK le20 k4 (by decide)
    have k12 := leK le20 k12 (by decide)
    have k16 := leK le20 k16 (by decide)
    replace s2 := s2.le sc2 (le20)
    replace s6 := s6.le sc6 (le20)
    refine x_iload_n (pc' := 44) 0 (dX36_infer 19 rfl rfl) rfl rfl rfl ?_
    refine x_inv (pc' := 47) (ν := mX3_fun) (av := [_, _, _]) (st := []) rfl rfl (dX36_infer 20 rfl rfl) (Nat.le_of_ble_eq_true rfl) wX3_fun q213 (inv_V (k := 2) (dX36_infer 20 rfl rfl) q2672 q2374 q2375 wX3_fun (by decide) lX3_fun (by decide) s2.1) (exN (by decide)) rfl ?_
    refine C.mono hf (fun _ _ => KI.g (fun x24 h22 hf le23 => ?_))
    have k1 := leK le23 k1 (by decide)
    have k4 := leK le23 k4 (by decide)
    have k12 := leK le23 k12 (by decide)
    have k16 := leK le23 k16 (by decide)
    replace s2 := s2.le sc2 (le23)
    replace s6 := s6.le sc6 (le23)
    refine x_goto (tgt := 51) (dX36_infer 21 rfl rfl) (by decide) ?_
    exact x_iret (dX36_infer 23 rfl rfl) rfl hf
theorem bX36_isCon (G : Gh) (d : Nat) (h : AH) (Q : Outcome → AH → Prop) (a0 : Nat) (hf : Q (.returned (some (.int 1))) h) : C G mX36_isCon d [.ref (a0)] h Q := by
  refine C.of_X (by decide +kernel) (Nat.le_of_ble_eq_true rfl) wX36_isCon ?_
  show X G mX36_isCon d none [] 0 [(0, .ref (a0))] [] h Q
  refine x_iconst (pc' := 1) (v := 1) (dX36_isCon 0 rfl rfl) (by decide) rfl ?_
  exact x_zret (ty := .boolean) (dX36_isCon 1 rfl rfl) rfl (by decide) hf
theorem bX36_isStill (G : Gh) (d : Nat) (h : AH) (Q : Outcome → AH → Prop) (a0 : Nat) (hf : Q (.returned (some (.int 1))) h) : C G mX36_isStill d [.ref (a0)] h Q := by
  refine C.of_X (by decide +kernel) (Nat.le_of_ble_eq_true rfl) wX36_isStill ?_
  show X G mX36_isStill d none [] 0 [(0, .ref (a0))] [] h Q
  refine x_iconst (pc' := 1) (v := 1) (dX36_isStill 0 rfl rfl) (by decide) rfl ?_
  exact x_zret (ty := .boolean) (dX36_isStill 1 rfl rfl) rfl (by decide) hf
theorem bX36_begin (G : Gh) (d : Nat) (h : AH) (Q : Outcome → AH → Prop) (a0 : Nat) (p2 : Int32) (s3 : So 3 (gW G) h) (hf : C G mX6_pay d [.ref (gW G 3), .int (1)] h (KI Q (fun x3 h1 => (x3 = 0 → (Q (.returned none) h1)) ∧ (¬ x3 = 0 → (hK h1 a0 = 34 ∧ (∃ b6, fR h1 a0 328 = some b6 ∧ (hK h1 b6 = 54 ∧ (((fI h1 b6 371) = 0 → (∃ b10, fR h1 a0 328 = some b10 ∧ (hK h1 b10 = 54 ∧ (C G mX6_made_2 d [.ref (gW G 3), .int (4), .int (fI h1 b10 370), .int (0)] h1 (KI Q (fun x15 h13 => C G mX6_give d [.ref (gW G 3), .int (x15)] h13 (KV Q (fun h16 => Q (.returned none) h16)))))))) ∧ (¬ ((fI h1 b6 371) = 0) → (∃ b18, fR h1 a0 328 = some b18 ∧ (hK h1 b18 = 54 ∧ (C G mX6_made d [.ref (gW G 3), .int (5), .int (fI h1 b18 370)] h1 (KI Q (fun x23 h21 => C G mX6_give d [.ref (gW G 3), .int (x23)] h21 (KV Q (fun h24 => Q (.returned none) h24)))))))))))))))) : C G mX36_begin (d + 1) [.ref (a0), .ref (gW G 3), .int (p2)] h Q := by
  refine C.of_X (by decide +kernel) (Nat.le_of_ble_eq_true rfl) wX36_begin ?_
  show X G mX36_begin (d + 1) none [] 0 [(0, .ref (a0)), (1, .ref (gW G 3)), (2, .int (p2))] [] h Q
  refine x_aload_n (pc' := 1) 1 (dX36_begin 0 rfl rfl) rfl rfl rfl ?_
  refine x_iconst (pc' := 2) (v := 1) (dX36_begin 1 rfl rfl) (by decide) rfl ?_
  refine x_inv (pc' := 5) (ν := mX6_pay) (av := [_, _]) (st := []) rfl rfl (dX36_begin 2 rfl rfl) (Nat.le_of_ble_eq_true rfl) wX6_pay q220 (inv_V (k := 4) (dX36_begin 2 rfl rfl) q3046 q2891 q2892 wX6_pay (by decide) lX6_pay (by decide) s3.1) (exN (by decide)) rfl ?_
  refine C.mono hf (fun _ _ => KI.g (fun x3 h1 hf le2 => ?_))
  replace s3 := s3.le sc3 (le2)
  refine x_if_eq (pc' := 8) (tgt := 50) (dX36_begin 3 rfl rfl) (by decide) rfl (fun c4 => ?_) (fun c4 => ?_)
  · replace hf := hf.1 c4
    exact x_vret (dX36_begin 24 rfl rfl) rfl hf
  · replace hf := hf.2 c4
    refine x_aload_n (pc' := 9) 1 (dX36_begin 4 rfl rfl) rfl rfl rfl ?_
    refine x_aload_n (pc' := 10) 0 (dX36_begin 5 rfl rfl) rfl rfl rfl ?_
    obtain ⟨k5, hf⟩ := hf
    obtain ⟨b6, e7, hf⟩ := hf
    refine x_getR (pc' := 13) (dX36_begin 6 rfl rfl) g328 q1622 (Or.inl rfl) rfl (hf_of 33 k5 rfl (by decide) m33_328) e7 ?_
    obtain ⟨k8, hf⟩ := hf
    refine x_getZ (pc' := 16) (dX36_begin 7 rfl rfl) g371 q2149 (Or.inl rfl) rfl (hf_of 53 k8 rfl (by decide) m53_371) ?_
    refine x_if_eq (pc' := 19) (tgt := 34) (dX36_begin 8 rfl rfl) (by decide) rfl (fun c9 => ?_) (fun c9 => ?_)
    · replace hf := hf.1 c9
      refine x_aload_n (pc' := 35) 1 (dX36_begin 16 rfl rfl) rfl rfl rfl ?_
      refine x_iconst (pc' := 36) (v := 4) (dX36_begin 17 rfl rfl) (by decide) rfl ?_
      refine x_aload_n (pc' := 37) 0 (dX36_begin 18 rfl rfl) rfl rfl rfl ?_
      obtain ⟨b10, e11, hf⟩ := hf
      refine x_getR (pc' := 40) (dX36_begin 19 rfl rfl) g328 q1622 (Or.inl rfl) rfl (hf_of 33 k5 rfl (by decide) m33_328) e11 ?_
      obtain ⟨k12, hf⟩ := hf
      refine x_getI (pc' := 43) (dX36_begin 20 rfl rfl) g370 q2145 (Or.inl rfl) rfl (hf_of 53 k12 rfl (by decide) m53_370) ?_
      refine x_iconst (pc' := 44) (v := 0) (dX36_begin 21 rfl rfl) (by decide) rfl ?_
      refine x_inv (pc' := 47) (ν := mX6_made_2) (av := [_, _, _, _]) (st := [_]) rfl rfl (dX36_begin 22 rfl rfl) (Nat.le_of_ble_eq_true rfl) wX6_made_2 q220 (inv_V (k := 4) (dX36_begin 22 rfl rfl) q3048 q3002 q3003 wX6_made_2 (by decide) lX6_made_2 (by decide) s3.1) (exN (by decide)) rfl ?_
      refine C.mono hf (fun _ _ => KI.g (fun x15 h13 hf le14 => ?_))
      have k5 := leK le14 k5 (by decide)
      have k8 := leK le14 k8 (by decide)
      have k12 := leK le14 k12 (by decide)
      replace s3 := s3.le sc3 (le14)
      refine x_inv (pc' := 50) (ν := mX6_give) (av := [_, _]) (st := []) rfl rfl (dX36_begin 23 rfl rfl) (Nat.le_of_ble_eq_true rfl) wX6_give q220 (inv_V (k := 4) (dX36_begin 23 rfl rfl) q3049 q2913 q2914 wX6_give (by decide) lX6_give (by decide) s3.1) (exN (by decide)) rfl ?_
      refine C.mono hf (fun _ _ => KV.g (fun h16 hf le17 => ?_))
      have k5 := leK le17 k5 (by decide)
      have k8 := leK le17 k8 (by decide)
      have k12 := leK le17 k12 (by decide)
      replace s3 := s3.le sc3 (le17)
      exact x_vret (dX36_begin 24 rfl rfl) rfl hf
    · replace hf := hf.2 c9
      refine x_aload_n (pc' := 20) 1 (dX36_begin 9 rfl rfl) rfl rfl rfl ?_
      refine x_iconst (pc' := 21) (v := 5) (dX36_begin 10 rfl rfl) (by decide) rfl ?_
      refine x_aload_n (pc' := 22) 0 (dX36_begin 11 rfl rfl) rfl rfl rfl ?_
      obtain ⟨b18, e19, hf⟩ := hf
      refine x_getR (pc' := 25) (dX36_begin 12 rfl rfl) g328 q1622 (Or.inl rfl) rfl (hf_of 33 k5 rfl (by decide) m33_328) e19 ?_
      obtain ⟨k20, hf⟩ := hf
      refine x_getI (pc' := 28) (dX36_begin 13 rfl rfl) g370 q2145 (Or.inl rfl) rfl (hf_of 53 k20 rfl (by decide) m53_370) ?_
      refine x_inv (pc' := 31) (ν := mX6_made) (av := [_, _, _]) (st := [_]) rfl rfl (dX36_begin 14 rfl rfl) (Nat.le_of_ble_eq_true rfl) wX6_made q220 (inv_V (k := 4) (dX36_begin 14 rfl rfl) q3047 q2933 q2934 wX6_made (by decide) lX6_made (by decide) s3.1) (exN (by decide)) rfl ?_
      refine C.mono hf (fun _ _ => KI.g (fun x23 h21 hf le22 => ?_))
      have k5 := leK le22 k5 (by decide)
      have k8 := leK le22 k8 (by decide)
      have k20 := leK le22 k20 (by decide)
      replace s3 := s3.le sc3 (le22)
      refine x_goto (tgt := 47) (dX36_begin 15 rfl rfl) (by decide) ?_
      refine x_inv (pc' := 50) (ν := mX6_give) (av := [_, _]) (st := []) rfl rfl (dX36_begin 23 rfl rfl) (Nat.le_of_ble_eq_true rfl) wX6_give q220 (inv_V (k := 4) (dX36_begin 23 rfl rfl) q3049 q2913 q2914 wX6_give (by decide) lX6_give (by decide) s3.1) (exN (by decide)) rfl ?_
      refine C.mono hf (fun _ _ => KV.g (fun h24 hf le25 => ?_))
      have k5 := leK le25 k5 (by decide)
      have k8 := leK le25 k8 (by decide)
      have k20 := leK le25 k20 (by decide)
      replace s3 := s3.le sc3 (le25)
      exact x_vret (dX36_begin 24 rfl rfl) rfl hf
theorem bX37_init (G : Gh) (d : Nat) (h : AH) (Q : Outcome → AH → Prop) (a0 : Nat) (p1 : Int32) (p2 : Int32) (p3 : Int32) (hf : C G mX16_init d [.ref (a0), .int (p1)] h (KV Q (fun h1 => hK h1 a0 = 35 ∧ (∀ h4, h4 = pI h1 a0 329 p2 → (∀ h5, h5 = pI h4 a0 330 p3 → (Q (.returned none) h5)))))) : C G mX37_init (d + 1) [.ref (a0), .int (p1), .int (p2), .int (p3)] h Q := by
  refine C.of_X (by decide +kernel) (Nat.le_of_ble_eq_true rfl) wX37_init ?_
  show X G mX37_init (d + 1) (some a0) [] 0 [(0, .ref (a0)), (1, .int (p1)), (2, .int (p2)), (3, .int (p3))] [] h Q
  refine x_aload_n (pc' := 1) 0 (dX37_init 0 rfl rfl) rfl rfl rfl ?_
  refine x_iload_n (pc' := 2) 1 (dX37_init 1 rfl rfl) rfl rfl rfl ?_
  refine x_inv (pc' := 5) (ν := mX16_init) (av := [_, _]) (st := []) rfl rfl (dX37_init 2 rfl rfl) (Nat.le_of_ble_eq_true rfl) wX16_init q237 (inv_I (dX37_init 2 rfl rfl) q1633 q1521 q1522 rfl (by decide) lX16_init) (fun b hb => by exact Or.inr (by rw [← hb]; rfl)) rfl ?_
  refine C.mono hf (fun _ _ => KV.g (fun h1 hf le2 => ?_))
  refine x_aload_n (pc' := 6) 0 (dX37_init 3 rfl rfl) rfl rfl rfl ?_
  refine x_iload_n (pc' := 7) 2 (dX37_init 4 rfl rfl) rfl rfl rfl ?_
  obtain ⟨k3, hf⟩ := hf
  refine x_putI (pc' := 10) (dX37_init 5 rfl rfl) g329 q1634 (Or.inl rfl) (Or.inr ⟨rfl, rfl, rfl, rfl⟩) (Or.inr rfl) rfl (hf_of 34 k3 rfl (by decide) m34_329) (fun h4 e7 => ?_)
  replace hf := hf h4 e7
  replace k3 : hK h4 a0 = 35 := by rw [e7]; exact k3
  refine x_aload_n (pc' := 11) 0 (dX37_init 6 rfl rfl) rfl rfl rfl ?_
  refine x_iload_n (pc' := 12) 3 (dX37_init 7 rfl rfl) rfl rfl rfl ?_
  refine x_putI (pc' := 15) (dX37_init 8 rfl rfl) g330 q1635 (Or.inl rfl) (Or.inr ⟨rfl, rfl, rfl, rfl⟩) (Or.inr rfl) rfl (hf_of 34 k3 rfl (by decide) m34_330) (fun h5 e6 => ?_)
  replace hf := hf h5 e6
  replace k3 : hK h5 a0 = 35 := by rw [e6]; exact k3
  exact x_vret (dX37_init 9 rfl rfl) rfl hf
theorem bX37_resolve (G : Gh) (d : Nat) (h : AH) (Q : Outcome → AH → Prop) (a0 : Nat) (hf : Q (.returned none) h) : C G mX37_resolve d [.ref (a0), .ref (gW G 4)] h Q := by
  refine C.of_X (by decide +kernel) (Nat.le_of_ble_eq_true rfl) wX37_resolve ?_
  show X G mX37_resolve d none [] 0 [(0, .ref (a0)), (1, .ref (gW G 4))] [] h Q
  exact x_vret (dX37_resolve 0 rfl rfl) rfl hf
theorem bX37_infer (G : Gh) (d : Nat) (h : AH) (Q : Outcome → AH → Prop) (a0 : Nat) (s2 : So 2 (gW G) h) (s6 : So 6 (gW G) h) (hf : hK h a0 = 35 ∧ (((fI h a0 329) = 0 → (Q (.returned (some (.int (fI h (gW G 2) 42)))) h)) ∧ (¬ ((fI h a0 329) = 0) → (((fI h a0 329) = 1 → (Q (.returned (some (.int (fI h (gW G 2) 43)))) h)) ∧ (¬ ((fI h a0 329) = 1) → (Q (.returned (some (.int (fI h (gW G 2) 44)))) h)))))) : C G mX37_infer d [.ref (a0), .ref (gW G 6)] h Q := by
  refine C.of_X (by decide +kernel) (Nat.le_of_ble_eq_true rfl) wX37_infer ?_
  show X G mX37_infer d none [] 0 [(0, .ref (a0)), (1, .ref (gW G 6))] [] h Q
  refine x_aload_n (pc' := 1) 0 (dX37_infer 0 rfl rfl) rfl rfl rfl ?_
  obtain ⟨k1, hf⟩ := hf
  refine x_getI (pc' := 4) (dX37_infer 1 rfl rfl) g329 q1634 (Or.inl rfl) rfl (hf_of 34 k1 rfl (by decide) m34_329) ?_
  refine x_if_ne (pc' := 7) (tgt := 17) (dX37_infer 2 rfl rfl) (by decide) rfl (fun c2 => ?_) (fun c2 => ?_)
  · replace hf := hf.2 c2
    refine x_aload_n (pc' := 18) 0 (dX37_infer 7 rfl rfl) rfl rfl rfl ?_
    refine x_getI (pc' := 21) (dX37_infer 8 rfl rfl) g329 q1634 (Or.inl rfl) rfl (hf_of 34 k1 rfl (by decide) m34_329) ?_
    refine x_iconst (pc' := 22) (v := 1) (dX37_infer 9 rfl rfl) (by decide) rfl ?_
    refine x_icmp_ne (pc' := 25) (tgt := 35) (dX37_infer 10 rfl rfl) (by decide) rfl (fun c3 => ?_) (fun c3 => ?_)
    · replace hf := hf.2 c3
      refine x_aload_n (pc' := 36) 1 (dX37_infer 15 rfl rfl) rfl rfl rfl ?_
      refine x_getR (pc' := 39) (dX37_infer 16 rfl rfl) g108 q805 (Or.inl rfl) rfl (hf_of 9 s6.1 rfl (by decide) m9_108) (s6.2 0 _ rfl rfl).1 ?_
      refine x_getI (pc' := 42) (dX37_infer 17 rfl rfl) g44 q504 (Or.inl rfl) rfl (hf_of 2 s2.1 rfl (by decide) m2_44) ?_
      exact x_iret (dX37_infer 18 rfl rfl) rfl hf
    · replace hf := hf.1 (Classical.not_not.mp c3)
      replace c3 := Classical.not_not.mp c3
      refine x_aload_n (pc' := 26) 1 (dX37_infer 11 rfl rfl) rfl rfl rfl ?_
      refine x_getR (pc' := 29) (dX37_infer 12 rfl rfl) g108 q805 (Or.inl rfl) rfl (hf_of 9 s6.1 rfl (by decide) m9_108) (s6.2 0 _ rfl rfl).1 ?_
      refine x_getI (pc' := 32) (dX37_infer 13 rfl rfl) g43 q500 (Or.inl rfl) rfl (hf_of 2 s2.1 rfl (by decide) m2_43) ?_
      refine x_goto (tgt := 42) (dX37_infer 14 rfl rfl) (by decide) ?_
      exact x_iret (dX37_infer 18 rfl rfl) rfl hf
  · replace hf := hf.1 (Classical.not_not.mp c2)
    replace c2 := Classical.not_not.mp c2
    refine x_aload_n (pc' := 8) 1 (dX37_infer 3 rfl rfl) rfl rfl rfl ?_
    refine x_getR (pc' := 11) (dX37_infer 4 rfl rfl) g108 q805 (Or.inl rfl) rfl (hf_of 9 s6.1 rfl (by decide) m9_108) (s6.2 0 _ rfl rfl).1 ?_
    refine x_getI (pc' := 14) (dX37_infer 5 rfl rfl) g42 q493 (Or.inl rfl) rfl (hf_of 2 s2.1 rfl (by decide) m2_42) ?_
    refine x_goto (tgt := 42) (dX37_infer 6 rfl rfl) (by decide) ?_
    exact x_iret (dX37_infer 18 rfl rfl) rfl hf
theorem bX37_isStill (G : Gh) (d : Nat) (h : AH) (Q : Outcome → AH → Prop) (a0 : Nat) (hf : Q (.returned (some (.int 1))) h) : C G mX37_isStill d [.ref (a0)] h Q := by
  refine C.of_X (by decide +kernel) (Nat.le_of_ble_eq_true rfl) wX37_isStill ?_
  show X G mX37_isStill d none [] 0 [(0, .ref (a0))] [] h Q
  refine x_iconst (pc' := 1) (v := 1) (dX37_isStill 0 rfl rfl) (by decide) rfl ?_
  exact x_zret (ty := .boolean) (dX37_isStill 1 rfl rfl) rfl (by decide) hf
theorem bX37_begin (G : Gh) (d : Nat) (h : AH) (Q : Outcome → AH → Prop) (a0 : Nat) (p2 : Int32) (s3 : So 3 (gW G) h) (hf : C G mX6_pay d [.ref (gW G 3), .int (1)] h (KI Q (fun x3 h1 => (x3 = 0 → (Q (.returned none) h1)) ∧ (¬ x3 = 0 → (hK h1 a0 = 35 ∧ (((fI h1 a0 329) = 0 → (C G mX6_made d [.ref (gW G 3), .int (1), .int (fI h1 a0 330)] h1 (KI Q (fun x23 h21 => C G mX6_give d [.ref (gW G 3), .int (x23)] h21 (KV Q (fun h24 => Q (.returned none) h24)))))) ∧ (¬ ((fI h1 a0 329) = 0) → (((fI h1 a0 329) = 1 → (((fI h1 a0 330) = 1 → (C G mX6_truth d [.ref (gW G 3), .int (1)] h1 (KI Q (fun x18 h16 => C G mX6_give d [.ref (gW G 3), .int (x18)] h16 (KV Q (fun h19 => Q (.returned none) h19)))))) ∧ (¬ ((fI h1 a0 330) = 1) → (C G mX6_truth d [.ref (gW G 3), .int (0)] h1 (KI Q (fun x13 h11 => C G mX6_give d [.ref (gW G 3), .int (x13)] h11 (KV Q (fun h14 => Q (.returned none) h14)))))))) ∧ (¬ ((fI h1 a0 329) = 1) → (C G mX6_give d [.ref (gW G 3), .int (1)] h1 (KV Q (fun h8 => Q (.returned none) h8)))))))))))) : C G mX37_begin (d + 1) [.ref (a0), .ref (gW G 3), .int (p2)] h Q := by
  refine C.of_X (by decide +kernel) (Nat.le_of_ble_eq_true rfl) wX37_begin ?_
  show X G mX37_begin (d + 1) none [] 0 [(0, .ref (a0)), (1, .ref (gW G 3)), (2, .int (p2))] [] h Q
  refine x_aload_n (pc' := 1) 1 (dX37_begin 0 rfl rfl) rfl rfl rfl ?_
  refine x_iconst (pc' := 2) (v := 1) (dX37_begin 1 rfl rfl) (by decide) rfl ?_
  refine x_inv (pc' := 5) (ν := mX6_pay) (av := [_, _]) (st := []) rfl rfl (dX37_begin 2 rfl rfl) (Nat.le_of_ble_eq_true rfl) wX6_pay q220 (inv_V (k := 4) (dX37_begin 2 rfl rfl) q2931 q2891 q2892 wX6_pay (by decide) lX6_pay (by decide) s3.1) (exN (by decide)) rfl ?_
  refine C.mono hf (fun _ _ => KI.g (fun x3 h1 hf le2 => ?_))
  replace s3 := s3.le sc3 (le2)
  refine x_if_eq (pc' := 8) (tgt := 60) (dX37_begin 3 rfl rfl) (by decide) rfl (fun c4 => ?_) (fun c4 => ?_)
  · replace hf := hf.1 c4
    exact x_vret (dX37_begin 30 rfl rfl) rfl hf
  · replace hf := hf.2 c4
    refine x_aload_n (pc' := 9) 1 (dX37_begin 4 rfl rfl) rfl rfl rfl ?_
    refine x_aload_n (pc' := 10) 0 (dX37_begin 5 rfl rfl) rfl rfl rfl ?_
    obtain ⟨k5, hf⟩ := hf
    refine x_getI (pc' := 13) (dX37_begin 6 rfl rfl) g329 q1634 (Or.inl rfl) rfl (hf_of 34 k5 rfl (by decide) m34_329) ?_
    refine x_if_ne (pc' := 16) (tgt := 28) (dX37_begin 7 rfl rfl) (by decide) rfl (fun c6 => ?_) (fun c6 => ?_)
    · replace hf := hf.2 c6
      refine x_aload_n (pc' := 29) 0 (dX37_begin 14 rfl rfl) rfl rfl rfl ?_
      refine x_getI (pc' := 32) (dX37_begin 15 rfl rfl) g329 q1634 (Or.inl rfl) rfl (hf_of 34 k5 rfl (by decide) m34_329) ?_
      refine x_iconst (pc' := 33) (v := 1) (dX37_begin 16 rfl rfl) (by decide) rfl ?_
      refine x_icmp_ne (pc' := 36) (tgt := 56) (dX37_begin 17 rfl rfl) (by decide) rfl (fun c7 => ?_) (fun c7 => ?_)
      · replace hf := hf.2 c7
        refine x_iconst (pc' := 57) (v := 1) (dX37_begin 28 rfl rfl) (by decide) rfl ?_
        refine x_inv (pc' := 60) (ν := mX6_give) (av := [_, _]) (st := []) rfl rfl (dX37_begin 29 rfl rfl) (Nat.le_of_ble_eq_true rfl) wX6_give q220 (inv_V (k := 4) (dX37_begin 29 rfl rfl) q2940 q2913 q2914 wX6_give (by decide) lX6_give (by decide) s3.1) (exN (by decide)) rfl ?_
        refine C.mono hf (fun _ _ => KV.g (fun h8 hf le9 => ?_))
        have k5 := leK le9 k5 (by decide)
        replace s3 := s3.le sc3 (le9)
        exact x_vret (dX37_begin 30 rfl rfl) rfl hf
      · replace hf := hf.1 (Classical.not_not.mp c7)
        replace c7 := Classical.not_not.mp c7
        refine x_aload_n (pc' := 37) 1 (dX37_begin 18 rfl rfl) rfl rfl rfl ?_
        refine x_aload_n (pc' := 38) 0 (dX37_begin 19 rfl rfl) rfl rfl rfl ?_
        refine x_getI (pc' := 41) (dX37_begin 20 rfl rfl) g330 q1635 (Or.inl rfl) rfl (hf_of 34 k5 rfl (by decide) m34_330) ?_
        refine x_iconst (pc' := 42) (v := 1) (dX37_begin 21 rfl rfl) (by decide) rfl ?_
        refine x_icmp_ne (pc' := 45) (tgt := 49) (dX37_begin 22 rfl rfl) (by decide) rfl (fun c10 => ?_) (fun c10 => ?_)
        · replace hf := hf.2 c10
          refine x_iconst (pc' := 50) (v := 0) (dX37_begin 25 rfl rfl) (by decide) rfl ?_
          refine x_inv (pc' := 53) (ν := mX6_truth) (av := [_, _]) (st := [_]) rfl rfl (dX37_begin 26 rfl rfl) (Nat.le_of_ble_eq_true rfl) wX6_truth q220 (inv_V (k := 4) (dX37_begin 26 rfl rfl) q2936 q2937 q2938 wX6_truth (by decide) lX6_truth (by decide) s3.1) (exN (by decide)) rfl ?_
          refine C.mono hf (fun _ _ => KI.g (fun x13 h11 hf le12 => ?_))
          have k5 := leK le12 k5 (by decide)
          replace s3 := s3.le sc3 (le12)
          refine x_goto (tgt := 57) (dX37_begin 27 rfl rfl) (by decide) ?_
          refine x_inv (pc' := 60) (ν := mX6_give) (av := [_, _]) (st := []) rfl rfl (dX37_begin 29 rfl rfl) (Nat.le_of_ble_eq_true rfl) wX6_give q220 (inv_V (k := 4) (dX37_begin 29 rfl rfl) q2940 q2913 q2914 wX6_give (by decide) lX6_give (by decide) s3.1) (exN (by decide)) rfl ?_
          refine C.mono hf (fun _ _ => KV.g (fun h14 hf le15 => ?_))
          have k5 := leK le15 k5 (by decide)
          replace s3 := s3.le sc3 (le15)
          exact x_vret (dX37_begin 30 rfl rfl) rfl hf
        · replace hf := hf.1 (Classical.not_not.mp c10)
          replace c10 := Classical.not_not.mp c10
          refine x_iconst (pc' := 46) (v := 1) (dX37_begin 23 rfl rfl) (by decide) rfl ?_
          refine x_goto (tgt := 50) (dX37_begin 24 rfl rfl) (by decide) ?_
          refine x_inv (pc' := 53) (ν := mX6_truth) (av := [_, _]) (st := [_]) rfl rfl (dX37_begin 26 rfl rfl) (Nat.le_of_ble_eq_true rfl) wX6_truth q220 (inv_V (k := 4) (dX37_begin 26 rfl rfl) q2936 q2937 q2938 wX6_truth (by decide) lX6_truth (by decide) s3.1) (exN (by decide)) rfl ?_
          refine C.mono hf (fun _ _ => KI.g (fun x18 h16 hf le17 => ?_))
          have k5 := leK le17 k5 (by decide)
          replace s3 := s3.le sc3 (le17)
          refine x_goto (tgt := 57) (dX37_begin 27 rfl rfl) (by decide) ?_
          refine x_inv (pc' := 60) (ν := mX6_give) (av := [_, _]) (st := []) rfl rfl (dX37_begin 29 rfl rfl) (Nat.le_of_ble_eq_true rfl) wX6_give q220 (inv_V (k := 4) (dX37_begin 29 rfl rfl) q2940 q2913 q2914 wX6_give (by decide) lX6_give (by decide) s3.1) (exN (by decide)) rfl ?_
          refine C.mono hf (fun _ _ => KV.g (fun h19 hf le20 => ?_))
          have k5 := leK le20 k5 (by decide)
          replace s3 := s3.le sc3 (le20)
          exact x_vret (dX37_begin 30 rfl rfl) rfl hf
    · replace hf := hf.1 (Classical.not_not.mp c6)
      replace c6 := Classical.not_not.mp c6
      refine x_aload_n (pc' := 17) 1 (dX37_begin 8 rfl rfl) rfl rfl rfl ?_
      refine x_iconst (pc' := 18) (v := 1) (dX37_begin 9 rfl rfl) (by decide) rfl ?_
      refine x_aload_n (pc' := 19) 0 (dX37_begin 10 rfl rfl) rfl rfl rfl ?_
      refine x_getI (pc' := 22) (dX37_begin 11 rfl rfl) g330 q1635 (Or.inl rfl) rfl (hf_of 34 k5 rfl (by decide) m34_330) ?_
      refine x_inv (pc' := 25) (ν := mX6_made) (av := [_, _, _]) (st := [_]) rfl rfl (dX37_begin 12 rfl rfl) (Nat.le_of_ble_eq_true rfl) wX6_made q220 (inv_V (k := 4) (dX37_begin 12 rfl rfl) q2932 q2933 q2934 wX6_made (by decide) lX6_made (by decide) s3.1) (exN (by decide)) rfl ?_
      refine C.mono hf (fun _ _ => KI.g (fun x23 h21 hf le22 => ?_))
      have k5 := leK le22 k5 (by decide)
      replace s3 := s3.le sc3 (le22)
      refine x_goto (tgt := 57) (dX37_begin 13 rfl rfl) (by decide) ?_
      refine x_inv (pc' := 60) (ν := mX6_give) (av := [_, _]) (st := []) rfl rfl (dX37_begin 29 rfl rfl) (Nat.le_of_ble_eq_true rfl) wX6_give q220 (inv_V (k := 4) (dX37_begin 29 rfl rfl) q2940 q2913 q2914 wX6_give (by decide) lX6_give (by decide) s3.1) (exN (by decide)) rfl ?_
      refine C.mono hf (fun _ _ => KV.g (fun h24 hf le25 => ?_))
      have k5 := leK le25 k5 (by decide)
      replace s3 := s3.le sc3 (le25)
      exact x_vret (dX37_begin 30 rfl rfl) rfl hf
