set_option maxRecDepth 100000
theorem bJ0_length (G : Gh) (d : Nat) (h : AH) (Q : Outcome → AH → Prop) (i : Nat) (hi : i < slen.length) (hf : C G mJ0_coder d [.ref (G.2.2.2.1 i)] h (KI Q (fun x3 h1 => Q (.returned (some (.int ((Int32.ofNat (slen.getD i 0)) >>> (x3 &&& 31))))) h1))) : C G mJ0_length (d + 1) [.ref (G.2.2.2.1 i)] h Q := by
  refine C.of_X (by decide +kernel) (Nat.le_of_ble_eq_true rfl) wJ0_length ?_
  show X G mJ0_length (d + 1) none [] 0 [(0, .ref (G.2.2.2.1 i))] [] h Q
  refine x_aload_n (pc' := 1) 0 (dJ0_length 0 rfl rfl) rfl rfl rfl ?_
  refine x_sgetV (pc' := 4) (dJ0_length 1 rfl rfl) q4581 hi rfl ?_
  refine x_salen (pc' := 5) (dJ0_length 2 rfl rfl) hi rfl ?_
  refine x_aload_n (pc' := 6) 0 (dJ0_length 3 rfl rfl) rfl rfl rfl ?_
  refine x_inv (pc' := 9) (ν := mJ0_coder) (av := [_]) (st := [_]) rfl rfl (dJ0_length 4 rfl rfl) (Nat.le_of_ble_eq_true rfl) wJ0_coder q215 (inv_VS (dJ0_length 4 rfl rfl) q384 q385 q386 wJ0_coder (by decide) lJ0_coder hi) (exN (by decide)) rfl ?_
  refine C.mono hf (fun _ _ => KI.g (fun x3 h1 hf le2 => ?_))
  refine x_ishr (pc' := 10) (dJ0_length 5 rfl rfl) rfl ?_
  exact x_iret (dJ0_length 6 rfl rfl) rfl hf
theorem bJ0_coder (G : Gh) (d : Nat) (h : AH) (Q : Outcome → AH → Prop) (i : Nat) (hi : i < slen.length) (hf : narrow .byte (.int 0) = .int 0 ∧ Q (.returned (some (.int 0))) h) : C G mJ0_coder d [.ref (G.2.2.2.1 i)] h Q := by
  refine C.of_X (by decide +kernel) (Nat.le_of_ble_eq_true rfl) wJ0_coder ?_
  show X G mJ0_coder d none [] 0 [(0, .ref (G.2.2.2.1 i))] [] h Q
  refine x_getsC (pc' := 3) (dJ0_coder 0 rfl rfl) q388 rfl ?_
  refine x_if_eq (pc' := 6) (tgt := 13) (dJ0_coder 1 rfl rfl) (by decide) rfl (fun c1 => ?_) (fun c1 => ?_)
  · exact absurd c1 (by decide)
  · refine x_aload_n (pc' := 7) 0 (dJ0_coder 2 rfl rfl) rfl rfl rfl ?_
    refine x_sgetC (pc' := 10) (dJ0_coder 3 rfl rfl) q4582 hi rfl ?_
    refine x_goto (tgt := 14) (dJ0_coder 4 rfl rfl) (by decide) ?_
    obtain ⟨z0, hf⟩ := hf
    exact x_zret (ty := .byte) (dJ0_coder 6 rfl rfl) rfl z0 hf
theorem bJ0_charAt (G : Gh) (d : Nat) (h : AH) (Q : Outcome → AH → Prop) (i : Nat) (hi : i < slen.length) (p1 : Int32) (hf : C G mJ0_isLatin1 d [.ref (G.2.2.2.1 i)] h (KI Q (fun x3 h1 => (x3 = 0 → (False)) ∧ (¬ x3 = 0 → (C G mJ1_charAt d [.ref (G.2.2.2.2.1 i), .int (p1)] h1 (KI Q (fun x7 h5 => narrow .char (.int x7) = .int x7 ∧ Q (.returned (some (.int x7))) h5))))))) : C G mJ0_charAt (d + 1) [.ref (G.2.2.2.1 i), .int (p1)] h Q := by
  refine C.of_X (by decide +kernel) (Nat.le_of_ble_eq_true rfl) wJ0_charAt ?_
  show X G mJ0_charAt (d + 1) none [] 0 [(0, .ref (G.2.2.2.1 i)), (1, .int (p1))] [] h Q
  refine x_aload_n (pc' := 1) 0 (dJ0_charAt 0 rfl rfl) rfl rfl rfl ?_
  refine x_inv (pc' := 4) (ν := mJ0_isLatin1) (av := [_]) (st := []) rfl rfl (dJ0_charAt 1 rfl rfl) (Nat.le_of_ble_eq_true rfl) wJ0_isLatin1 q215 (inv_VS (dJ0_charAt 1 rfl rfl) q394 q395 q396 wJ0_isLatin1 (by decide) lJ0_isLatin1 hi) (exN (by decide)) rfl ?_
  refine C.mono hf (fun _ _ => KI.g (fun x3 h1 hf le2 => ?_))
  refine x_if_eq (pc' := 7) (tgt := 16) (dJ0_charAt 2 rfl rfl) (by decide) rfl (fun c4 => ?_) (fun c4 => ?_)
  · replace hf := hf.1 c4
    refine x_aload_n (pc' := 17) 0 (dJ0_charAt 8 rfl rfl) rfl rfl rfl ?_
    refine x_sgetV (pc' := 20) (dJ0_charAt 9 rfl rfl) q4581 hi rfl ?_
    refine x_iload_n (pc' := 21) 1 (dJ0_charAt 10 rfl rfl) rfl rfl rfl ?_
    exact hf.elim
  · replace hf := hf.2 c4
    refine x_aload_n (pc' := 8) 0 (dJ0_charAt 3 rfl rfl) rfl rfl rfl ?_
    refine x_sgetV (pc' := 11) (dJ0_charAt 4 rfl rfl) q4581 hi rfl ?_
    refine x_iload_n (pc' := 12) 1 (dJ0_charAt 5 rfl rfl) rfl rfl rfl ?_
    refine x_inv (pc' := 15) (ν := mJ1_charAt) (av := [_, _]) (st := []) rfl rfl (dJ0_charAt 6 rfl rfl) (Nat.le_of_ble_eq_true rfl) wJ1_charAt q216 (inv_S (dJ0_charAt 6 rfl rfl) q398 q399 q216 wJ1_charAt (by decide) lJ1_charAt) (exN (by decide)) rfl ?_
    refine C.mono hf (fun _ _ => KI.g (fun x7 h5 hf le6 => ?_))
    obtain ⟨z0, hf⟩ := hf
    exact x_zret (ty := .char) (dJ0_charAt 7 rfl rfl) rfl z0 hf
theorem bJ0_isLatin1 (G : Gh) (d : Nat) (h : AH) (Q : Outcome → AH → Prop) (i : Nat) (hi : i < slen.length) (hf : Q (.returned (some (.int 1))) h) : C G mJ0_isLatin1 d [.ref (G.2.2.2.1 i)] h Q := by
  refine C.of_X (by decide +kernel) (Nat.le_of_ble_eq_true rfl) wJ0_isLatin1 ?_
  show X G mJ0_isLatin1 d none [] 0 [(0, .ref (G.2.2.2.1 i))] [] h Q
  refine x_getsC (pc' := 3) (dJ0_isLatin1 0 rfl rfl) q388 rfl ?_
  refine x_if_eq (pc' := 6) (tgt := 17) (dJ0_isLatin1 1 rfl rfl) (by decide) rfl (fun c1 => ?_) (fun c1 => ?_)
  · exact absurd c1 (by decide)
  · refine x_aload_n (pc' := 7) 0 (dJ0_isLatin1 2 rfl rfl) rfl rfl rfl ?_
    refine x_sgetC (pc' := 10) (dJ0_isLatin1 3 rfl rfl) q4582 hi rfl ?_
    refine x_if_ne (pc' := 13) (tgt := 17) (dJ0_isLatin1 4 rfl rfl) (by decide) rfl (fun c2 => ?_) (fun c2 => ?_)
    · exact absurd (by decide) c2
    · refine x_iconst (pc' := 14) (v := 1) (dJ0_isLatin1 5 rfl rfl) (by decide) rfl ?_
      refine x_goto (tgt := 18) (dJ0_isLatin1 6 rfl rfl) (by decide) ?_
      exact x_zret (ty := .boolean) (dJ0_isLatin1 8 rfl rfl) rfl (by decide) hf
theorem bJ0_checkIndex (G : Gh) (d : Nat) (h : AH) (Q : Outcome → AH → Prop) (p0 : Int32) (p1 : Int32) (hf : (C G mJ2_checkIndex d [.int (p0), .int (p1), .null] h (KI Q (fun x3 h1 => Q (.returned none) h1))) ∧ (∀ b4 : Nat, C G mJ2_checkIndex d [.int (p0), .int (p1), .ref (b4)] h (KI Q (fun x7 h5 => Q (.returned none) h5)))) : C G mJ0_checkIndex (d + 1) [.int (p0), .int (p1)] h Q := by
  refine C.of_X (by decide +kernel) (Nat.le_of_ble_eq_true rfl) wJ0_checkIndex ?_
  show X G mJ0_checkIndex (d + 1) none [] 0 [(0, .int (p0)), (1, .int (p1))] [] h Q
  refine x_iload_n (pc' := 1) 0 (dJ0_checkIndex 0 rfl rfl) rfl rfl rfl ?_
  refine x_iload_n (pc' := 2) 1 (dJ0_checkIndex 1 rfl rfl) rfl rfl rfl ?_
  refine x_getsF (pc' := 5) (dJ0_checkIndex 2 rfl rfl) q404 rfl ?_ (fun b4 => ?_)
  · replace hf := hf.1
    refine x_inv (pc' := 8) (ν := mJ2_checkIndex) (av := [_, _, _]) (st := []) rfl rfl (dJ0_checkIndex 3 rfl rfl) (Nat.le_of_ble_eq_true rfl) wJ2_checkIndex q217 (inv_S (dJ0_checkIndex 3 rfl rfl) q406 q407 q217 wJ2_checkIndex (by decide) lJ2_checkIndex) (exN (by decide)) rfl ?_
    refine C.mono hf (fun _ _ => KI.g (fun x3 h1 hf le2 => ?_))
    refine x_pop (pc' := 9) (dJ0_checkIndex 4 rfl rfl) rfl rfl ?_
    exact x_vret (dJ0_checkIndex 5 rfl rfl) rfl hf
  · replace hf := hf.2 b4
    refine x_inv (pc' := 8) (ν := mJ2_checkIndex) (av := [_, _, _]) (st := []) rfl rfl (dJ0_checkIndex 3 rfl rfl) (Nat.le_of_ble_eq_true rfl) wJ2_checkIndex q217 (inv_S (dJ0_checkIndex 3 rfl rfl) q406 q407 q217 wJ2_checkIndex (by decide) lJ2_checkIndex) (exN (by decide)) rfl ?_
    refine C.mono hf (fun _ _ => KI.g (fun x7 h5 hf le6 => ?_))
    refine x_pop (pc' := 9) (dJ0_checkIndex 4 rfl rfl) rfl rfl ?_
    exact x_vret (dJ0_checkIndex 5 rfl rfl) rfl hf
theorem bJ0_indexOf (G : Gh) (d : Nat) (h : AH) (Q : Outcome → AH → Prop) (i : Nat) (hi : i < slen.length) (p1 : Int32) (hf : C G mJ0_indexOf_2 d [.ref (G.2.2.2.1 i), .int (p1), .int (0)] h (KI Q (fun x3 h1 => Q (.returned (some (.int x3))) h1))) : C G mJ0_indexOf (d + 1) [.ref (G.2.2.2.1 i), .int (p1)] h Q := by
  refine C.of_X (by decide +kernel) (Nat.le_of_ble_eq_true rfl) wJ0_indexOf ?_
  show X G mJ0_indexOf (d + 1) none [] 0 [(0, .ref (G.2.2.2.1 i)), (1, .int (p1))] [] h Q
  refine x_aload_n (pc' := 1) 0 (dJ0_indexOf 0 rfl rfl) rfl rfl rfl ?_
  refine x_iload_n (pc' := 2) 1 (dJ0_indexOf 1 rfl rfl) rfl rfl rfl ?_
  refine x_iconst (pc' := 3) (v := 0) (dJ0_indexOf 2 rfl rfl) (by decide) rfl ?_
  refine x_inv (pc' := 6) (ν := mJ0_indexOf_2) (av := [_, _, _]) (st := []) rfl rfl (dJ0_indexOf 3 rfl rfl) (Nat.le_of_ble_eq_true rfl) wJ0_indexOf_2 q215 (inv_VS (dJ0_indexOf 3 rfl rfl) q1206 q1207 q1208 wJ0_indexOf_2 (by decide) lJ0_indexOf_2 hi) (exN (by decide)) rfl ?_
  refine C.mono hf (fun _ _ => KI.g (fun x3 h1 hf le2 => ?_))
  exact x_iret (dJ0_indexOf 4 rfl rfl) rfl hf
theorem bJ0_indexOf_2 (G : Gh) (d : Nat) (h : AH) (Q : Outcome → AH → Prop) (i : Nat) (hi : i < slen.length) (p1 : Int32) (p2 : Int32) (hf : C G mJ0_isLatin1 d [.ref (G.2.2.2.1 i)] h (KI Q (fun x3 h1 => (x3 = 0 → (C G mJ0_length d [.ref (G.2.2.2.1 i)] h1 (KI Q (fun x7 h5 => False)))) ∧ (¬ x3 = 0 → (C G mJ0_length d [.ref (G.2.2.2.1 i)] h1 (KI Q (fun x10 h8 => C G mJ1_indexOf d [.ref (G.2.2.2.2.1 i), .int (p1), .int (p2), .int (x10)] h8 (KI Q (fun x13 h11 => Q (.returned (some (.int x13))) h11))))))))) : C G mJ0_indexOf_2 (d + 1) [.ref (G.2.2.2.1 i), .int (p1), .int (p2)] h Q := by
  refine C.of_X (by decide +kernel) (Nat.le_of_ble_eq_true rfl) wJ0_indexOf_2 ?_
  show X G mJ0_indexOf_2 (d + 1) none [] 0 [(0, .ref (G.2.2.2.1 i)), (1, .int (p1)), (2, .int (p2))] [] h Q
  refine x_aload_n (pc' := 1) 0 (dJ0_indexOf_2 0 rfl rfl) rfl rfl rfl ?_
  refine x_inv (pc' := 4) (ν := mJ0_isLatin1) (av := [_]) (st := []) rfl rfl (dJ0_indexOf_2 1 rfl rfl) (Nat.le_of_ble_eq_true rfl) wJ0_isLatin1 q215 (inv_VS (dJ0_indexOf_2 1 rfl rfl) q394 q395 q396 wJ0_isLatin1 (by decide) lJ0_isLatin1 hi) (exN (by decide)) rfl ?_
  refine C.mono hf (fun _ _ => KI.g (fun x3 h1 hf le2 => ?_))
  refine x_if_eq (pc' := 7) (tgt := 23) (dJ0_indexOf_2 2 rfl rfl) (by decide) rfl (fun c4 => ?_) (fun c4 => ?_)
  · replace hf := hf.1 c4
    refine x_aload_n (pc' := 24) 0 (dJ0_indexOf_2 11 rfl rfl) rfl rfl rfl ?_
    refine x_sgetV (pc' := 27) (dJ0_indexOf_2 12 rfl rfl) q4581 hi rfl ?_
    refine x_iload_n (pc' := 28) 1 (dJ0_indexOf_2 13 rfl rfl) rfl rfl rfl ?_
    refine x_iload_n (pc' := 29) 2 (dJ0_indexOf_2 14 rfl rfl) rfl rfl rfl ?_
    refine x_aload_n (pc' := 30) 0 (dJ0_indexOf_2 15 rfl rfl) rfl rfl rfl ?_
    refine x_inv (pc' := 33) (ν := mJ0_length) (av := [_]) (st := [_, _, _]) rfl rfl (dJ0_indexOf_2 16 rfl rfl) (Nat.le_of_ble_eq_true rfl) wJ0_length q215 (inv_VS (dJ0_indexOf_2 16 rfl rfl) q1210 q381 q382 wJ0_length (by decide) lJ0_length hi) (exN (by decide)) rfl ?_
    refine C.mono hf (fun _ _ => KI.g (fun x7 h5 hf le6 => ?_))
    exact hf.elim
  · replace hf := hf.2 c4
    refine x_aload_n (pc' := 8) 0 (dJ0_indexOf_2 3 rfl rfl) rfl rfl rfl ?_
    refine x_sgetV (pc' := 11) (dJ0_indexOf_2 4 rfl rfl) q4581 hi rfl ?_
    refine x_iload_n (pc' := 12) 1 (dJ0_indexOf_2 5 rfl rfl) rfl rfl rfl ?_
    refine x_iload_n (pc' := 13) 2 (dJ0_indexOf_2 6 rfl rfl) rfl rfl rfl ?_
    refine x_aload_n (pc' := 14) 0 (dJ0_indexOf_2 7 rfl rfl) rfl rfl rfl ?_
    refine x_inv (pc' := 17) (ν := mJ0_length) (av := [_]) (st := [_, _, _]) rfl rfl (dJ0_indexOf_2 8 rfl rfl) (Nat.le_of_ble_eq_true rfl) wJ0_length q215 (inv_VS (dJ0_indexOf_2 8 rfl rfl) q1210 q381 q382 wJ0_length (by decide) lJ0_length hi) (exN (by decide)) rfl ?_
    refine C.mono hf (fun _ _ => KI.g (fun x10 h8 hf le9 => ?_))
    refine x_inv (pc' := 20) (ν := mJ1_indexOf) (av := [_, _, _, _]) (st := []) rfl rfl (dJ0_indexOf_2 9 rfl rfl) (Nat.le_of_ble_eq_true rfl) wJ1_indexOf q216 (inv_S (dJ0_indexOf_2 9 rfl rfl) q1211 q1212 q216 wJ1_indexOf (by decide) lJ1_indexOf) (exN (by decide)) rfl ?_
    refine C.mono hf (fun _ _ => KI.g (fun x13 h11 hf le12 => ?_))
    refine x_goto (tgt := 36) (dJ0_indexOf_2 10 rfl rfl) (by decide) ?_
    exact x_iret (dJ0_indexOf_2 18 rfl rfl) rfl hf
theorem bJ1_charAt (G : Gh) (d : Nat) (h : AH) (Q : Outcome → AH → Prop) (i : Nat) (hi : i < slen.length) (p1 : Int32) (hf : C G mJ0_checkIndex d [.int (p1), .int (Int32.ofNat (slen.getD i 0))] h (KV Q (fun h1 => vp_in p1 (slen.getD i 0) ∧ (narrow .char (.int (((((sbyt.getD i []).getD (p1 : Int32).toNatClampNeg 0) &&& 255 : Int32).toUInt32 % 65536).toInt32)) = .int (((((sbyt.getD i []).getD (p1 : Int32).toNatClampNeg 0) &&& 255 : Int32).toUInt32 % 65536).toInt32) ∧ Q (.returned (some (.int (((((sbyt.getD i []).getD (p1 : Int32).toNatClampNeg 0) &&& 255 : Int32).toUInt32 % 65536).toInt32)))) h1)))) : C G mJ1_charAt (d + 1) [.ref (G.2.2.2.2.1 i), .int (p1)] h Q := by
  refine C.of_X (by decide +kernel) (Nat.le_of_ble_eq_true rfl) wJ1_charAt ?_
  show X G mJ1_charAt (d + 1) none [] 0 [(0, .ref (G.2.2.2.2.1 i)), (1, .int (p1))] [] h Q
  refine x_iload_n (pc' := 1) 1 (dJ1_charAt 0 rfl rfl) rfl rfl rfl ?_
  refine x_aload_n (pc' := 2) 0 (dJ1_charAt 1 rfl rfl) rfl rfl rfl ?_
  refine x_salen (pc' := 3) (dJ1_charAt 2 rfl rfl) hi rfl ?_
  refine x_inv (pc' := 6) (ν := mJ0_checkIndex) (av := [_, _]) (st := []) rfl rfl (dJ1_charAt 3 rfl rfl) (Nat.le_of_ble_eq_true rfl) wJ0_checkIndex q215 (inv_S (dJ1_charAt 3 rfl rfl) q401 q402 q215 wJ0_checkIndex (by decide) lJ0_checkIndex) (exN (by decide)) rfl ?_
  refine C.mono hf (fun _ _ => KV.g (fun h1 hf le2 => ?_))
  refine x_aload_n (pc' := 7) 0 (dJ1_charAt 4 rfl rfl) rfl rfl rfl ?_
  refine x_iload_n (pc' := 8) 1 (dJ1_charAt 5 rfl rfl) rfl rfl rfl ?_
  obtain ⟨i3, hf⟩ := hf
  refine x_sbald (pc' := 9) (dJ1_charAt 6 rfl rfl) hi i3 rfl ?_
  refine x_sipush (pc' := 12) (v := 255) (dJ1_charAt 7 rfl rfl) (by decide) rfl ?_
  refine x_iand (pc' := 13) (dJ1_charAt 8 rfl rfl) rfl ?_
  refine x_i2c (pc' := 14) (dJ1_charAt 9 rfl rfl) rfl ?_
  obtain ⟨z0, hf⟩ := hf
  exact x_zret (ty := .char) (dJ1_charAt 10 rfl rfl) rfl z0 hf
theorem bJ1_indexOf (G : Gh) (d : Nat) (h : AH) (Q : Outcome → AH → Prop) (i : Nat) (hi : i < slen.length) (p1 : Int32) (p2 : Int32) (p3 : Int32) (hf : C G mJ1_canEncode d [.int (p1)] h (KI Q (fun x3 h1 => (x3 = 0 → (Q (.returned (some (.int ((-1))))) h1)) ∧ (¬ x3 = 0 → (C G mJ9_max d [.int (p2), .int (0)] h1 (KI Q (fun x7 h5 => C G mJ9_min_2 d [.int (p3), .int (Int32.ofNat (slen.getD i 0))] h5 (KI Q (fun x10 h8 => (x7 < x10 → (C G mJ1_indexOfChar d [.ref (G.2.2.2.2.1 i), .int (p1), .int (x7), .int (x10)] h8 (KI Q (fun x14 h12 => Q (.returned (some (.int x14))) h12)))) ∧ (¬ (x7 < x10) → (Q (.returned (some (.int ((-1))))) h8))))))))))) : C G mJ1_indexOf (d + 1) [.ref (G.2.2.2.2.1 i), .int (p1), .int (p2), .int (p3)] h Q := by
  refine C.of_X (by decide +kernel) (Nat.le_of_ble_eq_true rfl) wJ1_indexOf ?_
  show X G mJ1_indexOf (d + 1) none [] 0 [(0, .ref (G.2.2.2.2.1 i)), (1, .int (p1)), (2, .int (p2)), (3, .int (p3))] [] h Q
  refine x_iload_n (pc' := 1) 1 (dJ1_indexOf 0 rfl rfl) rfl rfl rfl ?_
  refine x_inv (pc' := 4) (ν := mJ1_canEncode) (av := [_]) (st := []) rfl rfl (dJ1_indexOf 1 rfl rfl) (Nat.le_of_ble_eq_true rfl) wJ1_canEncode q216 (inv_S (dJ1_indexOf 1 rfl rfl) q1214 q1215 q216 wJ1_canEncode (by decide) lJ1_canEncode) (exN (by decide)) rfl ?_
  refine C.mono hf (fun _ _ => KI.g (fun x3 h1 hf le2 => ?_))
  refine x_if_ne (pc' := 7) (tgt := 9) (dJ1_indexOf 2 rfl rfl) (by decide) rfl (fun c4 => ?_) (fun c4 => ?_)
  · replace hf := hf.2 c4
    refine x_iload_n (pc' := 10) 2 (dJ1_indexOf 5 rfl rfl) rfl rfl rfl ?_
    refine x_iconst (pc' := 11) (v := 0) (dJ1_indexOf 6 rfl rfl) (by decide) rfl ?_
    refine x_inv (pc' := 14) (ν := mJ9_max) (av := [_, _]) (st := []) rfl rfl (dJ1_indexOf 7 rfl rfl) (Nat.le_of_ble_eq_true rfl) wJ9_max q235 (inv_S (dJ1_indexOf 7 rfl rfl) q1217 q1218 q235 wJ9_max (by decide) lJ9_max) (exN (by decide)) rfl ?_
    refine C.mono hf (fun _ _ => KI.g (fun x7 h5 hf le6 => ?_))
    refine x_istore_n (pc' := 15) (dJ1_indexOf 8 rfl rfl) rfl (by decide) rfl rfl ?_
    refine x_iload_n (pc' := 16) 3 (dJ1_indexOf 9 rfl rfl) rfl rfl rfl ?_
    refine x_aload_n (pc' := 17) 1 (dJ1_indexOf 10 rfl rfl) rfl rfl rfl ?_
    refine x_salen (pc' := 18) (dJ1_indexOf 11 rfl rfl) hi rfl ?_
    refine x_inv (pc' := 21) (ν := mJ9_min_2) (av := [_, _]) (st := []) rfl rfl (dJ1_indexOf 12 rfl rfl) (Nat.le_of_ble_eq_true rfl) wJ9_min_2 q235 (inv_S (dJ1_indexOf 12 rfl rfl) q1220 q1221 q235 wJ9_min_2 (by decide) lJ9_min_2) (exN (by decide)) rfl ?_
    refine C.mono hf (fun _ _ => KI.g (fun x10 h8 hf le9 => ?_))
    refine x_istore_n (pc' := 22) (dJ1_indexOf 13 rfl rfl) rfl (by decide) rfl rfl ?_
    refine x_iload_n (pc' := 23) 1 (dJ1_indexOf 14 rfl rfl) rfl rfl rfl ?_
    refine x_iload_n (pc' := 24) 0 (dJ1_indexOf 15 rfl rfl) rfl rfl rfl ?_
    refine x_icmp_lt (pc' := 27) (tgt := 29) (dJ1_indexOf 16 rfl rfl) (by decide) rfl (fun c11 => ?_) (fun c11 => ?_)
    · replace hf := hf.1 c11
      refine x_aload_n (pc' := 30) 2 (dJ1_indexOf 19 rfl rfl) rfl rfl rfl ?_
      refine x_iload_n (pc' := 31) 3 (dJ1_indexOf 20 rfl rfl) rfl rfl rfl ?_
      refine x_iload_n (pc' := 32) 1 (dJ1_indexOf 21 rfl rfl) rfl rfl rfl ?_
      refine x_iload_n (pc' := 33) 0 (dJ1_indexOf 22 rfl rfl) rfl rfl rfl ?_
      refine x_inv (pc' := 36) (ν := mJ1_indexOfChar) (av := [_, _, _, _]) (st := []) rfl rfl (dJ1_indexOf 23 rfl rfl) (Nat.le_of_ble_eq_true rfl) wJ1_indexOfChar q216 (inv_S (dJ1_indexOf 23 rfl rfl) q1223 q1224 q216 wJ1_indexOfChar (by decide) lJ1_indexOfChar) (exN (by decide)) rfl ?_
      refine C.mono hf (fun _ _ => KI.g (fun x14 h12 hf le13 => ?_))
      exact x_iret (dJ1_indexOf 24 rfl rfl) rfl hf
    · replace hf := hf.2 c11
      refine x_iconst (pc' := 28) (v := -1) (dJ1_indexOf 17 rfl rfl) (by decide) rfl ?_
      exact x_iret (dJ1_indexOf 18 rfl rfl) rfl hf
  · replace hf := hf.1 (Classical.not_not.mp c4)
    replace c4 := Classical.not_not.mp c4
    refine x_iconst (pc' := 8) (v := -1) (dJ1_indexOf 3 rfl rfl) (by decide) rfl ?_
    exact x_iret (dJ1_indexOf 4 rfl rfl) rfl hf
theorem bJ1_canEncode (G : Gh) (d : Nat) (h : AH) (Q : Outcome → AH → Prop) (p0 : Int32) (hf : (p0 < 0 → (Q (.returned (some (.int 0))) h)) ∧ (¬ (p0 < 0) → ((255 < p0 → (Q (.returned (some (.int 0))) h)) ∧ (¬ (255 < p0) → (Q (.returned (some (.int 1))) h))))) : C G mJ1_canEncode d [.int (p0)] h Q := by
  refine C.of_X (by decide +kernel) (Nat.le_of_ble_eq_true rfl) wJ1_canEncode ?_
  show X G mJ1_canEncode d none [] 0 [(0, .int (p0))] [] h Q
  refine x_iload_n (pc' := 1) 0 (dJ1_canEncode 0 rfl rfl) rfl rfl rfl ?_
  refine x_if_lt (pc' := 4) (tgt := 15) (dJ1_canEncode 1 rfl rfl) (by decide) rfl (fun c1 => ?_) (fun c1 => ?_)
  · replace hf := hf.1 c1
    refine x_iconst (pc' := 16) (v := 0) (dJ1_canEncode 7 rfl rfl) (by decide) rfl ?_
    exact x_zret (ty := .boolean) (dJ1_canEncode 8 rfl rfl) rfl (by decide) hf
  · replace hf := hf.2 c1
    refine x_iload_n (pc' := 5) 0 (dJ1_canEncode 2 rfl rfl) rfl rfl rfl ?_
    refine x_sipush (pc' := 8) (v := 255) (dJ1_canEncode 3 rfl rfl) (by decide) rfl ?_
    refine x_icmp_gt (pc' := 11) (tgt := 15) (dJ1_canEncode 4 rfl rfl) (by decide) rfl (fun c2 => ?_) (fun c2 => ?_)
    · replace hf := hf.1 c2
      refine x_iconst (pc' := 16) (v := 0) (dJ1_canEncode 7 rfl rfl) (by decide) rfl ?_
      exact x_zret (ty := .boolean) (dJ1_canEncode 8 rfl rfl) rfl (by decide) hf
    · replace hf := hf.2 c2
      refine x_iconst (pc' := 12) (v := 1) (dJ1_canEncode 5 rfl rfl) (by decide) rfl ?_
      refine x_goto (tgt := 16) (dJ1_canEncode 6 rfl rfl) (by decide) ?_
      exact x_zret (ty := .boolean) (dJ1_canEncode 8 rfl rfl) rfl (by decide) hf
theorem bJ1_indexOfChar (G : Gh) (d : Nat) (h : AH) (Q : Outcome → AH → Prop) (i : Nat) (hi : i < slen.length) (p1 : Int32) (p2 : Int32) (p3 : Int32) (hf : ∀ x1 : Int32, x1 = (p1 : Int32).toInt8.toInt32 → (X G mJ1_indexOfChar d none [] 7 [(0, .ref (G.2.2.2.2.1 i)), (3, .int (p3)), (4, .int (x1)), (5, .int (p2))] [] h Q)) : C G mJ1_indexOfChar d [.ref (G.2.2.2.2.1 i), .int (p1), .int (p2), .int (p3)] h Q := by
  refine C.of_X (by decide +kernel) (Nat.le_of_ble_eq_true rfl) wJ1_indexOfChar ?_
  show X G mJ1_indexOfChar d none [] 0 [(0, .ref (G.2.2.2.2.1 i)), (1, .int (p1)), (2, .int (p2)), (3, .int (p3))] [] h Q
  refine x_iload_n (pc' := 1) 1 (dJ1_indexOfChar 0 rfl rfl) rfl rfl rfl ?_
  refine x_i2b (pc' := 2) (dJ1_indexOfChar 1 rfl rfl) rfl ?_
  replace hf := hf _ rfl
  refine x_istore (pc' := 4) (dJ1_indexOfChar 2 rfl rfl) (by decide) rfl rfl ?_
  refine x_iload_n (pc' := 5) 3 (dJ1_indexOfChar 3 rfl rfl) rfl rfl rfl ?_
  refine x_istore (pc' := 7) (dJ1_indexOfChar 4 rfl rfl) (by decide) rfl rfl ?_
  exact X.sub [2, 5, 1, 0] rfl (by simp) hf
theorem bJ1_indexOfChar_7 (G : Gh) (d : Nat) (h : AH) (Q : Outcome → AH → Prop) (i : Nat) (hi : i < slen.length) (l3 : Int32) (l4 : Int32) (l5 : Int32) (hf : (l3 ≤ l5 → (Q (.returned (some (.int ((-1))))) h)) ∧ (¬ (l3 ≤ l5) → (vp_in l5 (slen.getD i 0) ∧ ((((sbyt.getD i []).getD (l5 : Int32).toNatClampNeg 0) = l4 → (Q (.returned (some (.int l5))) h)) ∧ (¬ (((sbyt.getD i []).getD (l5 : Int32).toNatClampNeg 0) = l4) → (∀ x4 : Int32, x4 = l5 + 1 → (X G mJ1_indexOfChar d none [] 7 [(0, .ref (G.2.2.2.2.1 i)), (3, .int (l3)), (4, .int (l4)), (5, .int (x4))] [] h Q))))))) : X G mJ1_indexOfChar d none [] 7 [(0, .ref (G.2.2.2.2.1 i)), (3, .int (l3)), (4, .int (l4)), (5, .int (l5))] [] h Q := by
  refine x_iload (pc' := 9) 3 (dJ1_indexOfChar 5 rfl rfl) rfl rfl ?_
  refine x_iload_n (pc' := 10) 1 (dJ1_indexOfChar 6 rfl rfl) rfl rfl rfl ?_
  refine x_icmp_ge (pc' := 13) (tgt := 31) (dJ1_indexOfChar 7 rfl rfl) (by decide) rfl (fun c1 => ?_) (fun c1 => ?_)
  · replace hf := hf.1 c1
    refine x_iconst (pc' := 32) (v := -1) (dJ1_indexOfChar 17 rfl rfl) (by decide) rfl ?_
    exact x_iret (dJ1_indexOfChar 18 rfl rfl) rfl hf
  · replace hf := hf.2 c1
    refine x_aload_n (pc' := 14) 0 (dJ1_indexOfChar 8 rfl rfl) rfl rfl rfl ?_
    refine x_iload (pc' := 16) 3 (dJ1_indexOfChar 9 rfl rfl) rfl rfl ?_
    obtain ⟨i2, hf⟩ := hf
    refine x_sbald (pc' := 17) (dJ1_indexOfChar 10 rfl rfl) hi i2 rfl ?_
    refine x_iload (pc' := 19) 2 (dJ1_indexOfChar 11 rfl rfl) rfl rfl ?_
    refine x_icmp_ne (pc' := 22) (tgt := 25) (dJ1_indexOfChar 12 rfl rfl) (by decide) rfl (fun c3 => ?_) (fun c3 => ?_)
    · replace hf := hf.2 c3
      replace hf := hf _ rfl
      refine x_iinc (pc' := 28) 3 (dJ1_indexOfChar 15 rfl rfl) rfl (by rfl) (by decide) rfl rfl ?_
      refine x_goto (tgt := 7) (dJ1_indexOfChar 16 rfl rfl) (by decide) ?_
      exact X.sub [1, 2, 3, 0] rfl (by simp) hf
    · replace hf := hf.1 (Classical.not_not.mp c3)
      replace c3 := Classical.not_not.mp c3
      refine x_iload (pc' := 24) 3 (dJ1_indexOfChar 13 rfl rfl) rfl rfl ?_
      exact x_iret (dJ1_indexOfChar 14 rfl rfl) rfl hf
theorem bJ2_checkIndex (G : Gh) (d : Nat) (h : AH) (Q : Outcome → AH → Prop) (p0 : Int32) (p1 : Int32) (p2 : Option Nat) (hf : OC p2 ((p0 < 0 → (False)) ∧ (¬ (p0 < 0) → ((p0 < p1 → (Q (.returned (some (.int p0))) h)) ∧ (¬ (p0 < p1) → (False))))) (fun p2v => (p0 < 0 → (False)) ∧ (¬ (p0 < 0) → ((p0 < p1 → (Q (.returned (some (.int p0))) h)) ∧ (¬ (p0 < p1) → (False)))))) : C G mJ2_checkIndex (d + 1) [.int (p0), .int (p1), va_rf p2] h Q := by
  refine C.of_X (by decide) (by cases p2 <;> exact Nat.le_of_ble_eq_true rfl) wJ2_checkIndex ?_
  show X G mJ2_checkIndex (d + 1) none [] 0 [(0, .int (p0)), (1, .int (p1)), (2, va_rf p2)] [] h Q
  rcases p2 with _ | p2v
  · replace hf := hf.1 rfl
    refine x_iload_n (pc' := 1) 0 (dJ2_checkIndex 0 rfl rfl) rfl rfl rfl ?_
    refine x_if_lt (pc' := 4) (tgt := 9) (dJ2_checkIndex 1 rfl rfl) (by decide) rfl (fun c1 => ?_) (fun c1 => ?_)
    · replace hf := hf.1 c1
      refine x_aload_nN (pc' := 10) 2 (dJ2_checkIndex 5 rfl rfl) rfl rfl rfl ?_
      refine x_iload_n (pc' := 11) 0 (dJ2_checkIndex 6 rfl rfl) rfl rfl rfl ?_
      refine x_iload_n (pc' := 12) 1 (dJ2_checkIndex 7 rfl rfl) rfl rfl rfl ?_
      exact hf.elim
    · replace hf := hf.2 c1
      refine x_iload_n (pc' := 5) 0 (dJ2_checkIndex 2 rfl rfl) rfl rfl rfl ?_
      refine x_iload_n (pc' := 6) 1 (dJ2_checkIndex 3 rfl rfl) rfl rfl rfl ?_
      refine x_icmp_lt (pc' := 9) (tgt := 16) (dJ2_checkIndex 4 rfl rfl) (by decide) rfl (fun c2 => ?_) (fun c2 => ?_)
      · replace hf := hf.1 c2
        refine x_iload_n (pc' := 17) 0 (dJ2_checkIndex 10 rfl rfl) rfl rfl rfl ?_
        exact x_iret (dJ2_checkIndex 11 rfl rfl) rfl hf
      · replace hf := hf.2 c2
        refine x_aload_nN (pc' := 10) 2 (dJ2_checkIndex 5 rfl rfl) rfl rfl rfl ?_
        refine x_iload_n (pc' := 11) 0 (dJ2_checkIndex 6 rfl rfl) rfl rfl rfl ?_
        refine x_iload_n (pc' := 12) 1 (dJ2_checkIndex 7 rfl rfl) rfl rfl rfl ?_
        exact hf.elim
  · replace hf := hf.2 _ rfl
    refine x_iload_n (pc' := 1) 0 (dJ2_checkIndex 0 rfl rfl) rfl rfl rfl ?_
    refine x_if_lt (pc' := 4) (tgt := 9) (dJ2_checkIndex 1 rfl rfl) (by decide) rfl (fun c3 => ?_) (fun c3 => ?_)
    · replace hf := hf.1 c3
      refine x_aload_n (pc' := 10) 2 (dJ2_checkIndex 5 rfl rfl) rfl rfl rfl ?_
      refine x_iload_n (pc' := 11) 0 (dJ2_checkIndex 6 rfl rfl) rfl rfl rfl ?_
      refine x_iload_n (pc' := 12) 1 (dJ2_checkIndex 7 rfl rfl) rfl rfl rfl ?_
      exact hf.elim
    · replace hf := hf.2 c3
      refine x_iload_n (pc' := 5) 0 (dJ2_checkIndex 2 rfl rfl) rfl rfl rfl ?_
      refine x_iload_n (pc' := 6) 1 (dJ2_checkIndex 3 rfl rfl) rfl rfl rfl ?_
      refine x_icmp_lt (pc' := 9) (tgt := 16) (dJ2_checkIndex 4 rfl rfl) (by decide) rfl (fun c4 => ?_) (fun c4 => ?_)
      · replace hf := hf.1 c4
        refine x_iload_n (pc' := 17) 0 (dJ2_checkIndex 10 rfl rfl) rfl rfl rfl ?_
        exact x_iret (dJ2_checkIndex 11 rfl rfl) rfl hf
      · replace hf := hf.2 c4
        refine x_aload_n (pc' := 10) 2 (dJ2_checkIndex 5 rfl rfl) rfl rfl rfl ?_
        refine x_iload_n (pc' := 11) 0 (dJ2_checkIndex 6 rfl rfl) rfl rfl rfl ?_
        refine x_iload_n (pc' := 12) 1 (dJ2_checkIndex 7 rfl rfl) rfl rfl rfl ?_
        exact hf.elim
theorem bJ6_init (G : Gh) (d : Nat) (h : AH) (Q : Outcome → AH → Prop) (a0 : Nat) (hf : C G mJ5_init d [.ref (a0)] h (KV Q (fun h1 => Q (.returned none) h1))) : C G mJ6_init (d + 1) [.ref (a0)] h Q := by
  refine C.of_X (by decide +kernel) (Nat.le_of_ble_eq_true rfl) wJ6_init ?_
  show X G mJ6_init (d + 1) (some a0) [] 0 [(0, .ref (a0))] [] h Q
  refine x_aload_n (pc' := 1) 0 (dJ6_init 0 rfl rfl) rfl rfl rfl ?_
  refine x_inv (pc' := 4) (ν := mJ5_init) (av := [_]) (st := []) rfl rfl (dJ6_init 1 rfl rfl) (Nat.le_of_ble_eq_true rfl) wJ5_init q231 (inv_I (dJ6_init 1 rfl rfl) q1096 q1097 q1098 rfl (by decide) lJ5_init) (fun b hb => by exact Or.inr (by rw [← hb]; rfl)) rfl ?_
  refine C.mono hf (fun _ _ => KV.g (fun h1 hf le2 => ?_))
  exact x_vret (dJ6_init 2 rfl rfl) rfl hf
theorem bJ7_init (G : Gh) (d : Nat) (h : AH) (Q : Outcome → AH → Prop) (a0 : Nat) (hf : C G mJ6_init d [.ref (a0)] h (KV Q (fun h1 => Q (.returned none) h1))) : C G mJ7_init (d + 1) [.ref (a0)] h Q := by
  refine C.of_X (by decide +kernel) (Nat.le_of_ble_eq_true rfl) wJ7_init ?_
  show X G mJ7_init (d + 1) (some a0) [] 0 [(0, .ref (a0))] [] h Q
  refine x_aload_n (pc' := 1) 0 (dJ7_init 0 rfl rfl) rfl rfl rfl ?_
  refine x_inv (pc' := 4) (ν := mJ6_init) (av := [_]) (st := []) rfl rfl (dJ7_init 1 rfl rfl) (Nat.le_of_ble_eq_true rfl) wJ6_init q232 (inv_I (dJ7_init 1 rfl rfl) q1093 q1094 q1095 rfl (by decide) lJ6_init) (fun b hb => by exact Or.inr (by rw [← hb]; rfl)) rfl ?_
  refine C.mono hf (fun _ _ => KV.g (fun h1 hf le2 => ?_))
  exact x_vret (dJ7_init 2 rfl rfl) rfl hf
theorem bJ8_init (G : Gh) (d : Nat) (h : AH) (Q : Outcome → AH → Prop) (a0 : Nat) (hf : C G mJ6_init d [.ref (a0)] h (KV Q (fun h1 => Q (.returned none) h1))) : C G mJ8_init (d + 1) [.ref (a0)] h Q := by
  refine C.of_X (by decide +kernel) (Nat.le_of_ble_eq_true rfl) wJ8_init ?_
  show X G mJ8_init (d + 1) (some a0) [] 0 [(0, .ref (a0))] [] h Q
  refine x_aload_n (pc' := 1) 0 (dJ8_init 0 rfl rfl) rfl rfl rfl ?_
  refine x_inv (pc' := 4) (ν := mJ6_init) (av := [_]) (st := []) rfl rfl (dJ8_init 1 rfl rfl) (Nat.le_of_ble_eq_true rfl) wJ6_init q232 (inv_I (dJ8_init 1 rfl rfl) q1139 q1094 q1095 rfl (by decide) lJ6_init) (fun b hb => by exact Or.inr (by rw [← hb]; rfl)) rfl ?_
  refine C.mono hf (fun _ _ => KV.g (fun h1 hf le2 => ?_))
  exact x_vret (dJ8_init 2 rfl rfl) rfl hf
theorem bJ11_init (G : Gh) (d : Nat) (h : AH) (Q : Outcome → AH → Prop) (a0 : Nat) (hf : C G mJ6_init d [.ref (a0)] h (KV Q (fun h1 => Q (.returned none) h1))) : C G mJ11_init (d + 1) [.ref (a0)] h Q := by
  refine C.of_X (by decide +kernel) (Nat.le_of_ble_eq_true rfl) wJ11_init ?_
  show X G mJ11_init (d + 1) (some a0) [] 0 [(0, .ref (a0))] [] h Q
  refine x_aload_n (pc' := 1) 0 (dJ11_init 0 rfl rfl) rfl rfl rfl ?_
  refine x_inv (pc' := 4) (ν := mJ6_init) (av := [_]) (st := []) rfl rfl (dJ11_init 1 rfl rfl) (Nat.le_of_ble_eq_true rfl) wJ6_init q232 (inv_I (dJ11_init 1 rfl rfl) q2865 q1094 q1095 rfl (by decide) lJ6_init) (fun b hb => by exact Or.inr (by rw [← hb]; rfl)) rfl ?_
  refine C.mono hf (fun _ _ => KV.g (fun h1 hf le2 => ?_))
  exact x_vret (dJ11_init 2 rfl rfl) rfl hf
theorem bJ12_init (G : Gh) (d : Nat) (h : AH) (Q : Outcome → AH → Prop) (a0 : Nat) (hf : C G mJ6_init d [.ref (a0)] h (KV Q (fun h1 => Q (.returned none) h1))) : C G mJ12_init (d + 1) [.ref (a0)] h Q := by
  refine C.of_X (by decide +kernel) (Nat.le_of_ble_eq_true rfl) wJ12_init ?_
  show X G mJ12_init (d + 1) (some a0) [] 0 [(0, .ref (a0))] [] h Q
  refine x_aload_n (pc' := 1) 0 (dJ12_init 0 rfl rfl) rfl rfl rfl ?_
  refine x_inv (pc' := 4) (ν := mJ6_init) (av := [_]) (st := []) rfl rfl (dJ12_init 1 rfl rfl) (Nat.le_of_ble_eq_true rfl) wJ6_init q232 (inv_I (dJ12_init 1 rfl rfl) q3328 q1094 q1095 rfl (by decide) lJ6_init) (fun b hb => by exact Or.inr (by rw [← hb]; rfl)) rfl ?_
  refine C.mono hf (fun _ _ => KV.g (fun h1 hf le2 => ?_))
  exact x_vret (dJ12_init 2 rfl rfl) rfl hf
theorem bJ9_min (G : Gh) (d : Nat) (h : AH) (Q : Outcome → AH → Prop) (p0 : Int64) (p2 : Int64) (hf : (0 < (lg_cmp p0 p2) → (Q (.returned (some (.long p2))) h)) ∧ (¬ (0 < (lg_cmp p0 p2)) → (Q (.returned (some (.long p0))) h))) : C G mJ9_min d [.long (p0), .long (p2)] h Q := by
  refine C.of_X (by decide +kernel) (Nat.le_of_ble_eq_true rfl) wJ9_min ?_
  show X G mJ9_min d none [] 0 [(0, .long (p0)), (2, .long (p2))] [] h Q
  refine x_lload_n (pc' := 1) 0 (dJ9_min 0 rfl rfl) rfl rfl rfl ?_
  refine x_lload_n (pc' := 2) 1 (dJ9_min 1 rfl rfl) rfl rfl rfl ?_
  refine x_lcmp (pc' := 3) (dJ9_min 2 rfl rfl) rfl ?_
  refine x_if_gt (pc' := 6) (tgt := 10) (dJ9_min 3 rfl rfl) (by decide) rfl (fun c1 => ?_) (fun c1 => ?_)
  · replace hf := hf.1 c1
    refine x_lload_n (pc' := 11) 1 (dJ9_min 6 rfl rfl) rfl rfl rfl ?_
    exact x_lret (dJ9_min 7 rfl rfl) rfl hf
  · replace hf := hf.2 c1
    refine x_lload_n (pc' := 7) 0 (dJ9_min 4 rfl rfl) rfl rfl rfl ?_
    refine x_goto (tgt := 11) (dJ9_min 5 rfl rfl) (by decide) ?_
    exact x_lret (dJ9_min 7 rfl rfl) rfl hf
theorem bJ9_max (G : Gh) (d : Nat) (h : AH) (Q : Outcome → AH → Prop) (p0 : Int32) (p1 : Int32) (hf : (p0 < p1 → (Q (.returned (some (.int p1))) h)) ∧ (¬ (p0 < p1) → (Q (.returned (some (.int p0))) h))) : C G mJ9_max d [.int (p0), .int (p1)] h Q := by
  refine C.of_X (by decide +kernel) (Nat.le_of_ble_eq_true rfl) wJ9_max ?_
  show X G mJ9_max d none [] 0 [(0, .int (p0)), (1, .int (p1))] [] h Q
  refine x_iload_n (pc' := 1) 0 (dJ9_max 0 rfl rfl) rfl rfl rfl ?_
  refine x_iload_n (pc' := 2) 1 (dJ9_max 1 rfl rfl) rfl rfl rfl ?_
  refine x_icmp_lt (pc' := 5) (tgt := 9) (dJ9_max 2 rfl rfl) (by decide) rfl (fun c1 => ?_) (fun c1 => ?_)
  · replace hf := hf.1 c1
    refine x_iload_n (pc' := 10) 1 (dJ9_max 5 rfl rfl) rfl rfl rfl ?_
    exact x_iret (dJ9_max 6 rfl rfl) rfl hf
  · replace hf := hf.2 c1
    refine x_iload_n (pc' := 6) 0 (dJ9_max 3 rfl rfl) rfl rfl rfl ?_
    refine x_goto (tgt := 10) (dJ9_max 4 rfl rfl) (by decide) ?_
    exact x_iret (dJ9_max 6 rfl rfl) rfl hf
theorem bJ9_min_2 (G : Gh) (d : Nat) (h : AH) (Q : Outcome → AH → Prop) (p0 : Int32) (p1 : Int32) (hf : (p1 < p0 → (Q (.returned (some (.int p1))) h)) ∧ (¬ (p1 < p0) → (Q (.returned (some (.int p0))) h))) : C G mJ9_min_2 d [.int (p0), .int (p1)] h Q := by
  refine C.of_X (by decide +kernel) (Nat.le_of_ble_eq_true rfl) wJ9_min_2 ?_
  show X G mJ9_min_2 d none [] 0 [(0, .int (p0)), (1, .int (p1))] [] h Q
  refine x_iload_n (pc' := 1) 0 (dJ9_min_2 0 rfl rfl) rfl rfl rfl ?_
  refine x_iload_n (pc' := 2) 1 (dJ9_min_2 1 rfl rfl) rfl rfl rfl ?_
  refine x_icmp_gt (pc' := 5) (tgt := 9) (dJ9_min_2 2 rfl rfl) (by decide) rfl (fun c1 => ?_) (fun c1 => ?_)
  · replace hf := hf.1 c1
    refine x_iload_n (pc' := 10) 1 (dJ9_min_2 5 rfl rfl) rfl rfl rfl ?_
    exact x_iret (dJ9_min_2 6 rfl rfl) rfl hf
  · replace hf := hf.2 c1
    refine x_iload_n (pc' := 6) 0 (dJ9_min_2 3 rfl rfl) rfl rfl rfl ?_
    refine x_goto (tgt := 10) (dJ9_min_2 4 rfl rfl) (by decide) ?_
    exact x_iret (dJ9_min_2 6 rfl rfl) rfl hf
theorem bJ9_floorDiv (G : Gh) (d : Nat) (h : AH) (Q : Outcome → AH → Prop) (p0 : Int32) (p1 : Int32) (hf : (¬ p1 = 0) ∧ (∀ x1 : Int32, x1 = p0 / p1 → ((0 ≤ (p0 ^^^ p1) → (Q (.returned (some (.int x1))) h)) ∧ (¬ (0 ≤ (p0 ^^^ p1)) → (((x1 * p1) = p0 → (Q (.returned (some (.int x1))) h)) ∧ (¬ ((x1 * p1) = p0) → (Q (.returned (some (.int (x1 - 1)))) h))))))) : C G mJ9_floorDiv d [.int (p0), .int (p1)] h Q := by
  refine C.of_X (by decide +kernel) (Nat.le_of_ble_eq_true rfl) wJ9_floorDiv ?_
  show X G mJ9_floorDiv d none [] 0 [(0, .int (p0)), (1, .int (p1))] [] h Q
  refine x_iload_n (pc' := 1) 0 (dJ9_floorDiv 0 rfl rfl) rfl rfl rfl ?_
  refine x_iload_n (pc' := 2) 1 (dJ9_floorDiv 1 rfl rfl) rfl rfl rfl ?_
  obtain ⟨z4, hf⟩ := hf
  refine x_idiv (pc' := 3) (dJ9_floorDiv 2 rfl rfl) z4 rfl ?_
  replace hf := hf _ rfl
  refine x_istore_n (pc' := 4) (dJ9_floorDiv 3 rfl rfl) rfl (by decide) rfl rfl ?_
  refine x_iload_n (pc' := 5) 1 (dJ9_floorDiv 4 rfl rfl) rfl rfl rfl ?_
  refine x_iload_n (pc' := 6) 2 (dJ9_floorDiv 5 rfl rfl) rfl rfl rfl ?_
  refine x_ixor (pc' := 7) (dJ9_floorDiv 6 rfl rfl) rfl ?_
  refine x_if_ge (pc' := 10) (tgt := 21) (dJ9_floorDiv 7 rfl rfl) (by decide) rfl (fun c2 => ?_) (fun c2 => ?_)
  · replace hf := hf.1 c2
    refine x_iload_n (pc' := 22) 0 (dJ9_floorDiv 17 rfl rfl) rfl rfl rfl ?_
    exact x_iret (dJ9_floorDiv 18 rfl rfl) rfl hf
  · replace hf := hf.2 c2
    refine x_iload_n (pc' := 11) 0 (dJ9_floorDiv 8 rfl rfl) rfl rfl rfl ?_
    refine x_iload_n (pc' := 12) 2 (dJ9_floorDiv 9 rfl rfl) rfl rfl rfl ?_
    refine x_imul (pc' := 13) (dJ9_floorDiv 10 rfl rfl) rfl ?_
    refine x_iload_n (pc' := 14) 1 (dJ9_floorDiv 11 rfl rfl) rfl rfl rfl ?_
    refine x_icmp_eq (pc' := 17) (tgt := 21) (dJ9_floorDiv 12 rfl rfl) (by decide) rfl (fun c3 => ?_) (fun c3 => ?_)
    · replace hf := hf.1 c3
      refine x_iload_n (pc' := 22) 0 (dJ9_floorDiv 17 rfl rfl) rfl rfl rfl ?_
      exact x_iret (dJ9_floorDiv 18 rfl rfl) rfl hf
    · replace hf := hf.2 c3
      refine x_iload_n (pc' := 18) 0 (dJ9_floorDiv 13 rfl rfl) rfl rfl rfl ?_
      refine x_iconst (pc' := 19) (v := 1) (dJ9_floorDiv 14 rfl rfl) (by decide) rfl ?_
      refine x_isub (pc' := 20) (dJ9_floorDiv 15 rfl rfl) rfl ?_
      exact x_iret (dJ9_floorDiv 16 rfl rfl) rfl hf
theorem bJ9_floorMod (G : Gh) (d : Nat) (h : AH) (Q : Outcome → AH → Prop) (p0 : Int32) (p1 : Int32) (hf : (¬ p1 = 0) ∧ (∀ x1 : Int32, x1 = p0 - p0 / p1 * p1 → ((0 ≤ (p0 ^^^ p1) → (Q (.returned (some (.int x1))) h)) ∧ (¬ (0 ≤ (p0 ^^^ p1)) → ((x1 = 0 → (Q (.returned (some (.int x1))) h)) ∧ (¬ x1 = 0 → (Q (.returned (some (.int (x1 + p1)))) h))))))) : C G mJ9_floorMod d [.int (p0), .int (p1)] h Q := by
  refine C.of_X (by decide +kernel) (Nat.le_of_ble_eq_true rfl) wJ9_floorMod ?_
  show X G mJ9_floorMod d none [] 0 [(0, .int (p0)), (1, .int (p1))] [] h Q
  refine x_iload_n (pc' := 1) 0 (dJ9_floorMod 0 rfl rfl) rfl rfl rfl ?_
  refine x_iload_n (pc' := 2) 1 (dJ9_floorMod 1 rfl rfl) rfl rfl rfl ?_
  obtain ⟨z4, hf⟩ := hf
  refine x_irem (pc' := 3) (dJ9_floorMod 2 rfl rfl) z4 rfl ?_
  replace hf := hf _ rfl
  refine x_istore_n (pc' := 4) (dJ9_floorMod 3 rfl rfl) rfl (by decide) rfl rfl ?_
  refine x_iload_n (pc' := 5) 1 (dJ9_floorMod 4 rfl rfl) rfl rfl rfl ?_
  refine x_iload_n (pc' := 6) 2 (dJ9_floorMod 5 rfl rfl) rfl rfl rfl ?_
  refine x_ixor (pc' := 7) (dJ9_floorMod 6 rfl rfl) rfl ?_
  refine x_if_ge (pc' := 10) (tgt := 18) (dJ9_floorMod 7 rfl rfl) (by decide) rfl (fun c2 => ?_) (fun c2 => ?_)
  · replace hf := hf.1 c2
    refine x_iload_n (pc' := 19) 0 (dJ9_floorMod 14 rfl rfl) rfl rfl rfl ?_
    exact x_iret (dJ9_floorMod 15 rfl rfl) rfl hf
  · replace hf := hf.2 c2
    refine x_iload_n (pc' := 11) 0 (dJ9_floorMod 8 rfl rfl) rfl rfl rfl ?_
    refine x_if_eq (pc' := 14) (tgt := 18) (dJ9_floorMod 9 rfl rfl) (by decide) rfl (fun c3 => ?_) (fun c3 => ?_)
    · replace hf := hf.1 c3
      refine x_iload_n (pc' := 19) 0 (dJ9_floorMod 14 rfl rfl) rfl rfl rfl ?_
      exact x_iret (dJ9_floorMod 15 rfl rfl) rfl hf
    · replace hf := hf.2 c3
      refine x_iload_n (pc' := 15) 0 (dJ9_floorMod 10 rfl rfl) rfl rfl rfl ?_
      refine x_iload_n (pc' := 16) 2 (dJ9_floorMod 11 rfl rfl) rfl rfl rfl ?_
      refine x_iadd (pc' := 17) (dJ9_floorMod 12 rfl rfl) rfl ?_
      exact x_iret (dJ9_floorMod 13 rfl rfl) rfl hf
theorem bJ9_abs (G : Gh) (d : Nat) (h : AH) (Q : Outcome → AH → Prop) (p0 : Int64) (hf : (0 ≤ (lg_cmp p0 0) → (Q (.returned (some (.long p0))) h)) ∧ (¬ (0 ≤ (lg_cmp p0 0)) → (Q (.returned (some (.long (-p0)))) h))) : C G mJ9_abs d [.long (p0)] h Q := by
  refine C.of_X (by decide +kernel) (Nat.le_of_ble_eq_true rfl) wJ9_abs ?_
  show X G mJ9_abs d none [] 0 [(0, .long (p0))] [] h Q
  refine x_lload_n (pc' := 1) 0 (dJ9_abs 0 rfl rfl) rfl rfl rfl ?_
  refine x_lconst (pc' := 2) (v := 0) (dJ9_abs 1 rfl rfl) (by decide) rfl ?_
  refine x_lcmp (pc' := 3) (dJ9_abs 2 rfl rfl) rfl ?_
  refine x_if_ge (pc' := 6) (tgt := 11) (dJ9_abs 3 rfl rfl) (by decide) rfl (fun c1 => ?_) (fun c1 => ?_)
  · replace hf := hf.1 c1
    refine x_lload_n (pc' := 12) 0 (dJ9_abs 7 rfl rfl) rfl rfl rfl ?_
    exact x_lret (dJ9_abs 8 rfl rfl) rfl hf
  · replace hf := hf.2 c1
    refine x_lload_n (pc' := 7) 0 (dJ9_abs 4 rfl rfl) rfl rfl rfl ?_
    refine x_lneg (pc' := 8) (dJ9_abs 5 rfl rfl) rfl ?_
    refine x_goto (tgt := 12) (dJ9_abs 6 rfl rfl) (by decide) ?_
    exact x_lret (dJ9_abs 8 rfl rfl) rfl hf
