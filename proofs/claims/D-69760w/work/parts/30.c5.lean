set_option maxRecDepth 100000
theorem bX38_init (G : Gh) (d : Nat) (h : AH) (Q : Outcome → AH → Prop) (a0 : Nat) (p1 : Int32) (p2 : Int32) (hf : C G mX16_init d [.ref (a0), .int (p1)] h (KV Q (fun h1 => hK h1 a0 = 36 ∧ (∀ h4, h4 = pI h1 a0 331 p2 → (Q (.returned none) h4))))) : C G mX38_init (d + 1) [.ref (a0), .int (p1), .int (p2)] h Q := by
  refine C.of_X (by decide +kernel) (Nat.le_of_ble_eq_true rfl) wX38_init ?_
  show X G mX38_init (d + 1) (some a0) [] 0 [(0, .ref (a0)), (1, .int (p1)), (2, .int (p2))] [] h Q
  refine x_aload_n (pc' := 1) 0 (dX38_init 0 rfl rfl) rfl rfl rfl ?_
  refine x_iload_n (pc' := 2) 1 (dX38_init 1 rfl rfl) rfl rfl rfl ?_
  refine x_inv (pc' := 5) (ν := mX16_init) (av := [_, _]) (st := []) rfl rfl (dX38_init 2 rfl rfl) (Nat.le_of_ble_eq_true rfl) wX16_init q237 (inv_I (dX38_init 2 rfl rfl) q1648 q1521 q1522 rfl (by decide) lX16_init) (fun b hb => by exact Or.inr (by rw [← hb]; rfl)) rfl ?_
  refine C.mono hf (fun _ _ => KV.g (fun h1 hf le2 => ?_))
  refine x_aload_n (pc' := 6) 0 (dX38_init 3 rfl rfl) rfl rfl rfl ?_
  refine x_iload_n (pc' := 7) 2 (dX38_init 4 rfl rfl) rfl rfl rfl ?_
  obtain ⟨k3, hf⟩ := hf
  refine x_putI (pc' := 10) (dX38_init 5 rfl rfl) g331 q1649 (Or.inl rfl) (Or.inr ⟨rfl, rfl, rfl, rfl⟩) (Or.inr rfl) rfl (hf_of 35 k3 rfl (by decide) m35_331) (fun h4 e5 => ?_)
  replace hf := hf h4 e5
  replace k3 : hK h4 a0 = 36 := by rw [e5]; exact k3
  exact x_vret (dX38_init 6 rfl rfl) rfl hf
theorem bX38_resolve (G : Gh) (d : Nat) (h : AH) (Q : Outcome → AH → Prop) (a0 : Nat) (hf : Q (.returned none) h) : C G mX38_resolve d [.ref (a0), .ref (gW G 4)] h Q := by
  refine C.of_X (by decide +kernel) (Nat.le_of_ble_eq_true rfl) wX38_resolve ?_
  show X G mX38_resolve d none [] 0 [(0, .ref (a0)), (1, .ref (gW G 4))] [] h Q
  exact x_vret (dX38_resolve 0 rfl rfl) rfl hf
theorem bX38_infer (G : Gh) (d : Nat) (h : AH) (Q : Outcome → AH → Prop) (a0 : Nat) (s2 : So 2 (gW G) h) (s6 : So 6 (gW G) h) (hf : hK h a0 = 36 ∧ (((fI h a0 331) = 3 → (C G mX3_fun d [.ref (gW G 2), .int (fI h (gW G 2) 42), .int (fI h (gW G 2) 42)] h (KI Q (fun x14 h12 => Q (.returned (some (.int x14))) h12)))) ∧ (¬ ((fI h a0 331) = 3) → (C G mX3_variable d [.ref (gW G 2)] h (KI Q (fun x5 h3 => C G mX3_built_3 d [.ref (gW G 2), .int (11), .int (x5)] h3 (KI Q (fun x8 h6 => C G mX3_fun d [.ref (gW G 2), .int (x8), .int (x5)] h6 (KI Q (fun x11 h9 => Q (.returned (some (.int x11))) h9)))))))))) : C G mX38_infer (d + 1) [.ref (a0), .ref (gW G 6)] h Q := by
  refine C.of_X (by decide +kernel) (Nat.le_of_ble_eq_true rfl) wX38_infer ?_
  show X G mX38_infer (d + 1) none [] 0 [(0, .ref (a0)), (1, .ref (gW G 6))] [] h Q
  refine x_aload_n (pc' := 1) 0 (dX38_infer 0 rfl rfl) rfl rfl rfl ?_
  obtain ⟨k1, hf⟩ := hf
  refine x_getI (pc' := 4) (dX38_infer 1 rfl rfl) g331 q1649 (Or.inl rfl) rfl (hf_of 35 k1 rfl (by decide) m35_331) ?_
  refine x_iconst (pc' := 5) (v := 3) (dX38_infer 2 rfl rfl) (by decide) rfl ?_
  refine x_icmp_ne (pc' := 8) (tgt := 30) (dX38_infer 3 rfl rfl) (by decide) rfl (fun c2 => ?_) (fun c2 => ?_)
  · replace hf := hf.2 c2
    refine x_aload_n (pc' := 31) 1 (dX38_infer 14 rfl rfl) rfl rfl rfl ?_
    refine x_getR (pc' := 34) (dX38_infer 15 rfl rfl) g108 q807 (Or.inl rfl) rfl (hf_of 9 s6.1 rfl (by decide) m9_108) (s6.2 0 _ rfl rfl).1 ?_
    refine x_inv (pc' := 37) (ν := mX3_variable) (av := [_]) (st := []) rfl rfl (dX38_infer 16 rfl rfl) (Nat.le_of_ble_eq_true rfl) wX3_variable q213 (inv_V (k := 2) (dX38_infer 16 rfl rfl) q2520 q2341 q2342 wX3_variable (by decide) lX3_variable (by decide) s2.1) (exN (by decide)) rfl ?_
    refine C.mono hf (fun _ _ => KI.g (fun x5 h3 hf le4 => ?_))
    have k1 := leK le4 k1 (by decide)
    replace s2 := s2.le sc2 (le4)
    replace s6 := s6.le sc6 (le4)
    refine x_istore_n (pc' := 38) (dX38_infer 17 rfl rfl) rfl (by decide) rfl rfl ?_
    refine x_aload_n (pc' := 39) 2 (dX38_infer 18 rfl rfl) rfl rfl rfl ?_
    refine x_getR (pc' := 42) (dX38_infer 19 rfl rfl) g108 q807 (Or.inl rfl) rfl (hf_of 9 s6.1 rfl (by decide) m9_108) (s6.2 0 _ rfl rfl).1 ?_
    refine x_aload_n (pc' := 43) 2 (dX38_infer 20 rfl rfl) rfl rfl rfl ?_
    refine x_getR (pc' := 46) (dX38_infer 21 rfl rfl) g108 q807 (Or.inl rfl) rfl (hf_of 9 s6.1 rfl (by decide) m9_108) (s6.2 0 _ rfl rfl).1 ?_
    refine x_bipush (pc' := 48) (v := 11) (dX38_infer 22 rfl rfl) (by decide) rfl ?_
    refine x_iload_n (pc' := 49) 0 (dX38_infer 23 rfl rfl) rfl rfl rfl ?_
    refine x_inv (pc' := 52) (ν := mX3_built_3) (av := [_, _, _]) (st := [_]) rfl rfl (dX38_infer 24 rfl rfl) (Nat.le_of_ble_eq_true rfl) wX3_built_3 q213 (inv_V (k := 2) (dX38_infer 24 rfl rfl) q2521 q2378 q2379 wX3_built_3 (by decide) lX3_built_3 (by decide) s2.1) (exN (by decide)) rfl ?_
    refine C.mono hf (fun _ _ => KI.g (fun x8 h6 hf le7 => ?_))
    have k1 := leK le7 k1 (by decide)
    replace s2 := s2.le sc2 (le7)
    replace s6 := s6.le sc6 (le7)
    refine x_iload_n (pc' := 53) 0 (dX38_infer 25 rfl rfl) rfl rfl rfl ?_
    refine x_inv (pc' := 56) (ν := mX3_fun) (av := [_, _, _]) (st := []) rfl rfl (dX38_infer 26 rfl rfl) (Nat.le_of_ble_eq_true rfl) wX3_fun q213 (inv_V (k := 2) (dX38_infer 26 rfl rfl) q2519 q2374 q2375 wX3_fun (by decide) lX3_fun (by decide) s2.1) (exN (by decide)) rfl ?_
    refine C.mono hf (fun _ _ => KI.g (fun x11 h9 hf le10 => ?_))
    have k1 := leK le10 k1 (by decide)
    replace s2 := s2.le sc2 (le10)
    replace s6 := s6.le sc6 (le10)
    exact x_iret (dX38_infer 27 rfl rfl) rfl hf
  · replace hf := hf.1 (Classical.not_not.mp c2)
    replace c2 := Classical.not_not.mp c2
    refine x_aload_n (pc' := 9) 1 (dX38_infer 4 rfl rfl) rfl rfl rfl ?_
    refine x_getR (pc' := 12) (dX38_infer 5 rfl rfl) g108 q807 (Or.inl rfl) rfl (hf_of 9 s6.1 rfl (by decide) m9_108) (s6.2 0 _ rfl rfl).1 ?_
    refine x_aload_n (pc' := 13) 1 (dX38_infer 6 rfl rfl) rfl rfl rfl ?_
    refine x_getR (pc' := 16) (dX38_infer 7 rfl rfl) g108 q807 (Or.inl rfl) rfl (hf_of 9 s6.1 rfl (by decide) m9_108) (s6.2 0 _ rfl rfl).1 ?_
    refine x_getI (pc' := 19) (dX38_infer 8 rfl rfl) g42 q494 (Or.inl rfl) rfl (hf_of 2 s2.1 rfl (by decide) m2_42) ?_
    refine x_aload_n (pc' := 20) 1 (dX38_infer 9 rfl rfl) rfl rfl rfl ?_
    refine x_getR (pc' := 23) (dX38_infer 10 rfl rfl) g108 q807 (Or.inl rfl) rfl (hf_of 9 s6.1 rfl (by decide) m9_108) (s6.2 0 _ rfl rfl).1 ?_
    refine x_getI (pc' := 26) (dX38_infer 11 rfl rfl) g42 q494 (Or.inl rfl) rfl (hf_of 2 s2.1 rfl (by decide) m2_42) ?_
    refine x_inv (pc' := 29) (ν := mX3_fun) (av := [_, _, _]) (st := []) rfl rfl (dX38_infer 12 rfl rfl) (Nat.le_of_ble_eq_true rfl) wX3_fun q213 (inv_V (k := 2) (dX38_infer 12 rfl rfl) q2519 q2374 q2375 wX3_fun (by decide) lX3_fun (by decide) s2.1) (exN (by decide)) rfl ?_
    refine C.mono hf (fun _ _ => KI.g (fun x14 h12 hf le13 => ?_))
    have k1 := leK le13 k1 (by decide)
    replace s2 := s2.le sc2 (le13)
    replace s6 := s6.le sc6 (le13)
    exact x_iret (dX38_infer 13 rfl rfl) rfl hf
theorem bX38_isStill (G : Gh) (d : Nat) (h : AH) (Q : Outcome → AH → Prop) (a0 : Nat) (hf : Q (.returned (some (.int 1))) h) : C G mX38_isStill d [.ref (a0)] h Q := by
  refine C.of_X (by decide +kernel) (Nat.le_of_ble_eq_true rfl) wX38_isStill ?_
  show X G mX38_isStill d none [] 0 [(0, .ref (a0))] [] h Q
  refine x_iconst (pc' := 1) (v := 1) (dX38_isStill 0 rfl rfl) (by decide) rfl ?_
  exact x_zret (ty := .boolean) (dX38_isStill 1 rfl rfl) rfl (by decide) hf
theorem bX38_begin (G : Gh) (d : Nat) (h : AH) (Q : Outcome → AH → Prop) (a0 : Nat) (p2 : Int32) (s3 : So 3 (gW G) h) (hf : C G mX6_pay d [.ref (gW G 3), .int (1)] h (KI Q (fun x3 h1 => (x3 = 0 → (Q (.returned none) h1)) ∧ (¬ x3 = 0 → (hK h1 a0 = 36 ∧ (C G mX6_builtIn d [.ref (gW G 3), .int (fI h1 a0 331)] h1 (KI Q (fun x8 h6 => C G mX6_give d [.ref (gW G 3), .int (x8)] h6 (KV Q (fun h9 => Q (.returned none) h9)))))))))) : C G mX38_begin (d + 1) [.ref (a0), .ref (gW G 3), .int (p2)] h Q := by
  refine C.of_X (by decide +kernel) (Nat.le_of_ble_eq_true rfl) wX38_begin ?_
  show X G mX38_begin (d + 1) none [] 0 [(0, .ref (a0)), (1, .ref (gW G 3)), (2, .int (p2))] [] h Q
  refine x_aload_n (pc' := 1) 1 (dX38_begin 0 rfl rfl) rfl rfl rfl ?_
  refine x_iconst (pc' := 2) (v := 1) (dX38_begin 1 rfl rfl) (by decide) rfl ?_
  refine x_inv (pc' := 5) (ν := mX6_pay) (av := [_, _]) (st := []) rfl rfl (dX38_begin 2 rfl rfl) (Nat.le_of_ble_eq_true rfl) wX6_pay q220 (inv_V (k := 4) (dX38_begin 2 rfl rfl) q2910 q2891 q2892 wX6_pay (by decide) lX6_pay (by decide) s3.1) (exN (by decide)) rfl ?_
  refine C.mono hf (fun _ _ => KI.g (fun x3 h1 hf le2 => ?_))
  replace s3 := s3.le sc3 (le2)
  refine x_if_eq (pc' := 8) (tgt := 20) (dX38_begin 3 rfl rfl) (by decide) rfl (fun c4 => ?_) (fun c4 => ?_)
  · replace hf := hf.1 c4
    exact x_vret (dX38_begin 10 rfl rfl) rfl hf
  · replace hf := hf.2 c4
    refine x_aload_n (pc' := 9) 1 (dX38_begin 4 rfl rfl) rfl rfl rfl ?_
    refine x_aload_n (pc' := 10) 1 (dX38_begin 5 rfl rfl) rfl rfl rfl ?_
    refine x_aload_n (pc' := 11) 0 (dX38_begin 6 rfl rfl) rfl rfl rfl ?_
    obtain ⟨k5, hf⟩ := hf
    refine x_getI (pc' := 14) (dX38_begin 7 rfl rfl) g331 q1649 (Or.inl rfl) rfl (hf_of 35 k5 rfl (by decide) m35_331) ?_
    refine x_inv (pc' := 17) (ν := mX6_builtIn) (av := [_, _]) (st := [_]) rfl rfl (dX38_begin 8 rfl rfl) (Nat.le_of_ble_eq_true rfl) wX6_builtIn q220 (inv_V (k := 4) (dX38_begin 8 rfl rfl) q2911 q904 q905 wX6_builtIn (by decide) lX6_builtIn (by decide) s3.1) (exN (by decide)) rfl ?_
    refine C.mono hf (fun _ _ => KI.g (fun x8 h6 hf le7 => ?_))
    have k5 := leK le7 k5 (by decide)
    replace s3 := s3.le sc3 (le7)
    refine x_inv (pc' := 20) (ν := mX6_give) (av := [_, _]) (st := []) rfl rfl (dX38_begin 9 rfl rfl) (Nat.le_of_ble_eq_true rfl) wX6_give q220 (inv_V (k := 4) (dX38_begin 9 rfl rfl) q2912 q2913 q2914 wX6_give (by decide) lX6_give (by decide) s3.1) (exN (by decide)) rfl ?_
    refine C.mono hf (fun _ _ => KV.g (fun h9 hf le10 => ?_))
    have k5 := leK le10 k5 (by decide)
    replace s3 := s3.le sc3 (le10)
    exact x_vret (dX38_begin 10 rfl rfl) rfl hf
theorem bX39_init (G : Gh) (d : Nat) (h : AH) (Q : Outcome → AH → Prop) (a0 : Nat) (p1 : Int32) (p2 : Nat) (hf : C G mX16_init d [.ref (a0), .int (p1)] h (KV Q (fun h1 => hK h1 a0 = 37 ∧ (∀ h4, h4 = pR h1 a0 332 (some p2) → (Q (.returned none) h4))))) : C G mX39_init (d + 1) [.ref (a0), .int (p1), .ref (p2)] h Q := by
  refine C.of_X (by decide +kernel) (Nat.le_of_ble_eq_true rfl) wX39_init ?_
  show X G mX39_init (d + 1) (some a0) [] 0 [(0, .ref (a0)), (1, .int (p1)), (2, .ref (p2))] [] h Q
  refine x_aload_n (pc' := 1) 0 (dX39_init 0 rfl rfl) rfl rfl rfl ?_
  refine x_iload_n (pc' := 2) 1 (dX39_init 1 rfl rfl) rfl rfl rfl ?_
  refine x_inv (pc' := 5) (ν := mX16_init) (av := [_, _]) (st := []) rfl rfl (dX39_init 2 rfl rfl) (Nat.le_of_ble_eq_true rfl) wX16_init q237 (inv_I (dX39_init 2 rfl rfl) q1669 q1521 q1522 rfl (by decide) lX16_init) (fun b hb => by exact Or.inr (by rw [← hb]; rfl)) rfl ?_
  refine C.mono hf (fun _ _ => KV.g (fun h1 hf le2 => ?_))
  refine x_aload_n (pc' := 6) 0 (dX39_init 3 rfl rfl) rfl rfl rfl ?_
  refine x_aload_n (pc' := 7) 2 (dX39_init 4 rfl rfl) rfl rfl rfl ?_
  obtain ⟨k3, hf⟩ := hf
  refine x_putR (pc' := 10) (dX39_init 5 rfl rfl) g332 q1670 (Or.inl rfl) (Or.inr ⟨rfl, rfl, rfl, rfl⟩) (Or.inr rfl) rfl (hf_of 36 k3 rfl (by decide) m36_332) (fun h4 e5 => ?_)
  replace hf := hf h4 e5
  replace k3 : hK h4 a0 = 37 := by rw [e5]; exact k3
  exact x_vret (dX39_init 6 rfl rfl) rfl hf
theorem bX39_resolve (G : Gh) (d : Nat) (h : AH) (Q : Outcome → AH → Prop) (a0 : Nat) (hf : hK h a0 = 37 ∧ (∃ b2, fR h a0 332 = some b2 ∧ (∃ (k : Nat) (ν : Mu), VT ⟨"LetMill$Exp", "resolve", "(LLetMill$Scope;)V"⟩ VMExp_resolve k ν ∧ hK h b2 = k + 1 ∧ C G ν d [.ref (b2), .ref (gW G 4)] h (KV Q (fun h4 => Q (.returned none) h4))))) : C G mX39_resolve (d + 1) [.ref (a0), .ref (gW G 4)] h Q := by
  refine C.of_X (by decide +kernel) (Nat.le_of_ble_eq_true rfl) wX39_resolve ?_
  show X G mX39_resolve (d + 1) none [] 0 [(0, .ref (a0)), (1, .ref (gW G 4))] [] h Q
  refine x_aload_n (pc' := 1) 0 (dX39_resolve 0 rfl rfl) rfl rfl rfl ?_
  obtain ⟨k1, hf⟩ := hf
  obtain ⟨b2, e3, hf⟩ := hf
  refine x_getR (pc' := 4) (dX39_resolve 1 rfl rfl) g332 q1670 (Or.inl rfl) rfl (hf_of 36 k1 rfl (by decide) m36_332) e3 ?_
  refine x_aload_n (pc' := 5) 1 (dX39_resolve 2 rfl rfl) rfl rfl rfl ?_
  obtain ⟨k, ν, ⟨v0, v1, v2, v3, v4, v5, v6, v7⟩, k6, hf⟩ := hf
  refine x_inv (pc' := 8) (ν := ν) (st := []) rfl (sub_tr v7 rfl) (dX39_resolve 3 rfl rfl) (by have := v5; simp only [List.map, List.sum_cons, List.sum_nil, Value.category]; omega) v1 v2 (inv_U (k := k) (av := [_]) (dX39_resolve 3 rfl rfl) q2272 q2251 (by decide) v3 v4 (by decide) (show _ = some 1 by decide +kernel) v0 k6) (exN v6) rfl ?_
  refine C.mono hf (fun _ _ => KV.g (fun h4 hf le5 => ?_))
  replace le5 := Le.nx v6 le5
  have k1 := leK le5 k1 (by decide)
  exact x_vret (dX39_resolve 4 rfl rfl) rfl hf
theorem bX39_infer (G : Gh) (d : Nat) (h : AH) (Q : Outcome → AH → Prop) (a0 : Nat) (hf : hK h a0 = 37 ∧ (∃ b2, fR h a0 332 = some b2 ∧ (∃ (k : Nat) (ν : Mu), VT ⟨"LetMill$Exp", "infer", "(LLetMill$Typer;)I"⟩ VMExp_infer k ν ∧ hK h b2 = k + 1 ∧ C G ν d [.ref (b2), .ref (gW G 6)] h (KI Q (fun x6 h4 => Q (.returned (some (.int x6))) h4))))) : C G mX39_infer (d + 1) [.ref (a0), .ref (gW G 6)] h Q := by
  refine C.of_X (by decide +kernel) (Nat.le_of_ble_eq_true rfl) wX39_infer ?_
  show X G mX39_infer (d + 1) none [] 0 [(0, .ref (a0)), (1, .ref (gW G 6))] [] h Q
  refine x_aload_n (pc' := 1) 0 (dX39_infer 0 rfl rfl) rfl rfl rfl ?_
  obtain ⟨k1, hf⟩ := hf
  obtain ⟨b2, e3, hf⟩ := hf
  refine x_getR (pc' := 4) (dX39_infer 1 rfl rfl) g332 q1670 (Or.inl rfl) rfl (hf_of 36 k1 rfl (by decide) m36_332) e3 ?_
  refine x_aload_n (pc' := 5) 1 (dX39_infer 2 rfl rfl) rfl rfl rfl ?_
  obtain ⟨k, ν, ⟨v0, v1, v2, v3, v4, v5, v6, v7⟩, k7, hf⟩ := hf
  refine x_inv (pc' := 8) (ν := ν) (st := []) rfl (sub_tr v7 rfl) (dX39_infer 3 rfl rfl) (by have := v5; simp only [List.map, List.sum_cons, List.sum_nil, Value.category]; omega) v1 v2 (inv_U (k := k) (av := [_]) (dX39_infer 3 rfl rfl) q2631 q2512 (by decide) v3 v4 (by decide) (show _ = some 1 by decide +kernel) v0 k7) (exN v6) rfl ?_
  refine C.mono hf (fun _ _ => KI.g (fun x6 h4 hf le5 => ?_))
  replace le5 := Le.nx v6 le5
  have k1 := leK le5 k1 (by decide)
  exact x_iret (dX39_infer 4 rfl rfl) rfl hf
theorem bX39_isStill (G : Gh) (d : Nat) (h : AH) (Q : Outcome → AH → Prop) (a0 : Nat) (hf : hK h a0 = 37 ∧ (∃ b2, fR h a0 332 = some b2 ∧ (∃ (k : Nat) (ν : Mu), VT yX16_isStill VMExp_isStill k ν ∧ hK h b2 = k + 1 ∧ C G ν d [.ref (b2)] h (KI Q (fun x6 h4 => (x6 = 0 ∨ x6 = 1) ∧ Q (.returned (some (.int x6))) h4))))) : C G mX39_isStill (d + 1) [.ref (a0)] h Q := by
  refine C.of_X (by decide +kernel) (Nat.le_of_ble_eq_true rfl) wX39_isStill ?_
  show X G mX39_isStill (d + 1) none [] 0 [(0, .ref (a0))] [] h Q
  refine x_aload_n (pc' := 1) 0 (dX39_isStill 0 rfl rfl) rfl rfl rfl ?_
  obtain ⟨k1, hf⟩ := hf
  obtain ⟨b2, e3, hf⟩ := hf
  refine x_getR (pc' := 4) (dX39_isStill 1 rfl rfl) g332 q1670 (Or.inl rfl) rfl (hf_of 36 k1 rfl (by decide) m36_332) e3 ?_
  obtain ⟨k, ν, ⟨v0, v1, v2, v3, v4, v5, v6, v7⟩, k7, hf⟩ := hf
  refine x_inv (pc' := 7) (ν := ν) (st := []) rfl (sub_tr v7 rfl) (dX39_isStill 2 rfl rfl) (by have := v5; simp only [List.map, List.sum_cons, List.sum_nil, Value.category]; omega) v1 v2 (inv_O (ξ := mX16_isStill) (k := k) (av := []) (dX39_isStill 2 rfl rfl) q2716 q2682 q2681 q2740 v3 v4 (by decide) lX16_isStill v0 k7) (exN v6) rfl ?_
  refine C.mono hf (fun _ _ => KI.g (fun x6 h4 hf le5 => ?_))
  replace le5 := Le.nx v6 le5
  have k1 := leK le5 k1 (by decide)
  obtain ⟨z0, hf⟩ := hf
  exact x_zret (ty := .boolean) (dX39_isStill 3 rfl rfl) rfl (nar_z z0) hf
theorem bX39_begin (G : Gh) (d : Nat) (h : AH) (Q : Outcome → AH → Prop) (a0 : Nat) (p2 : Int32) (s3 : So 3 (gW G) h) (hf : hK h a0 = 37 ∧ (∃ b2, fR h a0 332 = some b2 ∧ (C G mX6_next d [.ref (gW G 3), .ref (b2), .int (p2)] h (KV Q (fun h4 => Q (.returned none) h4))))) : C G mX39_begin (d + 1) [.ref (a0), .ref (gW G 3), .int (p2)] h Q := by
  refine C.of_X (by decide +kernel) (Nat.le_of_ble_eq_true rfl) wX39_begin ?_
  show X G mX39_begin (d + 1) none [] 0 [(0, .ref (a0)), (1, .ref (gW G 3)), (2, .int (p2))] [] h Q
  refine x_aload_n (pc' := 1) 1 (dX39_begin 0 rfl rfl) rfl rfl rfl ?_
  refine x_aload_n (pc' := 2) 0 (dX39_begin 1 rfl rfl) rfl rfl rfl ?_
  obtain ⟨k1, hf⟩ := hf
  obtain ⟨b2, e3, hf⟩ := hf
  refine x_getR (pc' := 5) (dX39_begin 2 rfl rfl) g332 q1670 (Or.inl rfl) rfl (hf_of 36 k1 rfl (by decide) m36_332) e3 ?_
  refine x_iload_n (pc' := 6) 2 (dX39_begin 3 rfl rfl) rfl rfl rfl ?_
  refine x_inv (pc' := 9) (ν := mX6_next) (av := [_, _, _]) (st := []) rfl rfl (dX39_begin 4 rfl rfl) (Nat.le_of_ble_eq_true rfl) wX6_next q220 (inv_V (k := 4) (dX39_begin 4 rfl rfl) q2957 q2881 q2882 wX6_next (by decide) lX6_next (by decide) s3.1) (exN (by decide)) rfl ?_
  refine C.mono hf (fun _ _ => KV.g (fun h4 hf le5 => ?_))
  have k1 := leK le5 k1 (by decide)
  replace s3 := s3.le sc3 (le5)
  exact x_vret (dX39_begin 5 rfl rfl) rfl hf
theorem bX40_init (G : Gh) (d : Nat) (h : AH) (Q : Outcome → AH → Prop) (a0 : Nat) (p1 : Int32) (p2 : Nat) (hf : C G mX16_init d [.ref (a0), .int (p1)] h (KV Q (fun h1 => HF h1 a0 333 2 ∧ (∀ h4, h4 = pR h1 a0 333 (some p2) → (Q (.returned none) h4))))) : C G mX40_init (d + 1) [.ref (a0), .int (p1), .ref (p2)] h Q := by
  refine C.of_X (by decide +kernel) (Nat.le_of_ble_eq_true rfl) wX40_init ?_
  show X G mX40_init (d + 1) (some a0) [] 0 [(0, .ref (a0)), (1, .int (p1)), (2, .ref (p2))] [] h Q
  refine x_aload_n (pc' := 1) 0 (dX40_init 0 rfl rfl) rfl rfl rfl ?_
  refine x_iload_n (pc' := 2) 1 (dX40_init 1 rfl rfl) rfl rfl rfl ?_
  refine x_inv (pc' := 5) (ν := mX16_init) (av := [_, _]) (st := []) rfl rfl (dX40_init 2 rfl rfl) (Nat.le_of_ble_eq_true rfl) wX16_init q237 (inv_I (dX40_init 2 rfl rfl) q1689 q1521 q1522 rfl (by decide) lX16_init) (fun b hb => by exact Or.inr (by rw [← hb]; rfl)) rfl ?_
  refine C.mono hf (fun _ _ => KV.g (fun h1 hf le2 => ?_))
  refine x_aload_n (pc' := 6) 0 (dX40_init 3 rfl rfl) rfl rfl rfl ?_
  refine x_aload_n (pc' := 7) 2 (dX40_init 4 rfl rfl) rfl rfl rfl ?_
  obtain ⟨u3, hf⟩ := hf
  refine x_putR (pc' := 10) (dX40_init 5 rfl rfl) g333 q1690 (Or.inl rfl) (Or.inr ⟨rfl, rfl, rfl, rfl⟩) (Or.inr rfl) rfl u3 (fun h4 e5 => ?_)
  replace hf := hf h4 e5
  exact x_vret (dX40_init 6 rfl rfl) rfl hf
theorem bX40_resolve (G : Gh) (d : Nat) (h : AH) (Q : Outcome → AH → Prop) (a0 : Nat) (hf : X G mX40_resolve (d + 1) none [] 2 [(0, .ref (a0)), (1, .ref (gW G 4)), (2, .int (0))] [] h Q) : C G mX40_resolve (d + 1) [.ref (a0), .ref (gW G 4)] h Q := by
  refine C.of_X (by decide +kernel) (Nat.le_of_ble_eq_true rfl) wX40_resolve ?_
  show X G mX40_resolve (d + 1) none [] 0 [(0, .ref (a0)), (1, .ref (gW G 4))] [] h Q
  refine x_iconst (pc' := 1) (v := 0) (dX40_resolve 0 rfl rfl) (by decide) rfl ?_
  refine x_istore_n (pc' := 2) (dX40_resolve 1 rfl rfl) rfl (by decide) rfl rfl ?_
  exact X.sub [1, 2, 0] rfl (by simp) hf
theorem bX40_resolve_2 (G : Gh) (d : Nat) (h : AH) (Q : Outcome → AH → Prop) (l0 : Nat) (l2 : Int32) (hf : HF h l0 333 2 ∧ (∃ b2, fR h l0 333 = some b2 ∧ (hK h b2 = 1009 ∧ (((Int32.ofNat (hL h b2)) ≤ l2 → (Q (.returned none) h)) ∧ (¬ ((Int32.ofNat (hL h b2)) ≤ l2) → (HF h l0 333 2 ∧ (∃ b7, fR h l0 333 = some b7 ∧ (hK h b7 = 1009 ∧ vp_in l2 (hL h b7) ∧ ∃ b11, aR h b7 l2.toNatClampNeg = some b11 ∧ (∃ (k : Nat) (ν : Mu), VT ⟨"LetMill$Exp", "resolve", "(LLetMill$Scope;)V"⟩ VMExp_resolve k ν ∧ hK h b11 = k + 1 ∧ C G ν d [.ref (b11), .ref (gW G 4)] h (KV Q (fun h13 => ∀ x15 : Int32, x15 = l2 + 1 → (X G mX40_resolve (d + 1) none [] 2 [(0, .ref (l0)), (1, .ref (gW G 4)), (2, .int (x15))] [] h13 Q)))))))))))) : X G mX40_resolve (d + 1) none [] 2 [(0, .ref (l0)), (1, .ref (gW G 4)), (2, .int (l2))] [] h Q := by
  refine x_iload_n (pc' := 3) 2 (dX40_resolve 2 rfl rfl) rfl rfl rfl ?_
  refine x_aload_n (pc' := 4) 0 (dX40_resolve 3 rfl rfl) rfl rfl rfl ?_
  obtain ⟨u1, hf⟩ := hf
  obtain ⟨b2, e3, hf⟩ := hf
  refine x_getR (pc' := 7) (dX40_resolve 4 rfl rfl) g333 q1690 (Or.inl rfl) rfl u1 e3 ?_
  obtain ⟨k4, hf⟩ := hf
  refine x_alen (pc' := 8) (t := 9) (ty := .object "LetMill$Exp") (dX40_resolve 5 rfl rfl) rfl rfl k4 ?_
  refine x_icmp_ge (pc' := 11) (tgt := 27) (dX40_resolve 6 rfl rfl) (by decide) rfl (fun c5 => ?_) (fun c5 => ?_)
  · replace hf := hf.1 c5
    exact x_vret (dX40_resolve 15 rfl rfl) rfl hf
  · replace hf := hf.2 c5
    refine x_aload_n (pc' := 12) 0 (dX40_resolve 7 rfl rfl) rfl rfl rfl ?_
    obtain ⟨u6, hf⟩ := hf
    obtain ⟨b7, e8, hf⟩ := hf
    refine x_getR (pc' := 15) (dX40_resolve 8 rfl rfl) g333 q1690 (Or.inl rfl) rfl u6 e8 ?_
    refine x_iload_n (pc' := 16) 2 (dX40_resolve 9 rfl rfl) rfl rfl rfl ?_
    obtain ⟨k9, hf⟩ := hf
    obtain ⟨i10, hf⟩ := hf
    obtain ⟨b11, e12, hf⟩ := hf
    refine x_aald (pc' := 17) (t := 9) (C := "LetMill$Exp") (dX40_resolve 10 rfl rfl) rfl (by decide) rfl k9 i10 e12 ?_
    refine x_aload_n (pc' := 18) 1 (dX40_resolve 11 rfl rfl) rfl rfl rfl ?_
    obtain ⟨k, ν, ⟨v0, v1, v2, v3, v4, v5, v6, v7⟩, k16, hf⟩ := hf
    refine x_inv (pc' := 21) (ν := ν) (st := []) rfl (sub_tr v7 rfl) (dX40_resolve 12 rfl rfl) (by have := v5; simp only [List.map, List.sum_cons, List.sum_nil, Value.category]; omega) v1 v2 (inv_U (k := k) (av := [_]) (dX40_resolve 12 rfl rfl) q2278 q2251 (by decide) v3 v4 (by decide) (show _ = some 1 by decide +kernel) v0 k16) (exN v6) rfl ?_
    refine C.mono hf (fun _ _ => KV.g (fun h13 hf le14 => ?_))
    replace le14 := Le.nx v6 le14
    have k4 := leK le14 k4 (by decide)
    have k9 := leK le14 k9 (by decide)
    replace hf := hf _ rfl
    refine x_iinc (pc' := 24) 2 (dX40_resolve 13 rfl rfl) rfl (by rfl) (by decide) rfl rfl ?_
    refine x_goto (tgt := 2) (dX40_resolve 14 rfl rfl) (by decide) ?_
    exact X.sub [1, 2, 0] rfl (by simp) hf
theorem bX40_isStill (G : Gh) (d : Nat) (h : AH) (Q : Outcome → AH → Prop) (a0 : Nat) (hf : X G mX40_isStill (d + 1) none [] 2 [(0, .ref (a0)), (1, .int (0))] [] h Q) : C G mX40_isStill (d + 1) [.ref (a0)] h Q := by
  refine C.of_X (by decide +kernel) (Nat.le_of_ble_eq_true rfl) wX40_isStill ?_
  show X G mX40_isStill (d + 1) none [] 0 [(0, .ref (a0))] [] h Q
  refine x_iconst (pc' := 1) (v := 0) (dX40_isStill 0 rfl rfl) (by decide) rfl ?_
  refine x_istore_n (pc' := 2) (dX40_isStill 1 rfl rfl) rfl (by decide) rfl rfl ?_
  exact X.sub [1, 0] rfl (by simp) hf
theorem bX40_isStill_2 (G : Gh) (d : Nat) (h : AH) (Q : Outcome → AH → Prop) (l0 : Nat) (l1 : Int32) (hf : HF h l0 333 2 ∧ (∃ b2, fR h l0 333 = some b2 ∧ (hK h b2 = 1009 ∧ (((Int32.ofNat (hL h b2)) ≤ l1 → (Q (.returned (some (.int 1))) h)) ∧ (¬ ((Int32.ofNat (hL h b2)) ≤ l1) → (HF h l0 333 2 ∧ (∃ b7, fR h l0 333 = some b7 ∧ (hK h b7 = 1009 ∧ vp_in l1 (hL h b7) ∧ ∃ b11, aR h b7 l1.toNatClampNeg = some b11 ∧ (∃ (k : Nat) (ν : Mu), VT yX16_isStill VMExp_isStill k ν ∧ hK h b11 = k + 1 ∧ C G ν d [.ref (b11)] h (KI Q (fun x15 h13 => (x15 = 0 → (Q (.returned (some (.int 0))) h13)) ∧ (¬ x15 = 0 → (∀ x17 : Int32, x17 = l1 + 1 → (X G mX40_isStill (d + 1) none [] 2 [(0, .ref (l0)), (1, .int (x17))] [] h13 Q)))))))))))))) : X G mX40_isStill (d + 1) none [] 2 [(0, .ref (l0)), (1, .int (l1))] [] h Q := by
  refine x_iload_n (pc' := 3) 1 (dX40_isStill 2 rfl rfl) rfl rfl rfl ?_
  refine x_aload_n (pc' := 4) 0 (dX40_isStill 3 rfl rfl) rfl rfl rfl ?_
  obtain ⟨u1, hf⟩ := hf
  obtain ⟨b2, e3, hf⟩ := hf
  refine x_getR (pc' := 7) (dX40_isStill 4 rfl rfl) g333 q1690 (Or.inl rfl) rfl u1 e3 ?_
  obtain ⟨k4, hf⟩ := hf
  refine x_alen (pc' := 8) (t := 9) (ty := .object "LetMill$Exp") (dX40_isStill 5 rfl rfl) rfl rfl k4 ?_
  refine x_icmp_ge (pc' := 11) (tgt := 31) (dX40_isStill 6 rfl rfl) (by decide) rfl (fun c5 => ?_) (fun c5 => ?_)
  · replace hf := hf.1 c5
    refine x_iconst (pc' := 32) (v := 1) (dX40_isStill 17 rfl rfl) (by decide) rfl ?_
    exact x_zret (ty := .boolean) (dX40_isStill 18 rfl rfl) rfl (by decide) hf
  · replace hf := hf.2 c5
    refine x_aload_n (pc' := 12) 0 (dX40_isStill 7 rfl rfl) rfl rfl rfl ?_
    obtain ⟨u6, hf⟩ := hf
    obtain ⟨b7, e8, hf⟩ := hf
    refine x_getR (pc' := 15) (dX40_isStill 8 rfl rfl) g333 q1690 (Or.inl rfl) rfl u6 e8 ?_
    refine x_iload_n (pc' := 16) 1 (dX40_isStill 9 rfl rfl) rfl rfl rfl ?_
    obtain ⟨k9, hf⟩ := hf
    obtain ⟨i10, hf⟩ := hf
    obtain ⟨b11, e12, hf⟩ := hf
    refine x_aald (pc' := 17) (t := 9) (C := "LetMill$Exp") (dX40_isStill 10 rfl rfl) rfl (by decide) rfl k9 i10 e12 ?_
    obtain ⟨k, ν, ⟨v0, v1, v2, v3, v4, v5, v6, v7⟩, k18, hf⟩ := hf
    refine x_inv (pc' := 20) (ν := ν) (st := []) rfl (sub_tr v7 rfl) (dX40_isStill 11 rfl rfl) (by have := v5; simp only [List.map, List.sum_cons, List.sum_nil, Value.category]; omega) v1 v2 (inv_O (ξ := mX16_isStill) (k := k) (av := []) (dX40_isStill 11 rfl rfl) q2719 q2682 q2681 q2740 v3 v4 (by decide) lX16_isStill v0 k18) (exN v6) rfl ?_
    refine C.mono hf (fun _ _ => KI.g (fun x15 h13 hf le14 => ?_))
    replace le14 := Le.nx v6 le14
    have k4 := leK le14 k4 (by decide)
    have k9 := leK le14 k9 (by decide)
    refine x_if_ne (pc' := 23) (tgt := 25) (dX40_isStill 12 rfl rfl) (by decide) rfl (fun c16 => ?_) (fun c16 => ?_)
    · replace hf := hf.2 c16
      replace hf := hf _ rfl
      refine x_iinc (pc' := 28) 1 (dX40_isStill 15 rfl rfl) rfl (by rfl) (by decide) rfl rfl ?_
      refine x_goto (tgt := 2) (dX40_isStill 16 rfl rfl) (by decide) ?_
      exact X.sub [1, 0] rfl (by simp) hf
    · replace hf := hf.1 (Classical.not_not.mp c16)
      replace c16 := Classical.not_not.mp c16
      refine x_iconst (pc' := 24) (v := 0) (dX40_isStill 13 rfl rfl) (by decide) rfl ?_
      exact x_zret (ty := .boolean) (dX40_isStill 14 rfl rfl) rfl (by decide) hf
theorem bX40_begin (G : Gh) (d : Nat) (h : AH) (Q : Outcome → AH → Prop) (a0 : Nat) (p2 : Int32) (s3 : So 3 (gW G) h) (hf : C G mX6_pay d [.ref (gW G 3), .int (1)] h (KI Q (fun x3 h1 => (x3 = 0 → (Q (.returned none) h1)) ∧ (¬ x3 = 0 → (HF h1 a0 333 2 ∧ (∃ b6, fR h1 a0 333 = some b6 ∧ (hK h1 b6 = 1009 ∧ (((Int32.ofNat (hL h1 b6)) = 0 → (C G mX6_give d [.ref (gW G 3), .int (4)] h1 (KV Q (fun h21 => Q (.returned none) h21)))) ∧ (¬ ((Int32.ofNat (hL h1 b6)) = 0) → (C G mX6_frame d [.ref (gW G 3), .ref (a0), .int (0), .int (p2)] h1 (KV Q (fun h10 => HF h10 a0 333 2 ∧ (∃ b13, fR h10 a0 333 = some b13 ∧ (hK h10 b13 = 1009 ∧ vp_in 0 (hL h10 b13) ∧ ∃ b17, aR h10 b13 (0 : Int32).toNatClampNeg = some b17 ∧ (C G mX6_next d [.ref (gW G 3), .ref (b17), .int (p2)] h10 (KV Q (fun h19 => Q (.returned none) h19))))))))))))))))) : C G mX40_begin (d + 1) [.ref (a0), .ref (gW G 3), .int (p2)] h Q := by
  refine C.of_X (by decide +kernel) (Nat.le_of_ble_eq_true rfl) wX40_begin ?_
  show X G mX40_begin (d + 1) none [] 0 [(0, .ref (a0)), (1, .ref (gW G 3)), (2, .int (p2))] [] h Q
  refine x_aload_n (pc' := 1) 1 (dX40_begin 0 rfl rfl) rfl rfl rfl ?_
  refine x_iconst (pc' := 2) (v := 1) (dX40_begin 1 rfl rfl) (by decide) rfl ?_
  refine x_inv (pc' := 5) (ν := mX6_pay) (av := [_, _]) (st := []) rfl rfl (dX40_begin 2 rfl rfl) (Nat.le_of_ble_eq_true rfl) wX6_pay q220 (inv_V (k := 4) (dX40_begin 2 rfl rfl) q3022 q2891 q2892 wX6_pay (by decide) lX6_pay (by decide) s3.1) (exN (by decide)) rfl ?_
  refine C.mono hf (fun _ _ => KI.g (fun x3 h1 hf le2 => ?_))
  replace s3 := s3.le sc3 (le2)
  refine x_if_ne (pc' := 8) (tgt := 9) (dX40_begin 3 rfl rfl) (by decide) rfl (fun c4 => ?_) (fun c4 => ?_)
  · replace hf := hf.2 c4
    refine x_aload_n (pc' := 10) 0 (dX40_begin 5 rfl rfl) rfl rfl rfl ?_
    obtain ⟨u5, hf⟩ := hf
    obtain ⟨b6, e7, hf⟩ := hf
    refine x_getR (pc' := 13) (dX40_begin 6 rfl rfl) g333 q1690 (Or.inl rfl) rfl u5 e7 ?_
    obtain ⟨k8, hf⟩ := hf
    refine x_alen (pc' := 14) (t := 9) (ty := .object "LetMill$Exp") (dX40_begin 7 rfl rfl) rfl rfl k8 ?_
    refine x_if_ne (pc' := 17) (tgt := 23) (dX40_begin 8 rfl rfl) (by decide) rfl (fun c9 => ?_) (fun c9 => ?_)
    · replace hf := hf.2 c9
      refine x_aload_n (pc' := 24) 1 (dX40_begin 13 rfl rfl) rfl rfl rfl ?_
      refine x_aload_n (pc' := 25) 0 (dX40_begin 14 rfl rfl) rfl rfl rfl ?_
      refine x_iconst (pc' := 26) (v := 0) (dX40_begin 15 rfl rfl) (by decide) rfl ?_
      refine x_iload_n (pc' := 27) 2 (dX40_begin 16 rfl rfl) rfl rfl rfl ?_
      refine x_inv (pc' := 30) (ν := mX6_frame) (av := [_, _, _, _]) (st := []) rfl rfl (dX40_begin 17 rfl rfl) (Nat.le_of_ble_eq_true rfl) wX6_frame q220 (inv_V (k := 4) (dX40_begin 17 rfl rfl) q3024 q2899 q2900 wX6_frame (by decide) lX6_frame (by decide) s3.1) (exN (by decide)) rfl ?_
      refine C.mono hf (fun _ _ => KV.g (fun h10 hf le11 => ?_))
      have k8 := leK le11 k8 (by decide)
      replace s3 := s3.le sc3 (le11)
      refine x_aload_n (pc' := 31) 1 (dX40_begin 18 rfl rfl) rfl rfl rfl ?_
      refine x_aload_n (pc' := 32) 0 (dX40_begin 19 rfl rfl) rfl rfl rfl ?_
      obtain ⟨u12, hf⟩ := hf
      obtain ⟨b13, e14, hf⟩ := hf
      refine x_getR (pc' := 35) (dX40_begin 20 rfl rfl) g333 q1690 (Or.inl rfl) rfl u12 e14 ?_
      refine x_iconst (pc' := 36) (v := 0) (dX40_begin 21 rfl rfl) (by decide) rfl ?_
      obtain ⟨k15, hf⟩ := hf
      obtain ⟨i16, hf⟩ := hf
      obtain ⟨b17, e18, hf⟩ := hf
      refine x_aald (pc' := 37) (t := 9) (C := "LetMill$Exp") (dX40_begin 22 rfl rfl) rfl (by decide) rfl k15 i16 e18 ?_
      refine x_iload_n (pc' := 38) 2 (dX40_begin 23 rfl rfl) rfl rfl rfl ?_
      refine x_inv (pc' := 41) (ν := mX6_next) (av := [_, _, _]) (st := []) rfl rfl (dX40_begin 24 rfl rfl) (Nat.le_of_ble_eq_true rfl) wX6_next q220 (inv_V (k := 4) (dX40_begin 24 rfl rfl) q3025 q2881 q2882 wX6_next (by decide) lX6_next (by decide) s3.1) (exN (by decide)) rfl ?_
      refine C.mono hf (fun _ _ => KV.g (fun h19 hf le20 => ?_))
      have k8 := leK le20 k8 (by decide)
      have k15 := leK le20 k15 (by decide)
      replace s3 := s3.le sc3 (le20)
      exact x_vret (dX40_begin 25 rfl rfl) rfl hf
    · replace hf := hf.1 (Classical.not_not.mp c9)
      replace c9 := Classical.not_not.mp c9
      refine x_aload_n (pc' := 18) 1 (dX40_begin 9 rfl rfl) rfl rfl rfl ?_
      refine x_iconst (pc' := 19) (v := 4) (dX40_begin 10 rfl rfl) (by decide) rfl ?_
      refine x_inv (pc' := 22) (ν := mX6_give) (av := [_, _]) (st := []) rfl rfl (dX40_begin 11 rfl rfl) (Nat.le_of_ble_eq_true rfl) wX6_give q220 (inv_V (k := 4) (dX40_begin 11 rfl rfl) q3023 q2913 q2914 wX6_give (by decide) lX6_give (by decide) s3.1) (exN (by decide)) rfl ?_
      refine C.mono hf (fun _ _ => KV.g (fun h21 hf le22 => ?_))
      have k8 := leK le22 k8 (by decide)
      replace s3 := s3.le sc3 (le22)
      exact x_vret (dX40_begin 12 rfl rfl) rfl hf
  · replace hf := hf.1 (Classical.not_not.mp c4)
    replace c4 := Classical.not_not.mp c4
    exact x_vret (dX40_begin 4 rfl rfl) rfl hf
theorem bX40_resume (G : Gh) (d : Nat) (h : AH) (Q : Outcome → AH → Prop) (a0 : Nat) (p2 : Int32) (p3 : Int32) (p4 : Int32) (s3 : So 3 (gW G) h) (hf : C G mX6_push d [.ref (gW G 3), .int (p4)] h (KV Q (fun h1 => HF h1 a0 333 2 ∧ (∃ b4, fR h1 a0 333 = some b4 ∧ (hK h1 b4 = 1009 ∧ (((p2 + 1) = (Int32.ofNat (hL h1 b4)) → (∃ (k : Nat) (ν : Mu), VT ⟨"LetMill$Parts", "whole", "(LLetMill$Machine;)I"⟩ VMParts_whole k ν ∧ hK h1 a0 = k + 1 ∧ C G ν d [.ref (a0), .ref (gW G 3)] h1 (KI Q (fun x21 h19 => C G mX6_give d [.ref (gW G 3), .int (x21)] h19 (KV Q (fun h22 => Q (.returned none) h22)))))) ∧ (¬ ((p2 + 1) = (Int32.ofNat (hL h1 b4))) → (C G mX6_frame d [.ref (gW G 3), .ref (a0), .int (p2 + 1), .int (p3)] h1 (KV Q (fun h8 => HF h8 a0 333 2 ∧ (∃ b11, fR h8 a0 333 = some b11 ∧ (hK h8 b11 = 1009 ∧ vp_in (p2 + 1) (hL h8 b11) ∧ ∃ b15, aR h8 b11 (p2 + 1).toNatClampNeg = some b15 ∧ (C G mX6_next d [.ref (gW G 3), .ref (b15), .int (p3)] h8 (KV Q (fun h17 => Q (.returned none) h17))))))))))))))) : C G mX40_resume (d + 1) [.ref (a0), .ref (gW G 3), .int (p2), .int (p3), .int (p4)] h Q := by
  refine C.of_X (by decide +kernel) (Nat.le_of_ble_eq_true rfl) wX40_resume ?_
  show X G mX40_resume (d + 1) none [] 0 [(0, .ref (a0)), (1, .ref (gW G 3)), (2, .int (p2)), (3, .int (p3)), (4, .int (p4))] [] h Q
  refine x_aload_n (pc' := 1) 1 (dX40_resume 0 rfl rfl) rfl rfl rfl ?_
  refine x_iload (pc' := 3) 4 (dX40_resume 1 rfl rfl) rfl rfl ?_
  refine x_inv (pc' := 6) (ν := mX6_push) (av := [_, _]) (st := []) rfl rfl (dX40_resume 2 rfl rfl) (Nat.le_of_ble_eq_true rfl) wX6_push q220 (inv_V (k := 4) (dX40_resume 2 rfl rfl) q3245 q3059 q3060 wX6_push (by decide) lX6_push (by decide) s3.1) (exN (by decide)) rfl ?_
  refine C.mono hf (fun _ _ => KV.g (fun h1 hf le2 => ?_))
  replace s3 := s3.le sc3 (le2)
  refine x_iload_n (pc' := 7) 2 (dX40_resume 3 rfl rfl) rfl rfl rfl ?_
  refine x_iconst (pc' := 8) (v := 1) (dX40_resume 4 rfl rfl) (by decide) rfl ?_
  refine x_iadd (pc' := 9) (dX40_resume 5 rfl rfl) rfl ?_
  refine x_aload_n (pc' := 10) 0 (dX40_resume 6 rfl rfl) rfl rfl rfl ?_
  obtain ⟨u3, hf⟩ := hf
  obtain ⟨b4, e5, hf⟩ := hf
  refine x_getR (pc' := 13) (dX40_resume 7 rfl rfl) g333 q1690 (Or.inl rfl) rfl u3 e5 ?_
  obtain ⟨k6, hf⟩ := hf
  refine x_alen (pc' := 14) (t := 9) (ty := .object "LetMill$Exp") (dX40_resume 8 rfl rfl) rfl rfl k6 ?_
  refine x_icmp_ne (pc' := 17) (tgt := 27) (dX40_resume 9 rfl rfl) (by decide) rfl (fun c7 => ?_) (fun c7 => ?_)
  · replace hf := hf.2 c7
    refine x_aload_n (pc' := 28) 1 (dX40_resume 16 rfl rfl) rfl rfl rfl ?_
    refine x_aload_n (pc' := 29) 0 (dX40_resume 17 rfl rfl) rfl rfl rfl ?_
    refine x_iload_n (pc' := 30) 2 (dX40_resume 18 rfl rfl) rfl rfl rfl ?_
    refine x_iconst (pc' := 31) (v := 1) (dX40_resume 19 rfl rfl) (by decide) rfl ?_
    refine x_iadd (pc' := 32) (dX40_resume 20 rfl rfl) rfl ?_
    refine x_iload_n (pc' := 33) 3 (dX40_resume 21 rfl rfl) rfl rfl rfl ?_
    refine x_inv (pc' := 36) (ν := mX6_frame) (av := [_, _, _, _]) (st := []) rfl rfl (dX40_resume 22 rfl rfl) (Nat.le_of_ble_eq_true rfl) wX6_frame q220 (inv_V (k := 4) (dX40_resume 22 rfl rfl) q3024 q2899 q2900 wX6_frame (by decide) lX6_frame (by decide) s3.1) (exN (by decide)) rfl ?_
    refine C.mono hf (fun _ _ => KV.g (fun h8 hf le9 => ?_))
    have k6 := leK le9 k6 (by decide)
    replace s3 := s3.le sc3 (le9)
    refine x_aload_n (pc' := 37) 1 (dX40_resume 23 rfl rfl) rfl rfl rfl ?_
    refine x_aload_n (pc' := 38) 0 (dX40_resume 24 rfl rfl) rfl rfl rfl ?_
    obtain ⟨u10, hf⟩ := hf
    obtain ⟨b11, e12, hf⟩ := hf
    refine x_getR (pc' := 41) (dX40_resume 25 rfl rfl) g333 q1690 (Or.inl rfl) rfl u10 e12 ?_
    refine x_iload_n (pc' := 42) 2 (dX40_resume 26 rfl rfl) rfl rfl rfl ?_
    refine x_iconst (pc' := 43) (v := 1) (dX40_resume 27 rfl rfl) (by decide) rfl ?_
    refine x_iadd (pc' := 44) (dX40_resume 28 rfl rfl) rfl ?_
    obtain ⟨k13, hf⟩ := hf
    obtain ⟨i14, hf⟩ := hf
    obtain ⟨b15, e16, hf⟩ := hf
    refine x_aald (pc' := 45) (t := 9) (C := "LetMill$Exp") (dX40_resume 29 rfl rfl) rfl (by decide) rfl k13 i14 e16 ?_
    refine x_iload_n (pc' := 46) 3 (dX40_resume 30 rfl rfl) rfl rfl rfl ?_
    refine x_inv (pc' := 49) (ν := mX6_next) (av := [_, _, _]) (st := []) rfl rfl (dX40_resume 31 rfl rfl) (Nat.le_of_ble_eq_true rfl) wX6_next q220 (inv_V (k := 4) (dX40_resume 31 rfl rfl) q3025 q2881 q2882 wX6_next (by decide) lX6_next (by decide) s3.1) (exN (by decide)) rfl ?_
    refine C.mono hf (fun _ _ => KV.g (fun h17 hf le18 => ?_))
    have k6 := leK le18 k6 (by decide)
    have k13 := leK le18 k13 (by decide)
    replace s3 := s3.le sc3 (le18)
    exact x_vret (dX40_resume 32 rfl rfl) rfl hf
  · replace hf := hf.1 (Classical.not_not.mp c7)
    replace c7 := Classical.not_not.mp c7
    refine x_aload_n (pc' := 18) 1 (dX40_resume 10 rfl rfl) rfl rfl rfl ?_
    refine x_aload_n (pc' := 19) 0 (dX40_resume 11 rfl rfl) rfl rfl rfl ?_
    refine x_aload_n (pc' := 20) 1 (dX40_resume 12 rfl rfl) rfl rfl rfl ?_
    obtain ⟨k, ν, ⟨v0, v1, v2, v3, v4, v5, v6, v7⟩, k24, hf⟩ := hf
    refine x_inv (pc' := 23) (ν := ν) (st := [_]) rfl (sub_tr v7 rfl) (dX40_resume 13 rfl rfl) (by have := v5; simp only [List.map, List.sum_cons, List.sum_nil, Value.category]; omega) v1 v2 (inv_U (k := k) (av := [_]) (dX40_resume 13 rfl rfl) q3246 q3248 (by decide) v3 v4 (by decide) (show _ = some 1 by decide +kernel) v0 k24) (exN v6) rfl ?_
    refine C.mono hf (fun _ _ => KI.g (fun x21 h19 hf le20 => ?_))
    replace le20 := Le.nx v6 le20
    have k6 := leK le20 k6 (by decide)
    replace s3 := s3.le sc3 (le20)
    refine x_inv (pc' := 26) (ν := mX6_give) (av := [_, _]) (st := []) rfl rfl (dX40_resume 14 rfl rfl) (Nat.le_of_ble_eq_true rfl) wX6_give q220 (inv_V (k := 4) (dX40_resume 14 rfl rfl) q3023 q2913 q2914 wX6_give (by decide) lX6_give (by decide) s3.1) (exN (by decide)) rfl ?_
    refine C.mono hf (fun _ _ => KV.g (fun h22 hf le23 => ?_))
    have k6 := leK le23 k6 (by decide)
    replace s3 := s3.le sc3 (le23)
    exact x_vret (dX40_resume 15 rfl rfl) rfl hf
theorem bX41_init (G : Gh) (d : Nat) (h : AH) (Q : Outcome → AH → Prop) (a0 : Nat) (p1 : Int32) (p2 : Nat) (hf : C G mX40_init d [.ref (a0), .int (p1), .ref (p2)] h (KV Q (fun h1 => Q (.returned none) h1))) : C G mX41_init (d + 1) [.ref (a0), .int (p1), .ref (p2)] h Q := by
  refine C.of_X (by decide +kernel) (Nat.le_of_ble_eq_true rfl) wX41_init ?_
  show X G mX41_init (d + 1) (some a0) [] 0 [(0, .ref (a0)), (1, .int (p1)), (2, .ref (p2))] [] h Q
  refine x_aload_n (pc' := 1) 0 (dX41_init 0 rfl rfl) rfl rfl rfl ?_
  refine x_iload_n (pc' := 2) 1 (dX41_init 1 rfl rfl) rfl rfl rfl ?_
  refine x_aload_n (pc' := 3) 2 (dX41_init 2 rfl rfl) rfl rfl rfl ?_
  refine x_inv (pc' := 6) (ν := mX40_init) (av := [_, _, _]) (st := []) rfl rfl (dX41_init 3 rfl rfl) (Nat.le_of_ble_eq_true rfl) wX40_init q261 (inv_I (dX41_init 3 rfl rfl) q1686 q1687 q1688 rfl (by decide) lX40_init) (fun b hb => by exact Or.inr (by rw [← hb]; rfl)) rfl ?_
  refine C.mono hf (fun _ _ => KV.g (fun h1 hf le2 => ?_))
  exact x_vret (dX41_init 4 rfl rfl) rfl hf
theorem bX41_infer (G : Gh) (d : Nat) (h : AH) (Q : Outcome → AH → Prop) (a0 : Nat) (hf : hK h a0 = 38 ∧ (∃ b2, fR h a0 333 = some b2 ∧ (hK h b2 = 1009 ∧ ((¬ (Int32.ofNat (hL h b2) : Int32) < 0) ∧ (hc h + 1 ≤ MC) ∧ (hs h + (Int32.ofNat (hL h b2) : Int32).toNatClampNeg ≤ MS) ∧ ∀ q5, hK h q5 = 0 → ∀ h7, h7 = nA h q5 0 (Int32.ofNat (hL h b2) : Int32).toNatClampNeg → (X G mX41_infer (d + 1) none [] 10 [(0, .ref (a0)), (1, .ref (gW G 6)), (2, .ref (q5)), (3, .int (0))] [] h7 Q))))) : C G mX41_infer (d + 1) [.ref (a0), .ref (gW G 6)] h Q := by
  refine C.of_X (by decide +kernel) (Nat.le_of_ble_eq_true rfl) wX41_infer ?_
  show X G mX41_infer (d + 1) none [] 0 [(0, .ref (a0)), (1, .ref (gW G 6))] [] h Q
  refine x_aload_n (pc' := 1) 0 (dX41_infer 0 rfl rfl) rfl rfl rfl ?_
  obtain ⟨k1, hf⟩ := hf
  obtain ⟨b2, e3, hf⟩ := hf
  refine x_getR (pc' := 4) (dX41_infer 1 rfl rfl) g333 q1693 (Or.inr q1694) rfl (hf_of 37 k1 rfl (by decide) m37_333) e3 ?_
  obtain ⟨k4, hf⟩ := hf
  refine x_alen (pc' := 5) (t := 9) (ty := .object "LetMill$Exp") (dX41_infer 2 rfl rfl) rfl rfl k4 ?_
  obtain ⟨z9, n1, n2, hf⟩ := hf
  refine x_newa0 (pc' := 7) (dX41_infer 3 rfl rfl) rfl z9 (by decide) n1 n2 (fun q5 h7 k6 e8 => ?_)
  replace hf := hf q5 k6 h7 e8
  replace k1 : hK h7 a0 = 38 := by rw [e8]; exact kNA k1 (by decide) k6
  replace k4 : hK h7 b2 = 1009 := by rw [e8]; exact kNA k4 (by decide) k6
  have k10 : hK h7 q5 = 1000 := by rw [e8]; exact kNAs
  refine x_astore_n (pc' := 8) (dX41_infer 4 rfl rfl) rfl (by decide) rfl rfl ?_
  refine x_iconst (pc' := 9) (v := 0) (dX41_infer 5 rfl rfl) (by decide) rfl ?_
  refine x_istore_n (pc' := 10) (dX41_infer 6 rfl rfl) rfl (by decide) rfl rfl ?_
  exact X.sub [2, 3, 1, 0] rfl (by simp) hf
theorem bX41_infer_10 (G : Gh) (d : Nat) (h : AH) (Q : Outcome → AH → Prop) (l0 : Nat) (l2 : Nat) (l3 : Int32) (s2 : So 2 (gW G) h) (s6 : So 6 (gW G) h) (hf : hK h l0 = 38 ∧ (∃ b2, fR h l0 333 = some b2 ∧ (hK h b2 = 1009 ∧ (((Int32.ofNat (hL h b2)) ≤ l3 → (∃ b6, fR h l0 333 = some b6 ∧ (hK h b6 = 1009 ∧ (hK h l2 = 1000 ∧ (C G mX3_built_2 d [.ref (gW G 2), .int (Int32.ofNat (hL h b6)), .ref (l2), .int (0), .int (Int32.ofNat (hL h l2))] h (KI Q (fun x12 h10 => Q (.returned (some (.int x12))) h10))))))) ∧ (¬ ((Int32.ofNat (hL h b2)) ≤ l3) → (∃ b13, fR h l0 333 = some b13 ∧ (hK h b13 = 1009 ∧ vp_in l3 (hL h b13) ∧ ∃ b17, aR h b13 l3.toNatClampNeg = some b17 ∧ (∃ (k : Nat) (ν : Mu), VT ⟨"LetMill$Exp", "infer", "(LLetMill$Typer;)I"⟩ VMExp_infer k ν ∧ hK h b17 = k + 1 ∧ C G ν d [.ref (b17), .ref (gW G 6)] h (KI Q (fun x21 h19 => hK h19 l2 = 1000 ∧ Ns (gW G) l2 ∧ vp_in l3 (hL h19 l2) ∧ ∀ h24, h24 = sI h19 l2 l3.toNatClampNeg x21 → (∀ x27 : Int32, x27 = l3 + 1 → (X G mX41_infer (d + 1) none [] 10 [(0, .ref (l0)), (1, .ref (gW G 6)), (2, .ref (l2)), (3, .int (x27))] [] h24 Q)))))))))))) : X G mX41_infer (d + 1) none [] 10 [(0, .ref (l0)), (1, .ref (gW G 6)), (2, .ref (l2)), (3, .int (l3))] [] h Q := by
  refine x_iload_n (pc' := 11) 3 (dX41_infer 7 rfl rfl) rfl rfl rfl ?_
  refine x_aload_n (pc' := 12) 0 (dX41_infer 8 rfl rfl) rfl rfl rfl ?_
  obtain ⟨k1, hf⟩ := hf
  obtain ⟨b2, e3, hf⟩ := hf
  refine x_getR (pc' := 15) (dX41_infer 9 rfl rfl) g333 q1693 (Or.inr q1694) rfl (hf_of 37 k1 rfl (by decide) m37_333) e3 ?_
  obtain ⟨k4, hf⟩ := hf
  refine x_alen (pc' := 16) (t := 9) (ty := .object "LetMill$Exp") (dX41_infer 10 rfl rfl) rfl rfl k4 ?_
  refine x_icmp_ge (pc' := 19) (tgt := 38) (dX41_infer 11 rfl rfl) (by decide) rfl (fun c5 => ?_) (fun c5 => ?_)
  · replace hf := hf.1 c5
    refine x_aload_n (pc' := 39) 1 (dX41_infer 23 rfl rfl) rfl rfl rfl ?_
    refine x_getR (pc' := 42) (dX41_infer 24 rfl rfl) g108 q798 (Or.inl rfl) rfl (hf_of 9 s6.1 rfl (by decide) m9_108) (s6.2 0 _ rfl rfl).1 ?_
    refine x_aload_n (pc' := 43) 0 (dX41_infer 25 rfl rfl) rfl rfl rfl ?_
    obtain ⟨b6, e7, hf⟩ := hf
    refine x_getR (pc' := 46) (dX41_infer 26 rfl rfl) g333 q1693 (Or.inr q1694) rfl (hf_of 37 k1 rfl (by decide) m37_333) e7 ?_
    obtain ⟨k8, hf⟩ := hf
    refine x_alen (pc' := 47) (t := 9) (ty := .object "LetMill$Exp") (dX41_infer 27 rfl rfl) rfl rfl k8 ?_
    refine x_aload_n (pc' := 48) 2 (dX41_infer 28 rfl rfl) rfl rfl rfl ?_
    refine x_iconst (pc' := 49) (v := 0) (dX41_infer 29 rfl rfl) (by decide) rfl ?_
    refine x_aload_n (pc' := 50) 2 (dX41_infer 30 rfl rfl) rfl rfl rfl ?_
    obtain ⟨k9, hf⟩ := hf
    refine x_alen (pc' := 51) (t := 0) (ty := .int) (dX41_infer 31 rfl rfl) rfl rfl k9 ?_
    refine x_inv (pc' := 54) (ν := mX3_built_2) (av := [_, _, _, _, _]) (st := []) rfl rfl (dX41_infer 32 rfl rfl) (Nat.le_of_ble_eq_true rfl) wX3_built_2 q213 (inv_V (k := 2) (dX41_infer 32 rfl rfl) q2673 q2349 q2350 wX3_built_2 (by decide) lX3_built_2 (by decide) s2.1) (exN (by decide)) rfl ?_
    refine C.mono hf (fun _ _ => KI.g (fun x12 h10 hf le11 => ?_))
    have k1 := leK le11 k1 (by decide)
    have k4 := leK le11 k4 (by decide)
    have k8 := leK le11 k8 (by decide)
    have k9 := leK le11 k9 (by decide)
    replace s2 := s2.le sc2 (le11)
    replace s6 := s6.le sc6 (le11)
    exact x_iret (dX41_infer 33 rfl rfl) rfl hf
  · replace hf := hf.2 c5
    refine x_aload_n (pc' := 20) 2 (dX41_infer 12 rfl rfl) rfl rfl rfl ?_
    refine x_iload_n (pc' := 21) 3 (dX41_infer 13 rfl rfl) rfl rfl rfl ?_
    refine x_aload_n (pc' := 22) 0 (dX41_infer 14 rfl rfl) rfl rfl rfl ?_
    obtain ⟨b13, e14, hf⟩ := hf
    refine x_getR (pc' := 25) (dX41_infer 15 rfl rfl) g333 q1693 (Or.inr q1694) rfl (hf_of 37 k1 rfl (by decide) m37_333) e14 ?_
    refine x_iload_n (pc' := 26) 3 (dX41_infer 16 rfl rfl) rfl rfl rfl ?_
    obtain ⟨k15, hf⟩ := hf
    obtain ⟨i16, hf⟩ := hf
    obtain ⟨b17, e18, hf⟩ := hf
    refine x_aald (pc' := 27) (t := 9) (C := "LetMill$Exp") (dX41_infer 17 rfl rfl) rfl (by decide) rfl k15 i16 e18 ?_
    refine x_aload_n (pc' := 28) 1 (dX41_infer 18 rfl rfl) rfl rfl rfl ?_
    obtain ⟨k, ν, ⟨v0, v1, v2, v3, v4, v5, v6, v7⟩, k28, hf⟩ := hf
    refine x_inv (pc' := 31) (ν := ν) (st := [_, _]) rfl (sub_tr v7 rfl) (dX41_infer 19 rfl rfl) (by have := v5; simp only [List.map, List.sum_cons, List.sum_nil, Value.category]; omega) v1 v2 (inv_U (k := k) (av := [_]) (dX41_infer 19 rfl rfl) q2654 q2512 (by decide) v3 v4 (by decide) (show _ = some 1 by decide +kernel) v0 k28) (exN v6) rfl ?_
    refine C.mono hf (fun _ _ => KI.g (fun x21 h19 hf le20 => ?_))
    replace le20 := Le.nx v6 le20
    have k1 := leK le20 k1 (by decide)
    have k4 := leK le20 k4 (by decide)
    have k15 := leK le20 k15 (by decide)
    replace s2 := s2.le sc2 (le20)
    replace s6 := s6.le sc6 (le20)
    obtain ⟨k22, hf⟩ := hf
    obtain ⟨n26, hf⟩ := hf
    obtain ⟨i23, hf⟩ := hf
    refine x_iast (pc' := 32) (dX41_infer 20 rfl rfl) rfl k22 (Or.inr ⟨n26, by decide⟩) i23 (fun h24 e25 => ?_)
    replace hf := hf h24 e25
    replace k1 : hK h24 l0 = 38 := by rw [e25]; exact k1
    replace k4 : hK h24 b2 = 1009 := by rw [e25]; exact k4
    replace k15 : hK h24 b13 = 1009 := by rw [e25]; exact k15
    replace k22 : hK h24 l2 = 1000 := by rw [e25]; exact k22
    replace s2 : So 2 (gW G) h24 := by rw [e25]; exact s2.le sc2 (sI_le )
    replace s6 : So 6 (gW G) h24 := by rw [e25]; exact s6.le sc6 (sI_le )
    replace hf := hf _ rfl
    refine x_iinc (pc' := 35) 3 (dX41_infer 21 rfl rfl) rfl (by rfl) (by decide) rfl rfl ?_
    refine x_goto (tgt := 10) (dX41_infer 22 rfl rfl) (by decide) ?_
    exact X.sub [1, 2, 3, 0] rfl (by simp) hf
theorem bX41_whole (G : Gh) (d : Nat) (h : AH) (Q : Outcome → AH → Prop) (a0 : Nat) (s3 : So 3 (gW G) h) (hf : hK h a0 = 38 ∧ (∃ b2, fR h a0 333 = some b2 ∧ (hK h b2 = 1009 ∧ (C G mX6_tuple d [.ref (gW G 3), .int (Int32.ofNat (hL h b2))] h (KI Q (fun x7 h5 => Q (.returned (some (.int x7))) h5)))))) : C G mX41_whole (d + 1) [.ref (a0), .ref (gW G 3)] h Q := by
  refine C.of_X (by decide +kernel) (Nat.le_of_ble_eq_true rfl) wX41_whole ?_
  show X G mX41_whole (d + 1) none [] 0 [(0, .ref (a0)), (1, .ref (gW G 3))] [] h Q
  refine x_aload_n (pc' := 1) 1 (dX41_whole 0 rfl rfl) rfl rfl rfl ?_
  refine x_aload_n (pc' := 2) 0 (dX41_whole 1 rfl rfl) rfl rfl rfl ?_
  obtain ⟨k1, hf⟩ := hf
  obtain ⟨b2, e3, hf⟩ := hf
  refine x_getR (pc' := 5) (dX41_whole 2 rfl rfl) g333 q1693 (Or.inr q1694) rfl (hf_of 37 k1 rfl (by decide) m37_333) e3 ?_
  obtain ⟨k4, hf⟩ := hf
  refine x_alen (pc' := 6) (t := 9) (ty := .object "LetMill$Exp") (dX41_whole 3 rfl rfl) rfl rfl k4 ?_
  refine x_inv (pc' := 9) (ν := mX6_tuple) (av := [_, _]) (st := []) rfl rfl (dX41_whole 4 rfl rfl) (Nat.le_of_ble_eq_true rfl) wX6_tuple q220 (inv_V (k := 4) (dX41_whole 4 rfl rfl) q3260 q3261 q3262 wX6_tuple (by decide) lX6_tuple (by decide) s3.1) (exN (by decide)) rfl ?_
  refine C.mono hf (fun _ _ => KI.g (fun x7 h5 hf le6 => ?_))
  have k1 := leK le6 k1 (by decide)
  have k4 := leK le6 k4 (by decide)
  replace s3 := s3.le sc3 (le6)
  exact x_iret (dX41_whole 5 rfl rfl) rfl hf
theorem bX42_init (G : Gh) (d : Nat) (h : AH) (Q : Outcome → AH → Prop) (a0 : Nat) (p1 : Int32) (p2 : Nat) (hf : C G mX40_init d [.ref (a0), .int (p1), .ref (p2)] h (KV Q (fun h1 => Q (.returned none) h1))) : C G mX42_init (d + 1) [.ref (a0), .int (p1), .ref (p2)] h Q := by
  refine C.of_X (by decide +kernel) (Nat.le_of_ble_eq_true rfl) wX42_init ?_
  show X G mX42_init (d + 1) (some a0) [] 0 [(0, .ref (a0)), (1, .int (p1)), (2, .ref (p2))] [] h Q
  refine x_aload_n (pc' := 1) 0 (dX42_init 0 rfl rfl) rfl rfl rfl ?_
  refine x_iload_n (pc' := 2) 1 (dX42_init 1 rfl rfl) rfl rfl rfl ?_
  refine x_aload_n (pc' := 3) 2 (dX42_init 2 rfl rfl) rfl rfl rfl ?_
  refine x_inv (pc' := 6) (ν := mX40_init) (av := [_, _, _]) (st := []) rfl rfl (dX42_init 3 rfl rfl) (Nat.le_of_ble_eq_true rfl) wX40_init q261 (inv_I (dX42_init 3 rfl rfl) q1707 q1687 q1688 rfl (by decide) lX40_init) (fun b hb => by exact Or.inr (by rw [← hb]; rfl)) rfl ?_
  refine C.mono hf (fun _ _ => KV.g (fun h1 hf le2 => ?_))
  exact x_vret (dX42_init 4 rfl rfl) rfl hf
theorem bX42_infer (G : Gh) (d : Nat) (h : AH) (Q : Outcome → AH → Prop) (a0 : Nat) (hf : X G mX42_infer (d + 1) none [] 4 [(0, .ref (a0)), (1, .ref (gW G 6)), (2, .int (0)), (3, .int (0))] [] h Q) : C G mX42_infer (d + 1) [.ref (a0), .ref (gW G 6)] h Q := by
  refine C.of_X (by decide +kernel) (Nat.le_of_ble_eq_true rfl) wX42_infer ?_
  show X G mX42_infer (d + 1) none [] 0 [(0, .ref (a0)), (1, .ref (gW G 6))] [] h Q
  refine x_iconst (pc' := 1) (v := 0) (dX42_infer 0 rfl rfl) (by decide) rfl ?_
  refine x_istore_n (pc' := 2) (dX42_infer 1 rfl rfl) rfl (by decide) rfl rfl ?_
  refine x_iconst (pc' := 3) (v := 0) (dX42_infer 2 rfl rfl) (by decide) rfl ?_
  refine x_istore_n (pc' := 4) (dX42_infer 3 rfl rfl) rfl (by decide) rfl rfl ?_
  exact X.sub [2, 3, 1, 0] rfl (by simp) hf
theorem bX42_infer_4 (G : Gh) (d : Nat) (h : AH) (Q : Outcome → AH → Prop) (l0 : Nat) (l2 : Int32) (l3 : Int32) (hf : hK h l0 = 39 ∧ (∃ b2, fR h l0 333 = some b2 ∧ (hK h b2 = 1009 ∧ (((Int32.ofNat (hL h b2)) ≤ l3 → (Q (.returned (some (.int l2))) h)) ∧ (¬ ((Int32.ofNat (hL h b2)) ≤ l3) → (∃ b6, fR h l0 333 = some b6 ∧ (hK h b6 = 1009 ∧ vp_in l3 (hL h b6) ∧ ∃ b10, aR h b6 l3.toNatClampNeg = some b10 ∧ (∃ (k : Nat) (ν : Mu), VT ⟨"LetMill$Exp", "infer", "(LLetMill$Typer;)I"⟩ VMExp_infer k ν ∧ hK h b10 = k + 1 ∧ C G ν d [.ref (b10), .ref (gW G 6)] h (KI Q (fun x14 h12 => ∀ x15 : Int32, x15 = l3 + 1 → (X G mX42_infer (d + 1) none [] 4 [(0, .ref (l0)), (1, .ref (gW G 6)), (2, .int (x14)), (3, .int (x15))] [] h12 Q))))))))))) : X G mX42_infer (d + 1) none [] 4 [(0, .ref (l0)), (1, .ref (gW G 6)), (2, .int (l2)), (3, .int (l3))] [] h Q := by
  refine x_iload_n (pc' := 5) 3 (dX42_infer 4 rfl rfl) rfl rfl rfl ?_
  refine x_aload_n (pc' := 6) 0 (dX42_infer 5 rfl rfl) rfl rfl rfl ?_
  obtain ⟨k1, hf⟩ := hf
  obtain ⟨b2, e3, hf⟩ := hf
  refine x_getR (pc' := 9) (dX42_infer 6 rfl rfl) g333 q1695 (Or.inr q1696) rfl (hf_of 38 k1 rfl (by decide) m38_333) e3 ?_
  obtain ⟨k4, hf⟩ := hf
  refine x_alen (pc' := 10) (t := 9) (ty := .object "LetMill$Exp") (dX42_infer 7 rfl rfl) rfl rfl k4 ?_
  refine x_icmp_ge (pc' := 13) (tgt := 30) (dX42_infer 8 rfl rfl) (by decide) rfl (fun c5 => ?_) (fun c5 => ?_)
  · replace hf := hf.1 c5
    refine x_iload_n (pc' := 31) 2 (dX42_infer 18 rfl rfl) rfl rfl rfl ?_
    exact x_iret (dX42_infer 19 rfl rfl) rfl hf
  · replace hf := hf.2 c5
    refine x_aload_n (pc' := 14) 0 (dX42_infer 9 rfl rfl) rfl rfl rfl ?_
    obtain ⟨b6, e7, hf⟩ := hf
    refine x_getR (pc' := 17) (dX42_infer 10 rfl rfl) g333 q1695 (Or.inr q1696) rfl (hf_of 38 k1 rfl (by decide) m38_333) e7 ?_
    refine x_iload_n (pc' := 18) 3 (dX42_infer 11 rfl rfl) rfl rfl rfl ?_
    obtain ⟨k8, hf⟩ := hf
    obtain ⟨i9, hf⟩ := hf
    obtain ⟨b10, e11, hf⟩ := hf
    refine x_aald (pc' := 19) (t := 9) (C := "LetMill$Exp") (dX42_infer 12 rfl rfl) rfl (by decide) rfl k8 i9 e11 ?_
    refine x_aload_n (pc' := 20) 1 (dX42_infer 13 rfl rfl) rfl rfl rfl ?_
    obtain ⟨k, ν, ⟨v0, v1, v2, v3, v4, v5, v6, v7⟩, k16, hf⟩ := hf
    refine x_inv (pc' := 23) (ν := ν) (st := []) rfl (sub_tr v7 rfl) (dX42_infer 14 rfl rfl) (by have := v5; simp only [List.map, List.sum_cons, List.sum_nil, Value.category]; omega) v1 v2 (inv_U (k := k) (av := [_]) (dX42_infer 14 rfl rfl) q2648 q2512 (by decide) v3 v4 (by decide) (show _ = some 1 by decide +kernel) v0 k16) (exN v6) rfl ?_
    refine C.mono hf (fun _ _ => KI.g (fun x14 h12 hf le13 => ?_))
    replace le13 := Le.nx v6 le13
    have k1 := leK le13 k1 (by decide)
    have k4 := leK le13 k4 (by decide)
    have k8 := leK le13 k8 (by decide)
    refine x_istore_n (pc' := 24) (dX42_infer 15 rfl rfl) rfl (by decide) rfl rfl ?_
    replace hf := hf _ rfl
    refine x_iinc (pc' := 27) 3 (dX42_infer 16 rfl rfl) rfl (by rfl) (by decide) rfl rfl ?_
    refine x_goto (tgt := 4) (dX42_infer 17 rfl rfl) (by decide) ?_
    exact X.sub [2, 3, 1, 0] rfl (by simp) hf
theorem bX42_isStill (G : Gh) (d : Nat) (h : AH) (Q : Outcome → AH → Prop) (a0 : Nat) (hf : Q (.returned (some (.int 0))) h) : C G mX42_isStill d [.ref (a0)] h Q := by
  refine C.of_X (by decide +kernel) (Nat.le_of_ble_eq_true rfl) wX42_isStill ?_
  show X G mX42_isStill d none [] 0 [(0, .ref (a0))] [] h Q
  refine x_iconst (pc' := 1) (v := 0) (dX42_isStill 0 rfl rfl) (by decide) rfl ?_
  exact x_zret (ty := .boolean) (dX42_isStill 1 rfl rfl) rfl (by decide) hf
theorem bX42_whole (G : Gh) (d : Nat) (h : AH) (Q : Outcome → AH → Prop) (a0 : Nat) (hf : Q (.returned (some (.int 1))) h) : C G mX42_whole d [.ref (a0), .ref (gW G 3)] h Q := by
  refine C.of_X (by decide +kernel) (Nat.le_of_ble_eq_true rfl) wX42_whole ?_
  show X G mX42_whole d none [] 0 [(0, .ref (a0)), (1, .ref (gW G 3))] [] h Q
  refine x_iconst (pc' := 1) (v := 1) (dX42_whole 0 rfl rfl) (by decide) rfl ?_
  exact x_iret (dX42_whole 1 rfl rfl) rfl hf
theorem bX42_resume (G : Gh) (d : Nat) (h : AH) (Q : Outcome → AH → Prop) (a0 : Nat) (p2 : Int32) (p3 : Int32) (p4 : Int32) (s3 : So 3 (gW G) h) (hf : hK h a0 = 39 ∧ (∃ b2, fR h a0 333 = some b2 ∧ (hK h b2 = 1009 ∧ (((Int32.ofNat (hL h b2)) ≤ (p2 + 2) → (∃ b6, fR h a0 333 = some b6 ∧ (hK h b6 = 1009 ∧ vp_in (p2 + 1) (hL h b6) ∧ ∃ b10, aR h b6 (p2 + 1).toNatClampNeg = some b10 ∧ (C G mX6_next d [.ref (gW G 3), .ref (b10), .int (p3)] h (KV Q (fun h12 => Q (.returned none) h12)))))) ∧ (¬ ((Int32.ofNat (hL h b2)) ≤ (p2 + 2)) → (C G mX6_frame d [.ref (gW G 3), .ref (a0), .int (p2 + 1), .int (p3)] h (KV Q (fun h14 => ∃ b16, fR h14 a0 333 = some b16 ∧ (hK h14 b16 = 1009 ∧ vp_in (p2 + 1) (hL h14 b16) ∧ ∃ b20, aR h14 b16 (p2 + 1).toNatClampNeg = some b20 ∧ (C G mX6_next d [.ref (gW G 3), .ref (b20), .int (p3)] h14 (KV Q (fun h22 => Q (.returned none) h22)))))))))))) : C G mX42_resume (d + 1) [.ref (a0), .ref (gW G 3), .int (p2), .int (p3), .int (p4)] h Q := by
  refine C.of_X (by decide +kernel) (Nat.le_of_ble_eq_true rfl) wX42_resume ?_
  show X G mX42_resume (d + 1) none [] 0 [(0, .ref (a0)), (1, .ref (gW G 3)), (2, .int (p2)), (3, .int (p3)), (4, .int (p4))] [] h Q
  refine x_iload_n (pc' := 1) 2 (dX42_resume 0 rfl rfl) rfl rfl rfl ?_
  refine x_iconst (pc' := 2) (v := 2) (dX42_resume 1 rfl rfl) (by decide) rfl ?_
  refine x_iadd (pc' := 3) (dX42_resume 2 rfl rfl) rfl ?_
  refine x_aload_n (pc' := 4) 0 (dX42_resume 3 rfl rfl) rfl rfl rfl ?_
  obtain ⟨k1, hf⟩ := hf
  obtain ⟨b2, e3, hf⟩ := hf
  refine x_getR (pc' := 7) (dX42_resume 4 rfl rfl) g333 q1695 (Or.inr q1696) rfl (hf_of 38 k1 rfl (by decide) m38_333) e3 ?_
  obtain ⟨k4, hf⟩ := hf
  refine x_alen (pc' := 8) (t := 9) (ty := .object "LetMill$Exp") (dX42_resume 5 rfl rfl) rfl rfl k4 ?_
  refine x_icmp_ge (pc' := 11) (tgt := 20) (dX42_resume 6 rfl rfl) (by decide) rfl (fun c5 => ?_) (fun c5 => ?_)
  · replace hf := hf.1 c5
    refine x_aload_n (pc' := 21) 1 (dX42_resume 14 rfl rfl) rfl rfl rfl ?_
    refine x_aload_n (pc' := 22) 0 (dX42_resume 15 rfl rfl) rfl rfl rfl ?_
    obtain ⟨b6, e7, hf⟩ := hf
    refine x_getR (pc' := 25) (dX42_resume 16 rfl rfl) g333 q1695 (Or.inr q1696) rfl (hf_of 38 k1 rfl (by decide) m38_333) e7 ?_
    refine x_iload_n (pc' := 26) 2 (dX42_resume 17 rfl rfl) rfl rfl rfl ?_
    refine x_iconst (pc' := 27) (v := 1) (dX42_resume 18 rfl rfl) (by decide) rfl ?_
    refine x_iadd (pc' := 28) (dX42_resume 19 rfl rfl) rfl ?_
    obtain ⟨k8, hf⟩ := hf
    obtain ⟨i9, hf⟩ := hf
    obtain ⟨b10, e11, hf⟩ := hf
    refine x_aald (pc' := 29) (t := 9) (C := "LetMill$Exp") (dX42_resume 20 rfl rfl) rfl (by decide) rfl k8 i9 e11 ?_
    refine x_iload_n (pc' := 30) 3 (dX42_resume 21 rfl rfl) rfl rfl rfl ?_
    refine x_inv (pc' := 33) (ν := mX6_next) (av := [_, _, _]) (st := []) rfl rfl (dX42_resume 22 rfl rfl) (Nat.le_of_ble_eq_true rfl) wX6_next q220 (inv_V (k := 4) (dX42_resume 22 rfl rfl) q3269 q2881 q2882 wX6_next (by decide) lX6_next (by decide) s3.1) (exN (by decide)) rfl ?_
    refine C.mono hf (fun _ _ => KV.g (fun h12 hf le13 => ?_))
    have k1 := leK le13 k1 (by decide)
    have k4 := leK le13 k4 (by decide)
    have k8 := leK le13 k8 (by decide)
    replace s3 := s3.le sc3 (le13)
    exact x_vret (dX42_resume 23 rfl rfl) rfl hf
  · replace hf := hf.2 c5
    refine x_aload_n (pc' := 12) 1 (dX42_resume 7 rfl rfl) rfl rfl rfl ?_
    refine x_aload_n (pc' := 13) 0 (dX42_resume 8 rfl rfl) rfl rfl rfl ?_
    refine x_iload_n (pc' := 14) 2 (dX42_resume 9 rfl rfl) rfl rfl rfl ?_
    refine x_iconst (pc' := 15) (v := 1) (dX42_resume 10 rfl rfl) (by decide) rfl ?_
    refine x_iadd (pc' := 16) (dX42_resume 11 rfl rfl) rfl ?_
    refine x_iload_n (pc' := 17) 3 (dX42_resume 12 rfl rfl) rfl rfl rfl ?_
    refine x_inv (pc' := 20) (ν := mX6_frame) (av := [_, _, _, _]) (st := []) rfl rfl (dX42_resume 13 rfl rfl) (Nat.le_of_ble_eq_true rfl) wX6_frame q220 (inv_V (k := 4) (dX42_resume 13 rfl rfl) q3268 q2899 q2900 wX6_frame (by decide) lX6_frame (by decide) s3.1) (exN (by decide)) rfl ?_
    refine C.mono hf (fun _ _ => KV.g (fun h14 hf le15 => ?_))
    have k1 := leK le15 k1 (by decide)
    have k4 := leK le15 k4 (by decide)
    replace s3 := s3.le sc3 (le15)
    refine x_aload_n (pc' := 21) 1 (dX42_resume 14 rfl rfl) rfl rfl rfl ?_
    refine x_aload_n (pc' := 22) 0 (dX42_resume 15 rfl rfl) rfl rfl rfl ?_
    obtain ⟨b16, e17, hf⟩ := hf
    refine x_getR (pc' := 25) (dX42_resume 16 rfl rfl) g333 q1695 (Or.inr q1696) rfl (hf_of 38 k1 rfl (by decide) m38_333) e17 ?_
    refine x_iload_n (pc' := 26) 2 (dX42_resume 17 rfl rfl) rfl rfl rfl ?_
    refine x_iconst (pc' := 27) (v := 1) (dX42_resume 18 rfl rfl) (by decide) rfl ?_
    refine x_iadd (pc' := 28) (dX42_resume 19 rfl rfl) rfl ?_
    obtain ⟨k18, hf⟩ := hf
    obtain ⟨i19, hf⟩ := hf
    obtain ⟨b20, e21, hf⟩ := hf
    refine x_aald (pc' := 29) (t := 9) (C := "LetMill$Exp") (dX42_resume 20 rfl rfl) rfl (by decide) rfl k18 i19 e21 ?_
    refine x_iload_n (pc' := 30) 3 (dX42_resume 21 rfl rfl) rfl rfl rfl ?_
    refine x_inv (pc' := 33) (ν := mX6_next) (av := [_, _, _]) (st := []) rfl rfl (dX42_resume 22 rfl rfl) (Nat.le_of_ble_eq_true rfl) wX6_next q220 (inv_V (k := 4) (dX42_resume 22 rfl rfl) q3269 q2881 q2882 wX6_next (by decide) lX6_next (by decide) s3.1) (exN (by decide)) rfl ?_
    refine C.mono hf (fun _ _ => KV.g (fun h22 hf le23 => ?_))
    have k1 := leK le23 k1 (by decide)
    have k4 := leK le23 k4 (by decide)
    have k18 := leK le23 k18 (by decide)
    replace s3 := s3.le sc3 (le23)
    exact x_vret (dX42_resume 23 rfl rfl) rfl hf
theorem bX43_init (G : Gh) (d : Nat) (h : AH) (Q : Outcome → AH → Prop) (a0 : Nat) (p1 : Int32) (p2 : Nat) (hf : C G mX40_init d [.ref (a0), .int (p1), .ref (p2)] h (KV Q (fun h1 => Q (.returned none) h1))) : C G mX43_init (d + 1) [.ref (a0), .int (p1), .ref (p2)] h Q := by
  refine C.of_X (by decide +kernel) (Nat.le_of_ble_eq_true rfl) wX43_init ?_
  show X G mX43_init (d + 1) (some a0) [] 0 [(0, .ref (a0)), (1, .int (p1)), (2, .ref (p2))] [] h Q
  refine x_aload_n (pc' := 1) 0 (dX43_init 0 rfl rfl) rfl rfl rfl ?_
  refine x_iload_n (pc' := 2) 1 (dX43_init 1 rfl rfl) rfl rfl rfl ?_
  refine x_aload_n (pc' := 3) 2 (dX43_init 2 rfl rfl) rfl rfl rfl ?_
  refine x_inv (pc' := 6) (ν := mX40_init) (av := [_, _, _]) (st := []) rfl rfl (dX43_init 3 rfl rfl) (Nat.le_of_ble_eq_true rfl) wX40_init q261 (inv_I (dX43_init 3 rfl rfl) q1717 q1687 q1688 rfl (by decide) lX40_init) (fun b hb => by exact Or.inr (by rw [← hb]; rfl)) rfl ?_
  refine C.mono hf (fun _ _ => KV.g (fun h1 hf le2 => ?_))
  exact x_vret (dX43_init 4 rfl rfl) rfl hf
theorem bX43_infer (G : Gh) (d : Nat) (h : AH) (Q : Outcome → AH → Prop) (a0 : Nat) (s2 : So 2 (gW G) h) (s6 : So 6 (gW G) h) (hf : hK h a0 = 40 ∧ (∃ b2, fR h a0 333 = some b2 ∧ (hK h b2 = 1009 ∧ (((Int32.ofNat (hL h b2)) = 0 → (C G mX3_variable d [.ref (gW G 2)] h (KI Q (fun x20 h18 => C G mX3_built_3 d [.ref (gW G 2), .int (10), .int (x20)] h18 (KI Q (fun x23 h21 => Q (.returned (some (.int x23))) h21)))))) ∧ (¬ ((Int32.ofNat (hL h b2)) = 0) → (∃ b6, fR h a0 333 = some b6 ∧ (hK h b6 = 1009 ∧ vp_in 0 (hL h b6) ∧ ∃ b10, aR h b6 (0 : Int32).toNatClampNeg = some b10 ∧ (∃ (k : Nat) (ν : Mu), VT ⟨"LetMill$Exp", "infer", "(LLetMill$Typer;)I"⟩ VMExp_infer k ν ∧ hK h b10 = k + 1 ∧ C G ν d [.ref (b10), .ref (gW G 6)] h (KI Q (fun x14 h12 => X G mX43_infer (d + 1) none [] 38 [(0, .ref (a0)), (1, .ref (gW G 6)), (2, .int (x14)), (3, .int (1))] [] h12 Q)))))))))) : C G mX43_infer (d + 1) [.ref (a0), .ref (gW G 6)] h Q := by
  refine C.of_X (by decide +kernel) (Nat.le_of_ble_eq_true rfl) wX43_infer ?_
  show X G mX43_infer (d + 1) none [] 0 [(0, .ref (a0)), (1, .ref (gW G 6))] [] h Q
  refine x_aload_n (pc' := 1) 0 (dX43_infer 0 rfl rfl) rfl rfl rfl ?_
  obtain ⟨k1, hf⟩ := hf
  obtain ⟨b2, e3, hf⟩ := hf
  refine x_getR (pc' := 4) (dX43_infer 1 rfl rfl) g333 q1691 (Or.inr q1692) rfl (hf_of 39 k1 rfl (by decide) m39_333) e3 ?_
  obtain ⟨k4, hf⟩ := hf
  refine x_alen (pc' := 5) (t := 9) (ty := .object "LetMill$Exp") (dX43_infer 2 rfl rfl) rfl rfl k4 ?_
  refine x_if_ne (pc' := 8) (tgt := 25) (dX43_infer 3 rfl rfl) (by decide) rfl (fun c5 => ?_) (fun c5 => ?_)
  · replace hf := hf.2 c5
    refine x_aload_n (pc' := 26) 0 (dX43_infer 12 rfl rfl) rfl rfl rfl ?_
    obtain ⟨b6, e7, hf⟩ := hf
    refine x_getR (pc' := 29) (dX43_infer 13 rfl rfl) g333 q1691 (Or.inr q1692) rfl (hf_of 39 k1 rfl (by decide) m39_333) e7 ?_
    refine x_iconst (pc' := 30) (v := 0) (dX43_infer 14 rfl rfl) (by decide) rfl ?_
    obtain ⟨k8, hf⟩ := hf
    obtain ⟨i9, hf⟩ := hf
    obtain ⟨b10, e11, hf⟩ := hf
    refine x_aald (pc' := 31) (t := 9) (C := "LetMill$Exp") (dX43_infer 15 rfl rfl) rfl (by decide) rfl k8 i9 e11 ?_
    refine x_aload_n (pc' := 32) 1 (dX43_infer 16 rfl rfl) rfl rfl rfl ?_
    obtain ⟨k, ν, ⟨v0, v1, v2, v3, v4, v5, v6, v7⟩, k15, hf⟩ := hf
    refine x_inv (pc' := 35) (ν := ν) (st := []) rfl (sub_tr v7 rfl) (dX43_infer 17 rfl rfl) (by have := v5; simp only [List.map, List.sum_cons, List.sum_nil, Value.category]; omega) v1 v2 (inv_U (k := k) (av := [_]) (dX43_infer 17 rfl rfl) q2645 q2512 (by decide) v3 v4 (by decide) (show _ = some 1 by decide +kernel) v0 k15) (exN v6) rfl ?_
    refine C.mono hf (fun _ _ => KI.g (fun x14 h12 hf le13 => ?_))
    replace le13 := Le.nx v6 le13
    have k1 := leK le13 k1 (by decide)
    have k4 := leK le13 k4 (by decide)
    have k8 := leK le13 k8 (by decide)
    replace s2 := s2.le sc2 (le13)
    replace s6 := s6.le sc6 (le13)
    refine x_istore_n (pc' := 36) (dX43_infer 18 rfl rfl) rfl (by decide) rfl rfl ?_
    refine x_iconst (pc' := 37) (v := 1) (dX43_infer 19 rfl rfl) (by decide) rfl ?_
    refine x_istore_n (pc' := 38) (dX43_infer 20 rfl rfl) rfl (by decide) rfl rfl ?_
    exact X.sub [2, 3, 1, 0] rfl (by simp) hf
  · replace hf := hf.1 (Classical.not_not.mp c5)
    replace c5 := Classical.not_not.mp c5
    refine x_aload_n (pc' := 9) 1 (dX43_infer 4 rfl rfl) rfl rfl rfl ?_
    refine x_getR (pc' := 12) (dX43_infer 5 rfl rfl) g108 q797 (Or.inl rfl) rfl (hf_of 9 s6.1 rfl (by decide) m9_108) (s6.2 0 _ rfl rfl).1 ?_
    refine x_bipush (pc' := 14) (v := 10) (dX43_infer 6 rfl rfl) (by decide) rfl ?_
    refine x_aload_n (pc' := 15) 1 (dX43_infer 7 rfl rfl) rfl rfl rfl ?_
    refine x_getR (pc' := 18) (dX43_infer 8 rfl rfl) g108 q797 (Or.inl rfl) rfl (hf_of 9 s6.1 rfl (by decide) m9_108) (s6.2 0 _ rfl rfl).1 ?_
    refine x_inv (pc' := 21) (ν := mX3_variable) (av := [_]) (st := [_, _]) rfl rfl (dX43_infer 9 rfl rfl) (Nat.le_of_ble_eq_true rfl) wX3_variable q213 (inv_V (k := 2) (dX43_infer 9 rfl rfl) q2643 q2341 q2342 wX3_variable (by decide) lX3_variable (by decide) s2.1) (exN (by decide)) rfl ?_
    refine C.mono hf (fun _ _ => KI.g (fun x20 h18 hf le19 => ?_))
    have k1 := leK le19 k1 (by decide)
    have k4 := leK le19 k4 (by decide)
    replace s2 := s2.le sc2 (le19)
    replace s6 := s6.le sc6 (le19)
    refine x_inv (pc' := 24) (ν := mX3_built_3) (av := [_, _, _]) (st := []) rfl rfl (dX43_infer 10 rfl rfl) (Nat.le_of_ble_eq_true rfl) wX3_built_3 q213 (inv_V (k := 2) (dX43_infer 10 rfl rfl) q2644 q2378 q2379 wX3_built_3 (by decide) lX3_built_3 (by decide) s2.1) (exN (by decide)) rfl ?_
    refine C.mono hf (fun _ _ => KI.g (fun x23 h21 hf le22 => ?_))
    have k1 := leK le22 k1 (by decide)
    have k4 := leK le22 k4 (by decide)
    replace s2 := s2.le sc2 (le22)
    replace s6 := s6.le sc6 (le22)
    exact x_iret (dX43_infer 11 rfl rfl) rfl hf
theorem bX43_infer_38 (G : Gh) (d : Nat) (h : AH) (Q : Outcome → AH → Prop) (l0 : Nat) (l2 : Int32) (l3 : Int32) (s2 : So 2 (gW G) h) (s6 : So 6 (gW G) h) (hf : hK h l0 = 40 ∧ (∃ b2, fR h l0 333 = some b2 ∧ (hK h b2 = 1009 ∧ (((Int32.ofNat (hL h b2)) ≤ l3 → (C G mX3_built_3 d [.ref (gW G 2), .int (10), .int (l2)] h (KI Q (fun x8 h6 => Q (.returned (some (.int x8))) h6)))) ∧ (¬ ((Int32.ofNat (hL h b2)) ≤ l3) → (∃ b9, fR h l0 333 = some b9 ∧ (hK h b9 = 1009 ∧ vp_in l3 (hL h b9) ∧ ∃ b13, aR h b9 l3.toNatClampNeg = some b13 ∧ (∃ (k : Nat) (ν : Mu), VT ⟨"LetMill$Exp", "infer", "(LLetMill$Typer;)I"⟩ VMExp_infer k ν ∧ hK h b13 = k + 1 ∧ C G ν d [.ref (b13), .ref (gW G 6)] h (KI Q (fun x17 h15 => ∃ b18, fR h15 l0 333 = some b18 ∧ (hK h15 b18 = 1009 ∧ vp_in l3 (hL h15 b18) ∧ ∃ b22, aR h15 b18 l3.toNatClampNeg = some b22 ∧ (HF h15 b22 296 0 ∧ (C G mX11_same d [.ref (gW G 6), .int (x17), .int (l2), .int (fI h15 b22 296)] h15 (KV Q (fun h25 => ∀ x27 : Int32, x27 = l3 + 1 → (X G mX43_infer (d + 1) none [] 38 [(0, .ref (l0)), (1, .ref (gW G 6)), (2, .int (l2)), (3, .int (x27))] [] h25 Q)))))))))))))))) : X G mX43_infer (d + 1) none [] 38 [(0, .ref (l0)), (1, .ref (gW G 6)), (2, .int (l2)), (3, .int (l3))] [] h Q := by
  refine x_iload_n (pc' := 39) 3 (dX43_infer 21 rfl rfl) rfl rfl rfl ?_
  refine x_aload_n (pc' := 40) 0 (dX43_infer 22 rfl rfl) rfl rfl rfl ?_
  obtain ⟨k1, hf⟩ := hf
  obtain ⟨b2, e3, hf⟩ := hf
  refine x_getR (pc' := 43) (dX43_infer 23 rfl rfl) g333 q1691 (Or.inr q1692) rfl (hf_of 39 k1 rfl (by decide) m39_333) e3 ?_
  obtain ⟨k4, hf⟩ := hf
  refine x_alen (pc' := 44) (t := 9) (ty := .object "LetMill$Exp") (dX43_infer 24 rfl rfl) rfl rfl k4 ?_
  refine x_icmp_ge (pc' := 47) (tgt := 81) (dX43_infer 25 rfl rfl) (by decide) rfl (fun c5 => ?_) (fun c5 => ?_)
  · replace hf := hf.1 c5
    refine x_aload_n (pc' := 82) 1 (dX43_infer 44 rfl rfl) rfl rfl rfl ?_
    refine x_getR (pc' := 85) (dX43_infer 45 rfl rfl) g108 q797 (Or.inl rfl) rfl (hf_of 9 s6.1 rfl (by decide) m9_108) (s6.2 0 _ rfl rfl).1 ?_
    refine x_bipush (pc' := 87) (v := 10) (dX43_infer 46 rfl rfl) (by decide) rfl ?_
    refine x_iload_n (pc' := 88) 2 (dX43_infer 47 rfl rfl) rfl rfl rfl ?_
    refine x_inv (pc' := 91) (ν := mX3_built_3) (av := [_, _, _]) (st := []) rfl rfl (dX43_infer 48 rfl rfl) (Nat.le_of_ble_eq_true rfl) wX3_built_3 q213 (inv_V (k := 2) (dX43_infer 48 rfl rfl) q2644 q2378 q2379 wX3_built_3 (by decide) lX3_built_3 (by decide) s2.1) (exN (by decide)) rfl ?_
    refine C.mono hf (fun _ _ => KI.g (fun x8 h6 hf le7 => ?_))
    have k1 := leK le7 k1 (by decide)
    have k4 := leK le7 k4 (by decide)
    replace s2 := s2.le sc2 (le7)
    replace s6 := s6.le sc6 (le7)
    exact x_iret (dX43_infer 49 rfl rfl) rfl hf
  · replace hf := hf.2 c5
    refine x_aload_n (pc' := 48) 0 (dX43_infer 26 rfl rfl) rfl rfl rfl ?_
    obtain ⟨b9, e10, hf⟩ := hf
    refine x_getR (pc' := 51) (dX43_infer 27 rfl rfl) g333 q1691 (Or.inr q1692) rfl (hf_of 39 k1 rfl (by decide) m39_333) e10 ?_
    refine x_iload_n (pc' := 52) 3 (dX43_infer 28 rfl rfl) rfl rfl rfl ?_
    obtain ⟨k11, hf⟩ := hf
    obtain ⟨i12, hf⟩ := hf
    obtain ⟨b13, e14, hf⟩ := hf
    refine x_aald (pc' := 53) (t := 9) (C := "LetMill$Exp") (dX43_infer 29 rfl rfl) rfl (by decide) rfl k11 i12 e14 ?_
    refine x_aload_n (pc' := 54) 1 (dX43_infer 30 rfl rfl) rfl rfl rfl ?_
    obtain ⟨k, ν, ⟨v0, v1, v2, v3, v4, v5, v6, v7⟩, k28, hf⟩ := hf
    refine x_inv (pc' := 57) (ν := ν) (st := []) rfl (sub_tr v7 rfl) (dX43_infer 31 rfl rfl) (by have := v5; simp only [List.map, List.sum_cons, List.sum_nil, Value.category]; omega) v1 v2 (inv_U (k := k) (av := [_]) (dX43_infer 31 rfl rfl) q2645 q2512 (by decide) v3 v4 (by decide) (show _ = some 1 by decide +kernel) v0 k28) (exN v6) rfl ?_
    refine C.mono hf (fun _ _ => KI.g (fun x17 h15 hf le16 => ?_))
    replace le16 := Le.nx v6 le16
    have k1 := leK le16 k1 (by decide)
    have k4 := leK le16 k4 (by decide)
    have k11 := leK le16 k11 (by decide)
    replace s2 := s2.le sc2 (le16)
    replace s6 := s6.le sc6 (le16)
    refine x_istore (pc' := 59) (dX43_infer 32 rfl rfl) (by decide) rfl rfl ?_
    refine x_aload_n (pc' := 60) 2 (dX43_infer 33 rfl rfl) rfl rfl rfl ?_
    refine x_iload (pc' := 62) 0 (dX43_infer 34 rfl rfl) rfl rfl ?_
    refine x_iload_n (pc' := 63) 3 (dX43_infer 35 rfl rfl) rfl rfl rfl ?_
    refine x_aload_n (pc' := 64) 1 (dX43_infer 36 rfl rfl) rfl rfl rfl ?_
    obtain ⟨b18, e19, hf⟩ := hf
    refine x_getR (pc' := 67) (dX43_infer 37 rfl rfl) g333 q1691 (Or.inr q1692) rfl (hf_of 39 k1 rfl (by decide) m39_333) e19 ?_
    refine x_iload_n (pc' := 68) 4 (dX43_infer 38 rfl rfl) rfl rfl rfl ?_
    obtain ⟨k20, hf⟩ := hf
    obtain ⟨i21, hf⟩ := hf
    obtain ⟨b22, e23, hf⟩ := hf
    refine x_aald (pc' := 69) (t := 9) (C := "LetMill$Exp") (dX43_infer 39 rfl rfl) rfl (by decide) rfl k20 i21 e23 ?_
    obtain ⟨u24, hf⟩ := hf
    refine x_getI (pc' := 72) (dX43_infer 40 rfl rfl) g296 q1531 (Or.inl rfl) rfl u24 ?_
    refine x_inv (pc' := 75) (ν := mX11_same) (av := [_, _, _, _]) (st := []) rfl rfl (dX43_infer 41 rfl rfl) (Nat.le_of_ble_eq_true rfl) wX11_same q225 (inv_V (k := 9) (dX43_infer 41 rfl rfl) q2677 q2483 q2484 wX11_same (by decide) lX11_same (by decide) s6.1) (exN (by decide)) rfl ?_
    refine C.mono hf (fun _ _ => KV.g (fun h25 hf le26 => ?_))
    have k1 := leK le26 k1 (by decide)
    have k4 := leK le26 k4 (by decide)
    have k11 := leK le26 k11 (by decide)
    have k20 := leK le26 k20 (by decide)
    replace s2 := s2.le sc2 (le26)
    replace s6 := s6.le sc6 (le26)
    replace hf := hf _ rfl
    refine x_iinc (pc' := 78) 4 (dX43_infer 42 rfl rfl) rfl (by rfl) (by decide) rfl rfl ?_
    refine x_goto (tgt := 38) (dX43_infer 43 rfl rfl) (by decide) ?_
    exact X.sub [2, 3, 4, 0] rfl (by simp) hf
theorem bX43_whole (G : Gh) (d : Nat) (h : AH) (Q : Outcome → AH → Prop) (a0 : Nat) (hf : X G mX43_whole (d + 1) none [] 4 [(0, .ref (a0)), (1, .ref (gW G 3)), (2, .int (4)), (3, .int (0))] [] h Q) : C G mX43_whole (d + 1) [.ref (a0), .ref (gW G 3)] h Q := by
  refine C.of_X (by decide +kernel) (Nat.le_of_ble_eq_true rfl) wX43_whole ?_
  show X G mX43_whole (d + 1) none [] 0 [(0, .ref (a0)), (1, .ref (gW G 3))] [] h Q
  refine x_iconst (pc' := 1) (v := 4) (dX43_whole 0 rfl rfl) (by decide) rfl ?_
  refine x_istore_n (pc' := 2) (dX43_whole 1 rfl rfl) rfl (by decide) rfl rfl ?_
  refine x_iconst (pc' := 3) (v := 0) (dX43_whole 2 rfl rfl) (by decide) rfl ?_
  refine x_istore_n (pc' := 4) (dX43_whole 3 rfl rfl) rfl (by decide) rfl rfl ?_
  exact X.sub [2, 3, 1, 0] rfl (by simp) hf
theorem bX43_whole_4 (G : Gh) (d : Nat) (h : AH) (Q : Outcome → AH → Prop) (l0 : Nat) (l2 : Int32) (l3 : Int32) (s3 : So 3 (gW G) h) (hf : hK h l0 = 40 ∧ (∃ b2, fR h l0 333 = some b2 ∧ (hK h b2 = 1009 ∧ (((Int32.ofNat (hL h b2)) ≤ l3 → (Q (.returned (some (.int l2))) h)) ∧ (¬ ((Int32.ofNat (hL h b2)) ≤ l3) → (C G mX6_pop d [.ref (gW G 3)] h (KI Q (fun x8 h6 => C G mX6_made_2 d [.ref (gW G 3), .int (3), .int (x8), .int (l2)] h6 (KI Q (fun x11 h9 => ∀ x12 : Int32, x12 = l3 + 1 → (X G mX43_whole (d + 1) none [] 4 [(0, .ref (l0)), (1, .ref (gW G 3)), (2, .int (x11)), (3, .int (x12))] [] h9 Q))))))))))) : X G mX43_whole (d + 1) none [] 4 [(0, .ref (l0)), (1, .ref (gW G 3)), (2, .int (l2)), (3, .int (l3))] [] h Q := by
  refine x_iload_n (pc' := 5) 3 (dX43_whole 4 rfl rfl) rfl rfl rfl ?_
  refine x_aload_n (pc' := 6) 0 (dX43_whole 5 rfl rfl) rfl rfl rfl ?_
  obtain ⟨k1, hf⟩ := hf
  obtain ⟨b2, e3, hf⟩ := hf
  refine x_getR (pc' := 9) (dX43_whole 6 rfl rfl) g333 q1691 (Or.inr q1692) rfl (hf_of 39 k1 rfl (by decide) m39_333) e3 ?_
  obtain ⟨k4, hf⟩ := hf
  refine x_alen (pc' := 10) (t := 9) (ty := .object "LetMill$Exp") (dX43_whole 7 rfl rfl) rfl rfl k4 ?_
  refine x_icmp_ge (pc' := 13) (tgt := 30) (dX43_whole 8 rfl rfl) (by decide) rfl (fun c5 => ?_) (fun c5 => ?_)
  · replace hf := hf.1 c5
    refine x_iload_n (pc' := 31) 2 (dX43_whole 18 rfl rfl) rfl rfl rfl ?_
    exact x_iret (dX43_whole 19 rfl rfl) rfl hf
  · replace hf := hf.2 c5
    refine x_aload_n (pc' := 14) 1 (dX43_whole 9 rfl rfl) rfl rfl rfl ?_
    refine x_iconst (pc' := 15) (v := 3) (dX43_whole 10 rfl rfl) (by decide) rfl ?_
    refine x_aload_n (pc' := 16) 1 (dX43_whole 11 rfl rfl) rfl rfl rfl ?_
    refine x_inv (pc' := 19) (ν := mX6_pop) (av := [_]) (st := [_, _]) rfl rfl (dX43_whole 12 rfl rfl) (Nat.le_of_ble_eq_true rfl) wX6_pop q220 (inv_V (k := 4) (dX43_whole 12 rfl rfl) q3252 q3063 q3064 wX6_pop (by decide) lX6_pop (by decide) s3.1) (exN (by decide)) rfl ?_
    refine C.mono hf (fun _ _ => KI.g (fun x8 h6 hf le7 => ?_))
    have k1 := leK le7 k1 (by decide)
    have k4 := leK le7 k4 (by decide)
    replace s3 := s3.le sc3 (le7)
    refine x_iload_n (pc' := 20) 2 (dX43_whole 13 rfl rfl) rfl rfl rfl ?_
    refine x_inv (pc' := 23) (ν := mX6_made_2) (av := [_, _, _, _]) (st := []) rfl rfl (dX43_whole 14 rfl rfl) (Nat.le_of_ble_eq_true rfl) wX6_made_2 q220 (inv_V (k := 4) (dX43_whole 14 rfl rfl) q3253 q3002 q3003 wX6_made_2 (by decide) lX6_made_2 (by decide) s3.1) (exN (by decide)) rfl ?_
    refine C.mono hf (fun _ _ => KI.g (fun x11 h9 hf le10 => ?_))
    have k1 := leK le10 k1 (by decide)
    have k4 := leK le10 k4 (by decide)
    replace s3 := s3.le sc3 (le10)
    refine x_istore_n (pc' := 24) (dX43_whole 15 rfl rfl) rfl (by decide) rfl rfl ?_
    replace hf := hf _ rfl
    refine x_iinc (pc' := 27) 3 (dX43_whole 16 rfl rfl) rfl (by rfl) (by decide) rfl rfl ?_
    refine x_goto (tgt := 4) (dX43_whole 17 rfl rfl) (by decide) ?_
    exact X.sub [2, 3, 1, 0] rfl (by simp) hf
theorem bX44_init (G : Gh) (d : Nat) (h : AH) (Q : Outcome → AH → Prop) (a0 : Nat) (p1 : Int32) (p2 : Nat) (p3 : Nat) (hf : C G mX16_init d [.ref (a0), .int (p1)] h (KV Q (fun h1 => hK h1 a0 = 41 ∧ (∀ h4, h4 = pR h1 a0 334 (some p2) → (∀ h5, h5 = pR h4 a0 335 (some p3) → (Q (.returned none) h5)))))) : C G mX44_init (d + 1) [.ref (a0), .int (p1), .ref (p2), .ref (p3)] h Q := by
  refine C.of_X (by decide +kernel) (Nat.le_of_ble_eq_true rfl) wX44_init ?_
  show X G mX44_init (d + 1) (some a0) [] 0 [(0, .ref (a0)), (1, .int (p1)), (2, .ref (p2)), (3, .ref (p3))] [] h Q
  refine x_aload_n (pc' := 1) 0 (dX44_init 0 rfl rfl) rfl rfl rfl ?_
  refine x_iload_n (pc' := 2) 1 (dX44_init 1 rfl rfl) rfl rfl rfl ?_
  refine x_inv (pc' := 5) (ν := mX16_init) (av := [_, _]) (st := []) rfl rfl (dX44_init 2 rfl rfl) (Nat.le_of_ble_eq_true rfl) wX16_init q237 (inv_I (dX44_init 2 rfl rfl) q1750 q1521 q1522 rfl (by decide) lX16_init) (fun b hb => by exact Or.inr (by rw [← hb]; rfl)) rfl ?_
  refine C.mono hf (fun _ _ => KV.g (fun h1 hf le2 => ?_))
  refine x_aload_n (pc' := 6) 0 (dX44_init 3 rfl rfl) rfl rfl rfl ?_
  refine x_aload_n (pc' := 7) 2 (dX44_init 4 rfl rfl) rfl rfl rfl ?_
  obtain ⟨k3, hf⟩ := hf
  refine x_putR (pc' := 10) (dX44_init 5 rfl rfl) g334 q1751 (Or.inl rfl) (Or.inr ⟨rfl, rfl, rfl, rfl⟩) (Or.inr rfl) rfl (hf_of 40 k3 rfl (by decide) m40_334) (fun h4 e7 => ?_)
  replace hf := hf h4 e7
  replace k3 : hK h4 a0 = 41 := by rw [e7]; exact k3
  refine x_aload_n (pc' := 11) 0 (dX44_init 6 rfl rfl) rfl rfl rfl ?_
  refine x_aload_n (pc' := 12) 3 (dX44_init 7 rfl rfl) rfl rfl rfl ?_
  refine x_putR (pc' := 15) (dX44_init 8 rfl rfl) g335 q1752 (Or.inl rfl) (Or.inr ⟨rfl, rfl, rfl, rfl⟩) (Or.inr rfl) rfl (hf_of 40 k3 rfl (by decide) m40_335) (fun h5 e6 => ?_)
  replace hf := hf h5 e6
  replace k3 : hK h5 a0 = 41 := by rw [e6]; exact k3
  exact x_vret (dX44_init 9 rfl rfl) rfl hf
theorem bX44_resolve (G : Gh) (d : Nat) (h : AH) (Q : Outcome → AH → Prop) (a0 : Nat) (hf : hK h a0 = 41 ∧ (∃ b2, fR h a0 334 = some b2 ∧ (∃ (k : Nat) (ν : Mu), VT ⟨"LetMill$Exp", "resolve", "(LLetMill$Scope;)V"⟩ VMExp_resolve k ν ∧ hK h b2 = k + 1 ∧ C G ν d [.ref (b2), .ref (gW G 4)] h (KV Q (fun h4 => X G mX44_resolve (d + 1) none [] 10 [(0, .ref (a0)), (1, .ref (gW G 4)), (2, .int (0))] [] h4 Q))))) : C G mX44_resolve (d + 1) [.ref (a0), .ref (gW G 4)] h Q := by
  refine C.of_X (by decide +kernel) (Nat.le_of_ble_eq_true rfl) wX44_resolve ?_
  show X G mX44_resolve (d + 1) none [] 0 [(0, .ref (a0)), (1, .ref (gW G 4))] [] h Q
  refine x_aload_n (pc' := 1) 0 (dX44_resolve 0 rfl rfl) rfl rfl rfl ?_
  obtain ⟨k1, hf⟩ := hf
  obtain ⟨b2, e3, hf⟩ := hf
  refine x_getR (pc' := 4) (dX44_resolve 1 rfl rfl) g334 q1751 (Or.inl rfl) rfl (hf_of 40 k1 rfl (by decide) m40_334) e3 ?_
  refine x_aload_n (pc' := 5) 1 (dX44_resolve 2 rfl rfl) rfl rfl rfl ?_
  obtain ⟨k, ν, ⟨v0, v1, v2, v3, v4, v5, v6, v7⟩, k6, hf⟩ := hf
  refine x_inv (pc' := 8) (ν := ν) (st := []) rfl (sub_tr v7 rfl) (dX44_resolve 3 rfl rfl) (by have := v5; simp only [List.map, List.sum_cons, List.sum_nil, Value.category]; omega) v1 v2 (inv_U (k := k) (av := [_]) (dX44_resolve 3 rfl rfl) q2255 q2251 (by decide) v3 v4 (by decide) (show _ = some 1 by decide +kernel) v0 k6) (exN v6) rfl ?_
  refine C.mono hf (fun _ _ => KV.g (fun h4 hf le5 => ?_))
  replace le5 := Le.nx v6 le5
  have k1 := leK le5 k1 (by decide)
  refine x_iconst (pc' := 9) (v := 0) (dX44_resolve 4 rfl rfl) (by decide) rfl ?_
  refine x_istore_n (pc' := 10) (dX44_resolve 5 rfl rfl) rfl (by decide) rfl rfl ?_
  exact X.sub [1, 2, 0] rfl (by simp) hf
theorem bX44_resolve_10 (G : Gh) (d : Nat) (h : AH) (Q : Outcome → AH → Prop) (l0 : Nat) (l2 : Int32) (hf : hK h l0 = 41 ∧ (∃ b2, fR h l0 335 = some b2 ∧ (hK h b2 = 1009 ∧ (((Int32.ofNat (hL h b2)) ≤ l2 → (Q (.returned none) h)) ∧ (¬ ((Int32.ofNat (hL h b2)) ≤ l2) → (∃ b6, fR h l0 335 = some b6 ∧ (hK h b6 = 1009 ∧ vp_in l2 (hL h b6) ∧ ∃ b10, aR h b6 l2.toNatClampNeg = some b10 ∧ (∃ (k : Nat) (ν : Mu), VT ⟨"LetMill$Exp", "resolve", "(LLetMill$Scope;)V"⟩ VMExp_resolve k ν ∧ hK h b10 = k + 1 ∧ C G ν d [.ref (b10), .ref (gW G 4)] h (KV Q (fun h12 => ∀ x14 : Int32, x14 = l2 + 1 → (X G mX44_resolve (d + 1) none [] 10 [(0, .ref (l0)), (1, .ref (gW G 4)), (2, .int (x14))] [] h12 Q))))))))))) : X G mX44_resolve (d + 1) none [] 10 [(0, .ref (l0)), (1, .ref (gW G 4)), (2, .int (l2))] [] h Q := by
  refine x_iload_n (pc' := 11) 2 (dX44_resolve 6 rfl rfl) rfl rfl rfl ?_
  refine x_aload_n (pc' := 12) 0 (dX44_resolve 7 rfl rfl) rfl rfl rfl ?_
  obtain ⟨k1, hf⟩ := hf
  obtain ⟨b2, e3, hf⟩ := hf
  refine x_getR (pc' := 15) (dX44_resolve 8 rfl rfl) g335 q1752 (Or.inl rfl) rfl (hf_of 40 k1 rfl (by decide) m40_335) e3 ?_
  obtain ⟨k4, hf⟩ := hf
  refine x_alen (pc' := 16) (t := 9) (ty := .object "LetMill$Exp") (dX44_resolve 9 rfl rfl) rfl rfl k4 ?_
  refine x_icmp_ge (pc' := 19) (tgt := 35) (dX44_resolve 10 rfl rfl) (by decide) rfl (fun c5 => ?_) (fun c5 => ?_)
  · replace hf := hf.1 c5
    exact x_vret (dX44_resolve 19 rfl rfl) rfl hf
  · replace hf := hf.2 c5
    refine x_aload_n (pc' := 20) 0 (dX44_resolve 11 rfl rfl) rfl rfl rfl ?_
    obtain ⟨b6, e7, hf⟩ := hf
    refine x_getR (pc' := 23) (dX44_resolve 12 rfl rfl) g335 q1752 (Or.inl rfl) rfl (hf_of 40 k1 rfl (by decide) m40_335) e7 ?_
    refine x_iload_n (pc' := 24) 2 (dX44_resolve 13 rfl rfl) rfl rfl rfl ?_
    obtain ⟨k8, hf⟩ := hf
    obtain ⟨i9, hf⟩ := hf
    obtain ⟨b10, e11, hf⟩ := hf
    refine x_aald (pc' := 25) (t := 9) (C := "LetMill$Exp") (dX44_resolve 14 rfl rfl) rfl (by decide) rfl k8 i9 e11 ?_
    refine x_aload_n (pc' := 26) 1 (dX44_resolve 15 rfl rfl) rfl rfl rfl ?_
    obtain ⟨k, ν, ⟨v0, v1, v2, v3, v4, v5, v6, v7⟩, k15, hf⟩ := hf
    refine x_inv (pc' := 29) (ν := ν) (st := []) rfl (sub_tr v7 rfl) (dX44_resolve 16 rfl rfl) (by have := v5; simp only [List.map, List.sum_cons, List.sum_nil, Value.category]; omega) v1 v2 (inv_U (k := k) (av := [_]) (dX44_resolve 16 rfl rfl) q2255 q2251 (by decide) v3 v4 (by decide) (show _ = some 1 by decide +kernel) v0 k15) (exN v6) rfl ?_
    refine C.mono hf (fun _ _ => KV.g (fun h12 hf le13 => ?_))
    replace le13 := Le.nx v6 le13
    have k1 := leK le13 k1 (by decide)
    have k4 := leK le13 k4 (by decide)
    have k8 := leK le13 k8 (by decide)
    replace hf := hf _ rfl
    refine x_iinc (pc' := 32) 2 (dX44_resolve 17 rfl rfl) rfl (by rfl) (by decide) rfl rfl ?_
    refine x_goto (tgt := 10) (dX44_resolve 18 rfl rfl) (by decide) ?_
    exact X.sub [1, 2, 0] rfl (by simp) hf
theorem bX44_infer (G : Gh) (d : Nat) (h : AH) (Q : Outcome → AH → Prop) (a0 : Nat) (hf : hK h a0 = 41 ∧ (∃ b2, fR h a0 334 = some b2 ∧ (∃ (k : Nat) (ν : Mu), VT ⟨"LetMill$Exp", "infer", "(LLetMill$Typer;)I"⟩ VMExp_infer k ν ∧ hK h b2 = k + 1 ∧ C G ν d [.ref (b2), .ref (gW G 6)] h (KI Q (fun x6 h4 => X G mX44_infer (d + 1) none [] 11 [(0, .ref (a0)), (1, .ref (gW G 6)), (2, .int (x6)), (3, .int (0))] [] h4 Q))))) : C G mX44_infer (d + 1) [.ref (a0), .ref (gW G 6)] h Q := by
  refine C.of_X (by decide +kernel) (Nat.le_of_ble_eq_true rfl) wX44_infer ?_
  show X G mX44_infer (d + 1) none [] 0 [(0, .ref (a0)), (1, .ref (gW G 6))] [] h Q
  refine x_aload_n (pc' := 1) 0 (dX44_infer 0 rfl rfl) rfl rfl rfl ?_
  obtain ⟨k1, hf⟩ := hf
  obtain ⟨b2, e3, hf⟩ := hf
  refine x_getR (pc' := 4) (dX44_infer 1 rfl rfl) g334 q1751 (Or.inl rfl) rfl (hf_of 40 k1 rfl (by decide) m40_334) e3 ?_
  refine x_aload_n (pc' := 5) 1 (dX44_infer 2 rfl rfl) rfl rfl rfl ?_
  obtain ⟨k, ν, ⟨v0, v1, v2, v3, v4, v5, v6, v7⟩, k7, hf⟩ := hf
  refine x_inv (pc' := 8) (ν := ν) (st := []) rfl (sub_tr v7 rfl) (dX44_infer 3 rfl rfl) (by have := v5; simp only [List.map, List.sum_cons, List.sum_nil, Value.category]; omega) v1 v2 (inv_U (k := k) (av := [_]) (dX44_infer 3 rfl rfl) q2516 q2512 (by decide) v3 v4 (by decide) (show _ = some 1 by decide +kernel) v0 k7) (exN v6) rfl ?_
  refine C.mono hf (fun _ _ => KI.g (fun x6 h4 hf le5 => ?_))
  replace le5 := Le.nx v6 le5
  have k1 := leK le5 k1 (by decide)
  refine x_istore_n (pc' := 9) (dX44_infer 4 rfl rfl) rfl (by decide) rfl rfl ?_
  refine x_iconst (pc' := 10) (v := 0) (dX44_infer 5 rfl rfl) (by decide) rfl ?_
  refine x_istore_n (pc' := 11) (dX44_infer 6 rfl rfl) rfl (by decide) rfl rfl ?_
  exact X.sub [2, 3, 1, 0] rfl (by simp) hf
theorem bX44_infer_11 (G : Gh) (d : Nat) (h : AH) (Q : Outcome → AH → Prop) (l0 : Nat) (l2 : Int32) (l3 : Int32) (s2 : So 2 (gW G) h) (s6 : So 6 (gW G) h) (hf : hK h l0 = 41 ∧ (∃ b2, fR h l0 335 = some b2 ∧ (hK h b2 = 1009 ∧ (((Int32.ofNat (hL h b2)) ≤ l3 → (Q (.returned (some (.int l2))) h)) ∧ (¬ ((Int32.ofNat (hL h b2)) ≤ l3) → (∃ b6, fR h l0 335 = some b6 ∧ (hK h b6 = 1009 ∧ vp_in l3 (hL h b6) ∧ ∃ b10, aR h b6 l3.toNatClampNeg = some b10 ∧ (∃ (k : Nat) (ν : Mu), VT ⟨"LetMill$Exp", "infer", "(LLetMill$Typer;)I"⟩ VMExp_infer k ν ∧ hK h b10 = k + 1 ∧ C G ν d [.ref (b10), .ref (gW G 6)] h (KI Q (fun x14 h12 => C G mX3_variable d [.ref (gW G 2)] h12 (KI Q (fun x17 h15 => C G mX3_fun d [.ref (gW G 2), .int (x14), .int (x17)] h15 (KI Q (fun x20 h18 => ∃ b21, fR h18 l0 335 = some b21 ∧ (hK h18 b21 = 1009 ∧ vp_in l3 (hL h18 b21) ∧ ∃ b25, aR h18 b21 l3.toNatClampNeg = some b25 ∧ (HF h18 b25 296 0 ∧ (C G mX11_same d [.ref (gW G 6), .int (l2), .int (x20), .int (fI h18 b25 296)] h18 (KV Q (fun h28 => ∀ x30 : Int32, x30 = l3 + 1 → (X G mX44_infer (d + 1) none [] 11 [(0, .ref (l0)), (1, .ref (gW G 6)), (2, .int (x17)), (3, .int (x30))] [] h28 Q)))))))))))))))))))) : X G mX44_infer (d + 1) none [] 11 [(0, .ref (l0)), (1, .ref (gW G 6)), (2, .int (l2)), (3, .int (l3))] [] h Q := by
  refine x_iload_n (pc' := 12) 3 (dX44_infer 7 rfl rfl) rfl rfl rfl ?_
  refine x_aload_n (pc' := 13) 0 (dX44_infer 8 rfl rfl) rfl rfl rfl ?_
  obtain ⟨k1, hf⟩ := hf
  obtain ⟨b2, e3, hf⟩ := hf
  refine x_getR (pc' := 16) (dX44_infer 9 rfl rfl) g335 q1752 (Or.inl rfl) rfl (hf_of 40 k1 rfl (by decide) m40_335) e3 ?_
  obtain ⟨k4, hf⟩ := hf
  refine x_alen (pc' := 17) (t := 9) (ty := .object "LetMill$Exp") (dX44_infer 10 rfl rfl) rfl rfl k4 ?_
  refine x_icmp_ge (pc' := 20) (tgt := 75) (dX44_infer 11 rfl rfl) (by decide) rfl (fun c5 => ?_) (fun c5 => ?_)
  · replace hf := hf.1 c5
    refine x_iload_n (pc' := 76) 2 (dX44_infer 40 rfl rfl) rfl rfl rfl ?_
    exact x_iret (dX44_infer 41 rfl rfl) rfl hf
  · replace hf := hf.2 c5
    refine x_aload_n (pc' := 21) 0 (dX44_infer 12 rfl rfl) rfl rfl rfl ?_
    obtain ⟨b6, e7, hf⟩ := hf
    refine x_getR (pc' := 24) (dX44_infer 13 rfl rfl) g335 q1752 (Or.inl rfl) rfl (hf_of 40 k1 rfl (by decide) m40_335) e7 ?_
    refine x_iload_n (pc' := 25) 3 (dX44_infer 14 rfl rfl) rfl rfl rfl ?_
    obtain ⟨k8, hf⟩ := hf
    obtain ⟨i9, hf⟩ := hf
    obtain ⟨b10, e11, hf⟩ := hf
    refine x_aald (pc' := 26) (t := 9) (C := "LetMill$Exp") (dX44_infer 15 rfl rfl) rfl (by decide) rfl k8 i9 e11 ?_
    refine x_aload_n (pc' := 27) 1 (dX44_infer 16 rfl rfl) rfl rfl rfl ?_
    obtain ⟨k, ν, ⟨v0, v1, v2, v3, v4, v5, v6, v7⟩, k31, hf⟩ := hf
    refine x_inv (pc' := 30) (ν := ν) (st := []) rfl (sub_tr v7 rfl) (dX44_infer 17 rfl rfl) (by have := v5; simp only [List.map, List.sum_cons, List.sum_nil, Value.category]; omega) v1 v2 (inv_U (k := k) (av := [_]) (dX44_infer 17 rfl rfl) q2516 q2512 (by decide) v3 v4 (by decide) (show _ = some 1 by decide +kernel) v0 k31) (exN v6) rfl ?_
    refine C.mono hf (fun _ _ => KI.g (fun x14 h12 hf le13 => ?_))
    replace le13 := Le.nx v6 le13
    have k1 := leK le13 k1 (by decide)
    have k4 := leK le13 k4 (by decide)
    have k8 := leK le13 k8 (by decide)
    replace s2 := s2.le sc2 (le13)
    replace s6 := s6.le sc6 (le13)
    refine x_istore (pc' := 32) (dX44_infer 18 rfl rfl) (by decide) rfl rfl ?_
    refine x_aload_n (pc' := 33) 2 (dX44_infer 19 rfl rfl) rfl rfl rfl ?_
    refine x_getR (pc' := 36) (dX44_infer 20 rfl rfl) g108 q812 (Or.inl rfl) rfl (hf_of 9 s6.1 rfl (by decide) m9_108) (s6.2 0 _ rfl rfl).1 ?_
    refine x_inv (pc' := 39) (ν := mX3_variable) (av := [_]) (st := []) rfl rfl (dX44_infer 21 rfl rfl) (Nat.le_of_ble_eq_true rfl) wX3_variable q213 (inv_V (k := 2) (dX44_infer 21 rfl rfl) q2778 q2341 q2342 wX3_variable (by decide) lX3_variable (by decide) s2.1) (exN (by decide)) rfl ?_
    refine C.mono hf (fun _ _ => KI.g (fun x17 h15 hf le16 => ?_))
    have k1 := leK le16 k1 (by decide)
    have k4 := leK le16 k4 (by decide)
    have k8 := leK le16 k8 (by decide)
    replace s2 := s2.le sc2 (le16)
    replace s6 := s6.le sc6 (le16)
    refine x_istore (pc' := 41) (dX44_infer 22 rfl rfl) (by decide) rfl rfl ?_
    refine x_aload_n (pc' := 42) 3 (dX44_infer 23 rfl rfl) rfl rfl rfl ?_
    refine x_iload_n (pc' := 43) 4 (dX44_infer 24 rfl rfl) rfl rfl rfl ?_
    refine x_aload_n (pc' := 44) 3 (dX44_infer 25 rfl rfl) rfl rfl rfl ?_
    refine x_getR (pc' := 47) (dX44_infer 26 rfl rfl) g108 q812 (Or.inl rfl) rfl (hf_of 9 s6.1 rfl (by decide) m9_108) (s6.2 0 _ rfl rfl).1 ?_
    refine x_iload (pc' := 49) 1 (dX44_infer 27 rfl rfl) rfl rfl ?_
    refine x_iload (pc' := 51) 0 (dX44_infer 28 rfl rfl) rfl rfl ?_
    refine x_inv (pc' := 54) (ν := mX3_fun) (av := [_, _, _]) (st := [_, _]) rfl rfl (dX44_infer 29 rfl rfl) (Nat.le_of_ble_eq_true rfl) wX3_fun q213 (inv_V (k := 2) (dX44_infer 29 rfl rfl) q2779 q2374 q2375 wX3_fun (by decide) lX3_fun (by decide) s2.1) (exN (by decide)) rfl ?_
    refine C.mono hf (fun _ _ => KI.g (fun x20 h18 hf le19 => ?_))
    have k1 := leK le19 k1 (by decide)
    have k4 := leK le19 k4 (by decide)
    have k8 := leK le19 k8 (by decide)
    replace s2 := s2.le sc2 (le19)
    replace s6 := s6.le sc6 (le19)
    refine x_aload_n (pc' := 55) 2 (dX44_infer 30 rfl rfl) rfl rfl rfl ?_
    obtain ⟨b21, e22, hf⟩ := hf
    refine x_getR (pc' := 58) (dX44_infer 31 rfl rfl) g335 q1752 (Or.inl rfl) rfl (hf_of 40 k1 rfl (by decide) m40_335) e22 ?_
    refine x_iload_n (pc' := 59) 5 (dX44_infer 32 rfl rfl) rfl rfl rfl ?_
    obtain ⟨k23, hf⟩ := hf
    obtain ⟨i24, hf⟩ := hf
    obtain ⟨b25, e26, hf⟩ := hf
    refine x_aald (pc' := 60) (t := 9) (C := "LetMill$Exp") (dX44_infer 33 rfl rfl) rfl (by decide) rfl k23 i24 e26 ?_
    obtain ⟨u27, hf⟩ := hf
    refine x_getI (pc' := 63) (dX44_infer 34 rfl rfl) g296 q1539 (Or.inl rfl) rfl u27 ?_
    refine x_inv (pc' := 66) (ν := mX11_same) (av := [_, _, _, _]) (st := []) rfl rfl (dX44_infer 35 rfl rfl) (Nat.le_of_ble_eq_true rfl) wX11_same q225 (inv_V (k := 9) (dX44_infer 35 rfl rfl) q2780 q2483 q2484 wX11_same (by decide) lX11_same (by decide) s6.1) (exN (by decide)) rfl ?_
    refine C.mono hf (fun _ _ => KV.g (fun h28 hf le29 => ?_))
    have k1 := leK le29 k1 (by decide)
    have k4 := leK le29 k4 (by decide)
    have k8 := leK le29 k8 (by decide)
    have k23 := leK le29 k23 (by decide)
    replace s2 := s2.le sc2 (le29)
    replace s6 := s6.le sc6 (le29)
    refine x_iload (pc' := 68) 0 (dX44_infer 36 rfl rfl) rfl rfl ?_
    refine x_istore_n (pc' := 69) (dX44_infer 37 rfl rfl) rfl (by decide) rfl rfl ?_
    replace hf := hf _ rfl
    refine x_iinc (pc' := 72) 5 (dX44_infer 38 rfl rfl) rfl (by rfl) (by decide) rfl rfl ?_
    refine x_goto (tgt := 11) (dX44_infer 39 rfl rfl) (by decide) ?_
    exact X.sub [4, 5, 1, 0] rfl (by simp) hf
theorem bX44_isStill (G : Gh) (d : Nat) (h : AH) (Q : Outcome → AH → Prop) (a0 : Nat) (hf : hK h a0 = 41 ∧ (∃ b2, fR h a0 335 = some b2 ∧ (hK h b2 = 1009 ∧ (((Int32.ofNat (hL h b2)) = 1 → (∃ b6, fR h a0 334 = some b6 ∧ (∃ (k : Nat) (ν : Mu), VT yX16_isCon VMExp_isCon k ν ∧ hK h b6 = k + 1 ∧ C G ν d [.ref (b6)] h (KI Q (fun x10 h8 => (x10 = 0 → (Q (.returned (some (.int 0))) h8)) ∧ (¬ x10 = 0 → (∃ b12, fR h8 a0 335 = some b12 ∧ (hK h8 b12 = 1009 ∧ vp_in 0 (hL h8 b12) ∧ ∃ b16, aR h8 b12 (0 : Int32).toNatClampNeg = some b16 ∧ (∃ (k : Nat) (ν : Mu), VT yX16_isStill VMExp_isStill k ν ∧ hK h8 b16 = k + 1 ∧ C G ν d [.ref (b16)] h8 (KI Q (fun x20 h18 => (x20 = 0 → (Q (.returned (some (.int 0))) h18)) ∧ (¬ x20 = 0 → (Q (.returned (some (.int 1))) h18))))))))))))) ∧ (¬ ((Int32.ofNat (hL h b2)) = 1) → (Q (.returned (some (.int 0))) h)))))) : C G mX44_isStill (d + 1) [.ref (a0)] h Q := by
  refine C.of_X (by decide +kernel) (Nat.le_of_ble_eq_true rfl) wX44_isStill ?_
  show X G mX44_isStill (d + 1) none [] 0 [(0, .ref (a0))] [] h Q
  refine x_aload_n (pc' := 1) 0 (dX44_isStill 0 rfl rfl) rfl rfl rfl ?_
  obtain ⟨k1, hf⟩ := hf
  obtain ⟨b2, e3, hf⟩ := hf
  refine x_getR (pc' := 4) (dX44_isStill 1 rfl rfl) g335 q1752 (Or.inl rfl) rfl (hf_of 40 k1 rfl (by decide) m40_335) e3 ?_
  obtain ⟨k4, hf⟩ := hf
  refine x_alen (pc' := 5) (t := 9) (ty := .object "LetMill$Exp") (dX44_isStill 2 rfl rfl) rfl rfl k4 ?_
  refine x_iconst (pc' := 6) (v := 1) (dX44_isStill 3 rfl rfl) (by decide) rfl ?_
  refine x_icmp_ne (pc' := 9) (tgt := 35) (dX44_isStill 4 rfl rfl) (by decide) rfl (fun c5 => ?_) (fun c5 => ?_)
  · replace hf := hf.2 c5
    refine x_iconst (pc' := 36) (v := 0) (dX44_isStill 17 rfl rfl) (by decide) rfl ?_
    exact x_zret (ty := .boolean) (dX44_isStill 18 rfl rfl) rfl (by decide) hf
  · replace hf := hf.1 (Classical.not_not.mp c5)
    replace c5 := Classical.not_not.mp c5
    refine x_aload_n (pc' := 10) 0 (dX44_isStill 5 rfl rfl) rfl rfl rfl ?_
    obtain ⟨b6, e7, hf⟩ := hf
    refine x_getR (pc' := 13) (dX44_isStill 6 rfl rfl) g334 q1751 (Or.inl rfl) rfl (hf_of 40 k1 rfl (by decide) m40_334) e7 ?_
    obtain ⟨k, ν, ⟨v0, v1, v2, v3, v4, v5, v6, v7⟩, k25, hf⟩ := hf
    refine x_inv (pc' := 16) (ν := ν) (st := []) rfl (sub_tr v7 rfl) (dX44_isStill 7 rfl rfl) (by have := v5; simp only [List.map, List.sum_cons, List.sum_nil, Value.category]; omega) v1 v2 (inv_O (ξ := mX16_isCon) (k := k) (av := []) (dX44_isStill 7 rfl rfl) q2686 q2688 q2687 q2706 v3 v4 (by decide) lX16_isCon v0 k25) (exN v6) rfl ?_
    refine C.mono hf (fun _ _ => KI.g (fun x10 h8 hf le9 => ?_))
    replace le9 := Le.nx v6 le9
    have k1 := leK le9 k1 (by decide)
    have k4 := leK le9 k4 (by decide)
    refine x_if_eq (pc' := 19) (tgt := 35) (dX44_isStill 8 rfl rfl) (by decide) rfl (fun c11 => ?_) (fun c11 => ?_)
    · replace hf := hf.1 c11
      refine x_iconst (pc' := 36) (v := 0) (dX44_isStill 17 rfl rfl) (by decide) rfl ?_
      exact x_zret (ty := .boolean) (dX44_isStill 18 rfl rfl) rfl (by decide) hf
    · replace hf := hf.2 c11
      refine x_aload_n (pc' := 20) 0 (dX44_isStill 9 rfl rfl) rfl rfl rfl ?_
      obtain ⟨b12, e13, hf⟩ := hf
      refine x_getR (pc' := 23) (dX44_isStill 10 rfl rfl) g335 q1752 (Or.inl rfl) rfl (hf_of 40 k1 rfl (by decide) m40_335) e13 ?_
      refine x_iconst (pc' := 24) (v := 0) (dX44_isStill 11 rfl rfl) (by decide) rfl ?_
      obtain ⟨k14, hf⟩ := hf
      obtain ⟨i15, hf⟩ := hf
      obtain ⟨b16, e17, hf⟩ := hf
      refine x_aald (pc' := 25) (t := 9) (C := "LetMill$Exp") (dX44_isStill 12 rfl rfl) rfl (by decide) rfl k14 i15 e17 ?_
      obtain ⟨k, ν, ⟨v0, v1, v2, v3, v4, v5, v6, v7⟩, k22, hf⟩ := hf
      refine x_inv (pc' := 28) (ν := ν) (st := []) rfl (sub_tr v7 rfl) (dX44_isStill 13 rfl rfl) (by have := v5; simp only [List.map, List.sum_cons, List.sum_nil, Value.category]; omega) v1 v2 (inv_O (ξ := mX16_isStill) (k := k) (av := []) (dX44_isStill 13 rfl rfl) q2707 q2682 q2681 q2740 v3 v4 (by decide) lX16_isStill v0 k22) (exN v6) rfl ?_
      refine C.mono hf (fun _ _ => KI.g (fun x20 h18 hf le19 => ?_))
      replace le19 := Le.nx v6 le19
      have k1 := leK le19 k1 (by decide)
      have k4 := leK le19 k4 (by decide)
      have k14 := leK le19 k14 (by decide)
      refine x_if_eq (pc' := 31) (tgt := 35) (dX44_isStill 14 rfl rfl) (by decide) rfl (fun c21 => ?_) (fun c21 => ?_)
      · replace hf := hf.1 c21
        refine x_iconst (pc' := 36) (v := 0) (dX44_isStill 17 rfl rfl) (by decide) rfl ?_
        exact x_zret (ty := .boolean) (dX44_isStill 18 rfl rfl) rfl (by decide) hf
      · replace hf := hf.2 c21
        refine x_iconst (pc' := 32) (v := 1) (dX44_isStill 15 rfl rfl) (by decide) rfl ?_
        refine x_goto (tgt := 36) (dX44_isStill 16 rfl rfl) (by decide) ?_
        exact x_zret (ty := .boolean) (dX44_isStill 18 rfl rfl) rfl (by decide) hf
theorem bX44_begin (G : Gh) (d : Nat) (h : AH) (Q : Outcome → AH → Prop) (a0 : Nat) (p2 : Int32) (hf : X G mX44_begin (d + 1) none [] 2 [(0, .ref (a0)), (1, .ref (gW G 3)), (2, .int (p2)), (3, .int (0))] [] h Q) : C G mX44_begin (d + 1) [.ref (a0), .ref (gW G 3), .int (p2)] h Q := by
  refine C.of_X (by decide +kernel) (Nat.le_of_ble_eq_true rfl) wX44_begin ?_
  show X G mX44_begin (d + 1) none [] 0 [(0, .ref (a0)), (1, .ref (gW G 3)), (2, .int (p2))] [] h Q
  refine x_iconst (pc' := 1) (v := 0) (dX44_begin 0 rfl rfl) (by decide) rfl ?_
  refine x_istore_n (pc' := 2) (dX44_begin 1 rfl rfl) rfl (by decide) rfl rfl ?_
  exact X.sub [1, 2, 3, 0] rfl (by simp) hf
theorem bX44_begin_2 (G : Gh) (d : Nat) (h : AH) (Q : Outcome → AH → Prop) (l0 : Nat) (l2 : Int32) (l3 : Int32) (s3 : So 3 (gW G) h) (hf : hK h l0 = 41 ∧ (∃ b2, fR h l0 335 = some b2 ∧ (hK h b2 = 1009 ∧ (((Int32.ofNat (hL h b2)) ≤ l3 → (C G mX6_frame d [.ref (gW G 3), .ref (l0), .int (0), .int (l2)] h (KV Q (fun h6 => ∃ b8, fR h6 l0 334 = some b8 ∧ (C G mX6_next d [.ref (gW G 3), .ref (b8), .int (l2)] h6 (KV Q (fun h10 => Q (.returned none) h10))))))) ∧ (¬ ((Int32.ofNat (hL h b2)) ≤ l3) → (C G mX6_pay d [.ref (gW G 3), .int (1)] h (KI Q (fun x14 h12 => (x14 = 0 → (Q (.returned none) h12)) ∧ (¬ x14 = 0 → (∀ x16 : Int32, x16 = l3 + 1 → (X G mX44_begin (d + 1) none [] 2 [(0, .ref (l0)), (1, .ref (gW G 3)), (2, .int (l2)), (3, .int (x16))] [] h12 Q))))))))))) : X G mX44_begin (d + 1) none [] 2 [(0, .ref (l0)), (1, .ref (gW G 3)), (2, .int (l2)), (3, .int (l3))] [] h Q := by
  refine x_iload_n (pc' := 3) 3 (dX44_begin 2 rfl rfl) rfl rfl rfl ?_
  refine x_aload_n (pc' := 4) 0 (dX44_begin 3 rfl rfl) rfl rfl rfl ?_
  obtain ⟨k1, hf⟩ := hf
  obtain ⟨b2, e3, hf⟩ := hf
  refine x_getR (pc' := 7) (dX44_begin 4 rfl rfl) g335 q1752 (Or.inl rfl) rfl (hf_of 40 k1 rfl (by decide) m40_335) e3 ?_
  obtain ⟨k4, hf⟩ := hf
  refine x_alen (pc' := 8) (t := 9) (ty := .object "LetMill$Exp") (dX44_begin 5 rfl rfl) rfl rfl k4 ?_
  refine x_icmp_ge (pc' := 11) (tgt := 26) (dX44_begin 6 rfl rfl) (by decide) rfl (fun c5 => ?_) (fun c5 => ?_)
  · replace hf := hf.1 c5
    refine x_aload_n (pc' := 27) 1 (dX44_begin 14 rfl rfl) rfl rfl rfl ?_
    refine x_aload_n (pc' := 28) 0 (dX44_begin 15 rfl rfl) rfl rfl rfl ?_
    refine x_iconst (pc' := 29) (v := 0) (dX44_begin 16 rfl rfl) (by decide) rfl ?_
    refine x_iload_n (pc' := 30) 2 (dX44_begin 17 rfl rfl) rfl rfl rfl ?_
    refine x_inv (pc' := 33) (ν := mX6_frame) (av := [_, _, _, _]) (st := []) rfl rfl (dX44_begin 18 rfl rfl) (Nat.le_of_ble_eq_true rfl) wX6_frame q220 (inv_V (k := 4) (dX44_begin 18 rfl rfl) q2898 q2899 q2900 wX6_frame (by decide) lX6_frame (by decide) s3.1) (exN (by decide)) rfl ?_
    refine C.mono hf (fun _ _ => KV.g (fun h6 hf le7 => ?_))
    have k1 := leK le7 k1 (by decide)
    have k4 := leK le7 k4 (by decide)
    replace s3 := s3.le sc3 (le7)
    refine x_aload_n (pc' := 34) 1 (dX44_begin 19 rfl rfl) rfl rfl rfl ?_
    refine x_aload_n (pc' := 35) 0 (dX44_begin 20 rfl rfl) rfl rfl rfl ?_
    obtain ⟨b8, e9, hf⟩ := hf
    refine x_getR (pc' := 38) (dX44_begin 21 rfl rfl) g334 q1751 (Or.inl rfl) rfl (hf_of 40 k1 rfl (by decide) m40_334) e9 ?_
    refine x_iload_n (pc' := 39) 2 (dX44_begin 22 rfl rfl) rfl rfl rfl ?_
    refine x_inv (pc' := 42) (ν := mX6_next) (av := [_, _, _]) (st := []) rfl rfl (dX44_begin 23 rfl rfl) (Nat.le_of_ble_eq_true rfl) wX6_next q220 (inv_V (k := 4) (dX44_begin 23 rfl rfl) q2906 q2881 q2882 wX6_next (by decide) lX6_next (by decide) s3.1) (exN (by decide)) rfl ?_
    refine C.mono hf (fun _ _ => KV.g (fun h10 hf le11 => ?_))
    have k1 := leK le11 k1 (by decide)
    have k4 := leK le11 k4 (by decide)
    replace s3 := s3.le sc3 (le11)
    exact x_vret (dX44_begin 24 rfl rfl) rfl hf
  · replace hf := hf.2 c5
    refine x_aload_n (pc' := 12) 1 (dX44_begin 7 rfl rfl) rfl rfl rfl ?_
    refine x_iconst (pc' := 13) (v := 1) (dX44_begin 8 rfl rfl) (by decide) rfl ?_
    refine x_inv (pc' := 16) (ν := mX6_pay) (av := [_, _]) (st := []) rfl rfl (dX44_begin 9 rfl rfl) (Nat.le_of_ble_eq_true rfl) wX6_pay q220 (inv_V (k := 4) (dX44_begin 9 rfl rfl) q2890 q2891 q2892 wX6_pay (by decide) lX6_pay (by decide) s3.1) (exN (by decide)) rfl ?_
    refine C.mono hf (fun _ _ => KI.g (fun x14 h12 hf le13 => ?_))
    have k1 := leK le13 k1 (by decide)
    have k4 := leK le13 k4 (by decide)
    replace s3 := s3.le sc3 (le13)
    refine x_if_ne (pc' := 19) (tgt := 20) (dX44_begin 10 rfl rfl) (by decide) rfl (fun c15 => ?_) (fun c15 => ?_)
    · replace hf := hf.2 c15
      replace hf := hf _ rfl
      refine x_iinc (pc' := 23) 3 (dX44_begin 12 rfl rfl) rfl (by rfl) (by decide) rfl rfl ?_
      refine x_goto (tgt := 2) (dX44_begin 13 rfl rfl) (by decide) ?_
      exact X.sub [1, 2, 3, 0] rfl (by simp) hf
    · replace hf := hf.1 (Classical.not_not.mp c15)
      replace c15 := Classical.not_not.mp c15
      exact x_vret (dX44_begin 11 rfl rfl) rfl hf
theorem bX44_resume (G : Gh) (d : Nat) (h : AH) (Q : Outcome → AH → Prop) (a0 : Nat) (p2 : Int32) (p3 : Int32) (p4 : Int32) (s3 : So 3 (gW G) h) (hf : ∀ x1 : Int32, x1 = p2 / 2 → (((p2 - p2 / 2 * 2) = 0 → (C G mX6_push d [.ref (gW G 3), .int (p4)] h (KV Q (fun h17 => C G mX6_frame d [.ref (gW G 3), .ref (a0), .int (p2 + 1), .int (p3)] h17 (KV Q (fun h19 => hK h19 a0 = 41 ∧ (∃ b22, fR h19 a0 335 = some b22 ∧ (hK h19 b22 = 1009 ∧ vp_in x1 (hL h19 b22) ∧ ∃ b26, aR h19 b22 x1.toNatClampNeg = some b26 ∧ (C G mX6_next d [.ref (gW G 3), .ref (b26), .int (p3)] h19 (KV Q (fun h28 => Q (.returned none) h28))))))))))) ∧ (¬ ((p2 - p2 / 2 * 2) = 0) → (C G mX6_pop d [.ref (gW G 3)] h (KI Q (fun x5 h3 => hK h3 a0 = 41 ∧ (∃ b7, fR h3 a0 335 = some b7 ∧ (hK h3 b7 = 1009 ∧ (((Int32.ofNat (hL h3 b7)) ≤ (x1 + 1) → (C G mX6_call d [.ref (gW G 3), .int (x5), .int (p4)] h3 (KV Q (fun h11 => Q (.returned none) h11)))) ∧ (¬ ((Int32.ofNat (hL h3 b7)) ≤ (x1 + 1)) → (C G mX6_frame d [.ref (gW G 3), .ref (a0), .int (p2 + 1), .int (p3)] h3 (KV Q (fun h13 => C G mX6_call d [.ref (gW G 3), .int (x5), .int (p4)] h13 (KV Q (fun h15 => Q (.returned none) h15))))))))))))))) : C G mX44_resume (d + 1) [.ref (a0), .ref (gW G 3), .int (p2), .int (p3), .int (p4)] h Q := by
  refine C.of_X (by decide +kernel) (Nat.le_of_ble_eq_true rfl) wX44_resume ?_
  show X G mX44_resume (d + 1) none [] 0 [(0, .ref (a0)), (1, .ref (gW G 3)), (2, .int (p2)), (3, .int (p3)), (4, .int (p4))] [] h Q
  refine x_iload_n (pc' := 1) 2 (dX44_resume 0 rfl rfl) rfl rfl rfl ?_
  refine x_iconst (pc' := 2) (v := 2) (dX44_resume 1 rfl rfl) (by decide) rfl ?_
  refine x_idiv (pc' := 3) (dX44_resume 2 rfl rfl) (by decide) rfl ?_
  replace hf := hf _ rfl
  refine x_istore (pc' := 5) (dX44_resume 3 rfl rfl) (by decide) rfl rfl ?_
  refine x_iload_n (pc' := 6) 3 (dX44_resume 4 rfl rfl) rfl rfl rfl ?_
  refine x_iconst (pc' := 7) (v := 2) (dX44_resume 5 rfl rfl) (by decide) rfl ?_
  refine x_irem (pc' := 8) (dX44_resume 6 rfl rfl) (by decide) rfl ?_
  refine x_if_ne (pc' := 11) (tgt := 39) (dX44_resume 7 rfl rfl) (by decide) rfl (fun c2 => ?_) (fun c2 => ?_)
  · replace hf := hf.2 c2
    refine x_aload_n (pc' := 40) 2 (dX44_resume 26 rfl rfl) rfl rfl rfl ?_
    refine x_inv (pc' := 43) (ν := mX6_pop) (av := [_]) (st := []) rfl rfl (dX44_resume 27 rfl rfl) (Nat.le_of_ble_eq_true rfl) wX6_pop q220 (inv_V (k := 4) (dX44_resume 27 rfl rfl) q3062 q3063 q3064 wX6_pop (by decide) lX6_pop (by decide) s3.1) (exN (by decide)) rfl ?_
    refine C.mono hf (fun _ _ => KI.g (fun x5 h3 hf le4 => ?_))
    replace s3 := s3.le sc3 (le4)
    refine x_istore (pc' := 45) (dX44_resume 28 rfl rfl) (by decide) rfl rfl ?_
    refine x_iload (pc' := 47) 1 (dX44_resume 29 rfl rfl) rfl rfl ?_
    refine x_iconst (pc' := 48) (v := 1) (dX44_resume 30 rfl rfl) (by decide) rfl ?_
    refine x_iadd (pc' := 49) (dX44_resume 31 rfl rfl) rfl ?_
    refine x_aload_n (pc' := 50) 2 (dX44_resume 32 rfl rfl) rfl rfl rfl ?_
    obtain ⟨k6, hf⟩ := hf
    obtain ⟨b7, e8, hf⟩ := hf
    refine x_getR (pc' := 53) (dX44_resume 33 rfl rfl) g335 q1752 (Or.inl rfl) rfl (hf_of 40 k6 rfl (by decide) m40_335) e8 ?_
    obtain ⟨k9, hf⟩ := hf
    refine x_alen (pc' := 54) (t := 9) (ty := .object "LetMill$Exp") (dX44_resume 34 rfl rfl) rfl rfl k9 ?_
    refine x_icmp_ge (pc' := 57) (tgt := 66) (dX44_resume 35 rfl rfl) (by decide) rfl (fun c10 => ?_) (fun c10 => ?_)
    · replace hf := hf.1 c10
      refine x_aload_n (pc' := 67) 3 (dX44_resume 43 rfl rfl) rfl rfl rfl ?_
      refine x_iload (pc' := 69) 0 (dX44_resume 44 rfl rfl) rfl rfl ?_
      refine x_iload (pc' := 71) 6 (dX44_resume 45 rfl rfl) rfl rfl ?_
      refine x_inv (pc' := 74) (ν := mX6_call) (av := [_, _, _]) (st := []) rfl rfl (dX44_resume 46 rfl rfl) (Nat.le_of_ble_eq_true rfl) wX6_call q220 (inv_V (k := 4) (dX44_resume 46 rfl rfl) q3066 q3067 q3068 wX6_call (by decide) lX6_call (by decide) s3.1) (exN (by decide)) rfl ?_
      refine C.mono hf (fun _ _ => KV.g (fun h11 hf le12 => ?_))
      have k6 := leK le12 k6 (by decide)
      have k9 := leK le12 k9 (by decide)
      replace s3 := s3.le sc3 (le12)
      exact x_vret (dX44_resume 47 rfl rfl) rfl hf
    · replace hf := hf.2 c10
      refine x_aload_n (pc' := 58) 3 (dX44_resume 36 rfl rfl) rfl rfl rfl ?_
      refine x_aload_n (pc' := 59) 2 (dX44_resume 37 rfl rfl) rfl rfl rfl ?_
      refine x_iload_n (pc' := 60) 4 (dX44_resume 38 rfl rfl) rfl rfl rfl ?_
      refine x_iconst (pc' := 61) (v := 1) (dX44_resume 39 rfl rfl) (by decide) rfl ?_
      refine x_iadd (pc' := 62) (dX44_resume 40 rfl rfl) rfl ?_
      refine x_iload_n (pc' := 63) 5 (dX44_resume 41 rfl rfl) rfl rfl rfl ?_
      refine x_inv (pc' := 66) (ν := mX6_frame) (av := [_, _, _, _]) (st := []) rfl rfl (dX44_resume 42 rfl rfl) (Nat.le_of_ble_eq_true rfl) wX6_frame q220 (inv_V (k := 4) (dX44_resume 42 rfl rfl) q2898 q2899 q2900 wX6_frame (by decide) lX6_frame (by decide) s3.1) (exN (by decide)) rfl ?_
      refine C.mono hf (fun _ _ => KV.g (fun h13 hf le14 => ?_))
      have k6 := leK le14 k6 (by decide)
      have k9 := leK le14 k9 (by decide)
      replace s3 := s3.le sc3 (le14)
      refine x_aload_n (pc' := 67) 3 (dX44_resume 43 rfl rfl) rfl rfl rfl ?_
      refine x_iload (pc' := 69) 0 (dX44_resume 44 rfl rfl) rfl rfl ?_
      refine x_iload (pc' := 71) 6 (dX44_resume 45 rfl rfl) rfl rfl ?_
      refine x_inv (pc' := 74) (ν := mX6_call) (av := [_, _, _]) (st := []) rfl rfl (dX44_resume 46 rfl rfl) (Nat.le_of_ble_eq_true rfl) wX6_call q220 (inv_V (k := 4) (dX44_resume 46 rfl rfl) q3066 q3067 q3068 wX6_call (by decide) lX6_call (by decide) s3.1) (exN (by decide)) rfl ?_
      refine C.mono hf (fun _ _ => KV.g (fun h15 hf le16 => ?_))
      have k6 := leK le16 k6 (by decide)
      have k9 := leK le16 k9 (by decide)
      replace s3 := s3.le sc3 (le16)
      exact x_vret (dX44_resume 47 rfl rfl) rfl hf
  · replace hf := hf.1 (Classical.not_not.mp c2)
    replace c2 := Classical.not_not.mp c2
    refine x_aload_n (pc' := 12) 2 (dX44_resume 8 rfl rfl) rfl rfl rfl ?_
    refine x_iload (pc' := 14) 5 (dX44_resume 9 rfl rfl) rfl rfl ?_
    refine x_inv (pc' := 17) (ν := mX6_push) (av := [_, _]) (st := []) rfl rfl (dX44_resume 10 rfl rfl) (Nat.le_of_ble_eq_true rfl) wX6_push q220 (inv_V (k := 4) (dX44_resume 10 rfl rfl) q3058 q3059 q3060 wX6_push (by decide) lX6_push (by decide) s3.1) (exN (by decide)) rfl ?_
    refine C.mono hf (fun _ _ => KV.g (fun h17 hf le18 => ?_))
    replace s3 := s3.le sc3 (le18)
    refine x_aload_n (pc' := 18) 2 (dX44_resume 11 rfl rfl) rfl rfl rfl ?_
    refine x_aload_n (pc' := 19) 1 (dX44_resume 12 rfl rfl) rfl rfl rfl ?_
    refine x_iload_n (pc' := 20) 3 (dX44_resume 13 rfl rfl) rfl rfl rfl ?_
    refine x_iconst (pc' := 21) (v := 1) (dX44_resume 14 rfl rfl) (by decide) rfl ?_
    refine x_iadd (pc' := 22) (dX44_resume 15 rfl rfl) rfl ?_
    refine x_iload_n (pc' := 23) 4 (dX44_resume 16 rfl rfl) rfl rfl rfl ?_
    refine x_inv (pc' := 26) (ν := mX6_frame) (av := [_, _, _, _]) (st := []) rfl rfl (dX44_resume 17 rfl rfl) (Nat.le_of_ble_eq_true rfl) wX6_frame q220 (inv_V (k := 4) (dX44_resume 17 rfl rfl) q2898 q2899 q2900 wX6_frame (by decide) lX6_frame (by decide) s3.1) (exN (by decide)) rfl ?_
    refine C.mono hf (fun _ _ => KV.g (fun h19 hf le20 => ?_))
    replace s3 := s3.le sc3 (le20)
    refine x_aload_n (pc' := 27) 2 (dX44_resume 18 rfl rfl) rfl rfl rfl ?_
    refine x_aload_n (pc' := 28) 1 (dX44_resume 19 rfl rfl) rfl rfl rfl ?_
    obtain ⟨k21, hf⟩ := hf
    obtain ⟨b22, e23, hf⟩ := hf
    refine x_getR (pc' := 31) (dX44_resume 20 rfl rfl) g335 q1752 (Or.inl rfl) rfl (hf_of 40 k21 rfl (by decide) m40_335) e23 ?_
    refine x_iload (pc' := 33) 0 (dX44_resume 21 rfl rfl) rfl rfl ?_
    obtain ⟨k24, hf⟩ := hf
    obtain ⟨i25, hf⟩ := hf
    obtain ⟨b26, e27, hf⟩ := hf
    refine x_aald (pc' := 34) (t := 9) (C := "LetMill$Exp") (dX44_resume 22 rfl rfl) rfl (by decide) rfl k24 i25 e27 ?_
    refine x_iload_n (pc' := 35) 4 (dX44_resume 23 rfl rfl) rfl rfl rfl ?_
    refine x_inv (pc' := 38) (ν := mX6_next) (av := [_, _, _]) (st := []) rfl rfl (dX44_resume 24 rfl rfl) (Nat.le_of_ble_eq_true rfl) wX6_next q220 (inv_V (k := 4) (dX44_resume 24 rfl rfl) q2906 q2881 q2882 wX6_next (by decide) lX6_next (by decide) s3.1) (exN (by decide)) rfl ?_
    refine C.mono hf (fun _ _ => KV.g (fun h28 hf le29 => ?_))
    have k21 := leK le29 k21 (by decide)
    have k24 := leK le29 k24 (by decide)
    replace s3 := s3.le sc3 (le29)
    exact x_vret (dX44_resume 25 rfl rfl) rfl hf
theorem bX45_init (G : Gh) (d : Nat) (h : AH) (Q : Outcome → AH → Prop) (a0 : Nat) (p1 : Int32) (p2 : Int32) (p3 : Nat) (p4 : Nat) (hf : C G mX16_init d [.ref (a0), .int (p1)] h (KV Q (fun h1 => hK h1 a0 = 42 ∧ (∀ h4, h4 = pI h1 a0 336 p2 → (∀ h5, h5 = pR h4 a0 337 (some p3) → (∀ h6, h6 = pR h5 a0 338 (some p4) → (Q (.returned none) h6))))))) : C G mX45_init (d + 1) [.ref (a0), .int (p1), .int (p2), .ref (p3), .ref (p4)] h Q := by
  refine C.of_X (by decide +kernel) (Nat.le_of_ble_eq_true rfl) wX45_init ?_
  show X G mX45_init (d + 1) (some a0) [] 0 [(0, .ref (a0)), (1, .int (p1)), (2, .int (p2)), (3, .ref (p3)), (4, .ref (p4))] [] h Q
  refine x_aload_n (pc' := 1) 0 (dX45_init 0 rfl rfl) rfl rfl rfl ?_
  refine x_iload_n (pc' := 2) 1 (dX45_init 1 rfl rfl) rfl rfl rfl ?_
  refine x_inv (pc' := 5) (ν := mX16_init) (av := [_, _]) (st := []) rfl rfl (dX45_init 2 rfl rfl) (Nat.le_of_ble_eq_true rfl) wX16_init q237 (inv_I (dX45_init 2 rfl rfl) q1768 q1521 q1522 rfl (by decide) lX16_init) (fun b hb => by exact Or.inr (by rw [← hb]; rfl)) rfl ?_
  refine C.mono hf (fun _ _ => KV.g (fun h1 hf le2 => ?_))
  refine x_aload_n (pc' := 6) 0 (dX45_init 3 rfl rfl) rfl rfl rfl ?_
  refine x_iload_n (pc' := 7) 2 (dX45_init 4 rfl rfl) rfl rfl rfl ?_
  obtain ⟨k3, hf⟩ := hf
  refine x_putI (pc' := 10) (dX45_init 5 rfl rfl) g336 q1769 (Or.inl rfl) (Or.inr ⟨rfl, rfl, rfl, rfl⟩) (Or.inr rfl) rfl (hf_of 41 k3 rfl (by decide) m41_336) (fun h4 e9 => ?_)
  replace hf := hf h4 e9
  replace k3 : hK h4 a0 = 42 := by rw [e9]; exact k3
  refine x_aload_n (pc' := 11) 0 (dX45_init 6 rfl rfl) rfl rfl rfl ?_
  refine x_aload_n (pc' := 12) 3 (dX45_init 7 rfl rfl) rfl rfl rfl ?_
  refine x_putR (pc' := 15) (dX45_init 8 rfl rfl) g337 q1770 (Or.inl rfl) (Or.inr ⟨rfl, rfl, rfl, rfl⟩) (Or.inr rfl) rfl (hf_of 41 k3 rfl (by decide) m41_337) (fun h5 e8 => ?_)
  replace hf := hf h5 e8
  replace k3 : hK h5 a0 = 42 := by rw [e8]; exact k3
  refine x_aload_n (pc' := 16) 0 (dX45_init 9 rfl rfl) rfl rfl rfl ?_
  refine x_aload (pc' := 18) 4 (dX45_init 10 rfl rfl) rfl rfl ?_
  refine x_putR (pc' := 21) (dX45_init 11 rfl rfl) g338 q1771 (Or.inl rfl) (Or.inr ⟨rfl, rfl, rfl, rfl⟩) (Or.inr rfl) rfl (hf_of 41 k3 rfl (by decide) m41_338) (fun h6 e7 => ?_)
  replace hf := hf h6 e7
  replace k3 : hK h6 a0 = 42 := by rw [e7]; exact k3
  exact x_vret (dX45_init 12 rfl rfl) rfl hf
theorem bX45_resolve (G : Gh) (d : Nat) (h : AH) (Q : Outcome → AH → Prop) (a0 : Nat) (hf : hK h a0 = 42 ∧ (∃ b2, fR h a0 337 = some b2 ∧ (∃ (k : Nat) (ν : Mu), VT ⟨"LetMill$Exp", "resolve", "(LLetMill$Scope;)V"⟩ VMExp_resolve k ν ∧ hK h b2 = k + 1 ∧ C G ν d [.ref (b2), .ref (gW G 4)] h (KV Q (fun h4 => ∃ b6, fR h4 a0 338 = some b6 ∧ (∃ (k : Nat) (ν : Mu), VT ⟨"LetMill$Exp", "resolve", "(LLetMill$Scope;)V"⟩ VMExp_resolve k ν ∧ hK h4 b6 = k + 1 ∧ C G ν d [.ref (b6), .ref (gW G 4)] h4 (KV Q (fun h8 => Q (.returned none) h8)))))))) : C G mX45_resolve (d + 1) [.ref (a0), .ref (gW G 4)] h Q := by
  refine C.of_X (by decide +kernel) (Nat.le_of_ble_eq_true rfl) wX45_resolve ?_
  show X G mX45_resolve (d + 1) none [] 0 [(0, .ref (a0)), (1, .ref (gW G 4))] [] h Q
  refine x_aload_n (pc' := 1) 0 (dX45_resolve 0 rfl rfl) rfl rfl rfl ?_
  obtain ⟨k1, hf⟩ := hf
  obtain ⟨b2, e3, hf⟩ := hf
  refine x_getR (pc' := 4) (dX45_resolve 1 rfl rfl) g337 q1770 (Or.inl rfl) rfl (hf_of 41 k1 rfl (by decide) m41_337) e3 ?_
  refine x_aload_n (pc' := 5) 1 (dX45_resolve 2 rfl rfl) rfl rfl rfl ?_
  obtain ⟨k, ν, ⟨v0, v1, v2, v3, v4, v5, v6, v7⟩, k13, hf⟩ := hf
  refine x_inv (pc' := 8) (ν := ν) (st := []) rfl (sub_tr v7 rfl) (dX45_resolve 3 rfl rfl) (by have := v5; simp only [List.map, List.sum_cons, List.sum_nil, Value.category]; omega) v1 v2 (inv_U (k := k) (av := [_]) (dX45_resolve 3 rfl rfl) q2281 q2251 (by decide) v3 v4 (by decide) (show _ = some 1 by decide +kernel) v0 k13) (exN v6) rfl ?_
  refine C.mono hf (fun _ _ => KV.g (fun h4 hf le5 => ?_))
  replace le5 := Le.nx v6 le5
  have k1 := leK le5 k1 (by decide)
  refine x_aload_n (pc' := 9) 0 (dX45_resolve 4 rfl rfl) rfl rfl rfl ?_
  obtain ⟨b6, e7, hf⟩ := hf
  refine x_getR (pc' := 12) (dX45_resolve 5 rfl rfl) g338 q1771 (Or.inl rfl) rfl (hf_of 41 k1 rfl (by decide) m41_338) e7 ?_
  refine x_aload_n (pc' := 13) 1 (dX45_resolve 6 rfl rfl) rfl rfl rfl ?_
  obtain ⟨k, ν, ⟨v0, v1, v2, v3, v4, v5, v6, v7⟩, k10, hf⟩ := hf
  refine x_inv (pc' := 16) (ν := ν) (st := []) rfl (sub_tr v7 rfl) (dX45_resolve 7 rfl rfl) (by have := v5; simp only [List.map, List.sum_cons, List.sum_nil, Value.category]; omega) v1 v2 (inv_U (k := k) (av := [_]) (dX45_resolve 7 rfl rfl) q2281 q2251 (by decide) v3 v4 (by decide) (show _ = some 1 by decide +kernel) v0 k10) (exN v6) rfl ?_
  refine C.mono hf (fun _ _ => KV.g (fun h8 hf le9 => ?_))
  replace le9 := Le.nx v6 le9
  have k1 := leK le9 k1 (by decide)
  exact x_vret (dX45_resolve 8 rfl rfl) rfl hf
theorem bX45_infer (G : Gh) (d : Nat) (h : AH) (Q : Outcome → AH → Prop) (a0 : Nat) (s2 : So 2 (gW G) h) (s6 : So 6 (gW G) h) (hf : hK h a0 = 42 ∧ (∃ b2, fR h a0 337 = some b2 ∧ (∃ (k : Nat) (ν : Mu), VT ⟨"LetMill$Exp", "infer", "(LLetMill$Typer;)I"⟩ VMExp_infer k ν ∧ hK h b2 = k + 1 ∧ C G ν d [.ref (b2), .ref (gW G 6)] h (KI Q (fun x6 h4 => ∃ b7, fR h4 a0 338 = some b7 ∧ (∃ (k : Nat) (ν : Mu), VT ⟨"LetMill$Exp", "infer", "(LLetMill$Typer;)I"⟩ VMExp_infer k ν ∧ hK h4 b7 = k + 1 ∧ C G ν d [.ref (b7), .ref (gW G 6)] h4 (KI Q (fun x11 h9 => ((fI h9 a0 336) = 286 → (C G mX3_built_3 d [.ref (gW G 2), .int (10), .int (x6)] h9 (KI Q (fun x37 h35 => ((fI h35 a0 336) = 64 → (∃ b44, fR h35 a0 337 = some b44 ∧ (HF h35 b44 296 0 ∧ (C G mX11_same d [.ref (gW G 6), .int (x6), .int (x37), .int (fI h35 b44 296)] h35 (KV Q (fun h47 => ∃ b49, fR h47 a0 338 = some b49 ∧ (HF h47 b49 296 0 ∧ (C G mX11_same d [.ref (gW G 6), .int (x11), .int (x37), .int (fI h47 b49 296)] h47 (KV Q (fun h52 => Q (.returned (some (.int x37))) h52)))))))))) ∧ (¬ ((fI h35 a0 336) = 64) → (∃ b39, fR h35 a0 338 = some b39 ∧ (HF h35 b39 296 0 ∧ (C G mX11_same d [.ref (gW G 6), .int (x11), .int (x37), .int (fI h35 b39 296)] h35 (KV Q (fun h42 => Q (.returned (some (.int x37))) h42)))))))))) ∧ (¬ ((fI h9 a0 336) = 286) → (C G mX3_variable d [.ref (gW G 2)] h9 (KI Q (fun x15 h13 => C G mX3_built_3 d [.ref (gW G 2), .int (10), .int (x15)] h13 (KI Q (fun x18 h16 => ((fI h16 a0 336) = 64 → (∃ b25, fR h16 a0 337 = some b25 ∧ (HF h16 b25 296 0 ∧ (C G mX11_same d [.ref (gW G 6), .int (x6), .int (x18), .int (fI h16 b25 296)] h16 (KV Q (fun h28 => ∃ b30, fR h28 a0 338 = some b30 ∧ (HF h28 b30 296 0 ∧ (C G mX11_same d [.ref (gW G 6), .int (x11), .int (x18), .int (fI h28 b30 296)] h28 (KV Q (fun h33 => Q (.returned (some (.int x18))) h33)))))))))) ∧ (¬ ((fI h16 a0 336) = 64) → (∃ b20, fR h16 a0 338 = some b20 ∧ (HF h16 b20 296 0 ∧ (C G mX11_same d [.ref (gW G 6), .int (x11), .int (x18), .int (fI h16 b20 296)] h16 (KV Q (fun h23 => Q (.returned (some (.int x18))) h23)))))))))))))))))))) : C G mX45_infer (d + 1) [.ref (a0), .ref (gW G 6)] h Q := by
  refine C.of_X (by decide +kernel) (Nat.le_of_ble_eq_true rfl) wX45_infer ?_
  show X G mX45_infer (d + 1) none [] 0 [(0, .ref (a0)), (1, .ref (gW G 6))] [] h Q
  refine x_aload_n (pc' := 1) 0 (dX45_infer 0 rfl rfl) rfl rfl rfl ?_
  obtain ⟨k1, hf⟩ := hf
  obtain ⟨b2, e3, hf⟩ := hf
  refine x_getR (pc' := 4) (dX45_infer 1 rfl rfl) g337 q1770 (Or.inl rfl) rfl (hf_of 41 k1 rfl (by decide) m41_337) e3 ?_
  refine x_aload_n (pc' := 5) 1 (dX45_infer 2 rfl rfl) rfl rfl rfl ?_
  obtain ⟨k, ν, ⟨v0, v1, v2, v3, v4, v5, v6, v7⟩, k57, hf⟩ := hf
  refine x_inv (pc' := 8) (ν := ν) (st := []) rfl (sub_tr v7 rfl) (dX45_infer 3 rfl rfl) (by have := v5; simp only [List.map, List.sum_cons, List.sum_nil, Value.category]; omega) v1 v2 (inv_U (k := k) (av := [_]) (dX45_infer 3 rfl rfl) q2651 q2512 (by decide) v3 v4 (by decide) (show _ = some 1 by decide +kernel) v0 k57) (exN v6) rfl ?_
  refine C.mono hf (fun _ _ => KI.g (fun x6 h4 hf le5 => ?_))
  replace le5 := Le.nx v6 le5
  have k1 := leK le5 k1 (by decide)
  replace s2 := s2.le sc2 (le5)
  replace s6 := s6.le sc6 (le5)
  refine x_istore_n (pc' := 9) (dX45_infer 4 rfl rfl) rfl (by decide) rfl rfl ?_
  refine x_aload_n (pc' := 10) 1 (dX45_infer 5 rfl rfl) rfl rfl rfl ?_
  obtain ⟨b7, e8, hf⟩ := hf
  refine x_getR (pc' := 13) (dX45_infer 6 rfl rfl) g338 q1771 (Or.inl rfl) rfl (hf_of 41 k1 rfl (by decide) m41_338) e8 ?_
  refine x_aload_n (pc' := 14) 2 (dX45_infer 7 rfl rfl) rfl rfl rfl ?_
  obtain ⟨k, ν, ⟨v0, v1, v2, v3, v4, v5, v6, v7⟩, k54, hf⟩ := hf
  refine x_inv (pc' := 17) (ν := ν) (st := []) rfl (sub_tr v7 rfl) (dX45_infer 8 rfl rfl) (by have := v5; simp only [List.map, List.sum_cons, List.sum_nil, Value.category]; omega) v1 v2 (inv_U (k := k) (av := [_]) (dX45_infer 8 rfl rfl) q2651 q2512 (by decide) v3 v4 (by decide) (show _ = some 1 by decide +kernel) v0 k54) (exN v6) rfl ?_
  refine C.mono hf (fun _ _ => KI.g (fun x11 h9 hf le10 => ?_))
  replace le10 := Le.nx v6 le10
  have k1 := leK le10 k1 (by decide)
  replace s2 := s2.le sc2 (le10)
  replace s6 := s6.le sc6 (le10)
  refine x_istore_n (pc' := 18) (dX45_infer 9 rfl rfl) rfl (by decide) rfl rfl ?_
  refine x_aload_n (pc' := 19) 3 (dX45_infer 10 rfl rfl) rfl rfl rfl ?_
  refine x_getR (pc' := 22) (dX45_infer 11 rfl rfl) g108 q811 (Or.inl rfl) rfl (hf_of 9 s6.1 rfl (by decide) m9_108) (s6.2 0 _ rfl rfl).1 ?_
  refine x_bipush (pc' := 24) (v := 10) (dX45_infer 12 rfl rfl) (by decide) rfl ?_
  refine x_aload_n (pc' := 25) 2 (dX45_infer 13 rfl rfl) rfl rfl rfl ?_
  refine x_getI (pc' := 28) (dX45_infer 14 rfl rfl) g336 q1769 (Or.inl rfl) rfl (hf_of 41 k1 rfl (by decide) m41_336) ?_
  refine x_sipush (pc' := 31) (v := 286) (dX45_infer 15 rfl rfl) (by decide) rfl ?_
  refine x_icmp_ne (pc' := 34) (tgt := 38) (dX45_infer 16 rfl rfl) (by decide) rfl (fun c12 => ?_) (fun c12 => ?_)
  · replace hf := hf.2 c12
    refine x_aload_n (pc' := 39) 3 (dX45_infer 19 rfl rfl) rfl rfl rfl ?_
    refine x_getR (pc' := 42) (dX45_infer 20 rfl rfl) g108 q811 (Or.inl rfl) rfl (hf_of 9 s6.1 rfl (by decide) m9_108) (s6.2 0 _ rfl rfl).1 ?_
    refine x_inv (pc' := 45) (ν := mX3_variable) (av := [_]) (st := [_, _]) rfl rfl (dX45_infer 21 rfl rfl) (Nat.le_of_ble_eq_true rfl) wX3_variable q213 (inv_V (k := 2) (dX45_infer 21 rfl rfl) q2674 q2341 q2342 wX3_variable (by decide) lX3_variable (by decide) s2.1) (exN (by decide)) rfl ?_
    refine C.mono hf (fun _ _ => KI.g (fun x15 h13 hf le14 => ?_))
    have k1 := leK le14 k1 (by decide)
    replace s2 := s2.le sc2 (le14)
    replace s6 := s6.le sc6 (le14)
    refine x_inv (pc' := 48) (ν := mX3_built_3) (av := [_, _, _]) (st := []) rfl rfl (dX45_infer 22 rfl rfl) (Nat.le_of_ble_eq_true rfl) wX3_built_3 q213 (inv_V (k := 2) (dX45_infer 22 rfl rfl) q2675 q2378 q2379 wX3_built_3 (by decide) lX3_built_3 (by decide) s2.1) (exN (by decide)) rfl ?_
    refine C.mono hf (fun _ _ => KI.g (fun x18 h16 hf le17 => ?_))
    have k1 := leK le17 k1 (by decide)
    replace s2 := s2.le sc2 (le17)
    replace s6 := s6.le sc6 (le17)
    refine x_istore (pc' := 50) (dX45_infer 23 rfl rfl) (by decide) rfl rfl ?_
    refine x_aload_n (pc' := 51) 3 (dX45_infer 24 rfl rfl) rfl rfl rfl ?_
    refine x_getI (pc' := 54) (dX45_infer 25 rfl rfl) g336 q1769 (Or.inl rfl) rfl (hf_of 41 k1 rfl (by decide) m41_336) ?_
    refine x_bipush (pc' := 56) (v := 64) (dX45_infer 26 rfl rfl) (by decide) rfl ?_
    refine x_icmp_ne (pc' := 59) (tgt := 73) (dX45_infer 27 rfl rfl) (by decide) rfl (fun c19 => ?_) (fun c19 => ?_)
    · replace hf := hf.2 c19
      refine x_aload_n (pc' := 74) 4 (dX45_infer 35 rfl rfl) rfl rfl rfl ?_
      refine x_iload_n (pc' := 75) 1 (dX45_infer 36 rfl rfl) rfl rfl rfl ?_
      refine x_iload (pc' := 77) 0 (dX45_infer 37 rfl rfl) rfl rfl ?_
      refine x_aload_n (pc' := 78) 3 (dX45_infer 38 rfl rfl) rfl rfl rfl ?_
      obtain ⟨b20, e21, hf⟩ := hf
      refine x_getR (pc' := 81) (dX45_infer 39 rfl rfl) g338 q1771 (Or.inl rfl) rfl (hf_of 41 k1 rfl (by decide) m41_338) e21 ?_
      obtain ⟨u22, hf⟩ := hf
      refine x_getI (pc' := 84) (dX45_infer 40 rfl rfl) g296 q1540 (Or.inl rfl) rfl u22 ?_
      refine x_inv (pc' := 87) (ν := mX11_same) (av := [_, _, _, _]) (st := []) rfl rfl (dX45_infer 41 rfl rfl) (Nat.le_of_ble_eq_true rfl) wX11_same q225 (inv_V (k := 9) (dX45_infer 41 rfl rfl) q2676 q2483 q2484 wX11_same (by decide) lX11_same (by decide) s6.1) (exN (by decide)) rfl ?_
      refine C.mono hf (fun _ _ => KV.g (fun h23 hf le24 => ?_))
      have k1 := leK le24 k1 (by decide)
      replace s2 := s2.le sc2 (le24)
      replace s6 := s6.le sc6 (le24)
      refine x_iload (pc' := 89) 0 (dX45_infer 42 rfl rfl) rfl rfl ?_
      exact x_iret (dX45_infer 43 rfl rfl) rfl hf
    · replace hf := hf.1 (Classical.not_not.mp c19)
      replace c19 := Classical.not_not.mp c19
      refine x_aload_n (pc' := 60) 4 (dX45_infer 28 rfl rfl) rfl rfl rfl ?_
      refine x_iload_n (pc' := 61) 2 (dX45_infer 29 rfl rfl) rfl rfl rfl ?_
      refine x_iload (pc' := 63) 0 (dX45_infer 30 rfl rfl) rfl rfl ?_
      refine x_aload_n (pc' := 64) 3 (dX45_infer 31 rfl rfl) rfl rfl rfl ?_
      obtain ⟨b25, e26, hf⟩ := hf
      refine x_getR (pc' := 67) (dX45_infer 32 rfl rfl) g337 q1770 (Or.inl rfl) rfl (hf_of 41 k1 rfl (by decide) m41_337) e26 ?_
      obtain ⟨u27, hf⟩ := hf
      refine x_getI (pc' := 70) (dX45_infer 33 rfl rfl) g296 q1540 (Or.inl rfl) rfl u27 ?_
      refine x_inv (pc' := 73) (ν := mX11_same) (av := [_, _, _, _]) (st := []) rfl rfl (dX45_infer 34 rfl rfl) (Nat.le_of_ble_eq_true rfl) wX11_same q225 (inv_V (k := 9) (dX45_infer 34 rfl rfl) q2676 q2483 q2484 wX11_same (by decide) lX11_same (by decide) s6.1) (exN (by decide)) rfl ?_
      refine C.mono hf (fun _ _ => KV.g (fun h28 hf le29 => ?_))
      have k1 := leK le29 k1 (by decide)
      replace s2 := s2.le sc2 (le29)
      replace s6 := s6.le sc6 (le29)
      refine x_aload_n (pc' := 74) 4 (dX45_infer 35 rfl rfl) rfl rfl rfl ?_
      refine x_iload_n (pc' := 75) 1 (dX45_infer 36 rfl rfl) rfl rfl rfl ?_
      refine x_iload (pc' := 77) 0 (dX45_infer 37 rfl rfl) rfl rfl ?_
      refine x_aload_n (pc' := 78) 3 (dX45_infer 38 rfl rfl) rfl rfl rfl ?_
      obtain ⟨b30, e31, hf⟩ := hf
      refine x_getR (pc' := 81) (dX45_infer 39 rfl rfl) g338 q1771 (Or.inl rfl) rfl (hf_of 41 k1 rfl (by decide) m41_338) e31 ?_
      obtain ⟨u32, hf⟩ := hf
      refine x_getI (pc' := 84) (dX45_infer 40 rfl rfl) g296 q1540 (Or.inl rfl) rfl u32 ?_
      refine x_inv (pc' := 87) (ν := mX11_same) (av := [_, _, _, _]) (st := []) rfl rfl (dX45_infer 41 rfl rfl) (Nat.le_of_ble_eq_true rfl) wX11_same q225 (inv_V (k := 9) (dX45_infer 41 rfl rfl) q2676 q2483 q2484 wX11_same (by decide) lX11_same (by decide) s6.1) (exN (by decide)) rfl ?_
      refine C.mono hf (fun _ _ => KV.g (fun h33 hf le34 => ?_))
      have k1 := leK le34 k1 (by decide)
      replace s2 := s2.le sc2 (le34)
      replace s6 := s6.le sc6 (le34)
      refine x_iload (pc' := 89) 0 (dX45_infer 42 rfl rfl) rfl rfl ?_
      exact x_iret (dX45_infer 43 rfl rfl) rfl hf
  · replace hf := hf.1 (Classical.not_not.mp c12)
    replace c12 := Classical.not_not.mp c12
    refine x_iload_n (pc' := 35) 1 (dX45_infer 17 rfl rfl) rfl rfl rfl ?_
    refine x_goto (tgt := 45) (dX45_infer 18 rfl rfl) (by decide) ?_
    refine x_inv (pc' := 48) (ν := mX3_built_3) (av := [_, _, _]) (st := []) rfl rfl (dX45_infer 22 rfl rfl) (Nat.le_of_ble_eq_true rfl) wX3_built_3 q213 (inv_V (k := 2) (dX45_infer 22 rfl rfl) q2675 q2378 q2379 wX3_built_3 (by decide) lX3_built_3 (by decide) s2.1) (exN (by decide)) rfl ?_
    refine C.mono hf (fun _ _ => KI.g (fun x37 h35 hf le36 => ?_))
    have k1 := leK le36 k1 (by decide)
    replace s2 := s2.le sc2 (le36)
    replace s6 := s6.le sc6 (le36)
    refine x_istore (pc' := 50) (dX45_infer 23 rfl rfl) (by decide) rfl rfl ?_
    refine x_aload_n (pc' := 51) 3 (dX45_infer 24 rfl rfl) rfl rfl rfl ?_
    refine x_getI (pc' := 54) (dX45_infer 25 rfl rfl) g336 q1769 (Or.inl rfl) rfl (hf_of 41 k1 rfl (by decide) m41_336) ?_
    refine x_bipush (pc' := 56) (v := 64) (dX45_infer 26 rfl rfl) (by decide) rfl ?_
    refine x_icmp_ne (pc' := 59) (tgt := 73) (dX45_infer 27 rfl rfl) (by decide) rfl (fun c38 => ?_) (fun c38 => ?_)
    · replace hf := hf.2 c38
      refine x_aload_n (pc' := 74) 4 (dX45_infer 35 rfl rfl) rfl rfl rfl ?_
      refine x_iload_n (pc' := 75) 1 (dX45_infer 36 rfl rfl) rfl rfl rfl ?_
      refine x_iload (pc' := 77) 0 (dX45_infer 37 rfl rfl) rfl rfl ?_
      refine x_aload_n (pc' := 78) 3 (dX45_infer 38 rfl rfl) rfl rfl rfl ?_
      obtain ⟨b39, e40, hf⟩ := hf
      refine x_getR (pc' := 81) (dX45_infer 39 rfl rfl) g338 q1771 (Or.inl rfl) rfl (hf_of 41 k1 rfl (by decide) m41_338) e40 ?_
      obtain ⟨u41, hf⟩ := hf
      refine x_getI (pc' := 84) (dX45_infer 40 rfl rfl) g296 q1540 (Or.inl rfl) rfl u41 ?_
      refine x_inv (pc' := 87) (ν := mX11_same) (av := [_, _, _, _]) (st := []) rfl rfl (dX45_infer 41 rfl rfl) (Nat.le_of_ble_eq_true rfl) wX11_same q225 (inv_V (k := 9) (dX45_infer 41 rfl rfl) q2676 q2483 q2484 wX11_same (by decide) lX11_same (by decide) s6.1) (exN (by decide)) rfl ?_
      refine C.mono hf (fun _ _ => KV.g (fun h42 hf le43 => ?_))
      have k1 := leK le43 k1 (by decide)
      replace s2 := s2.le sc2 (le43)
      replace s6 := s6.le sc6 (le43)
      refine x_iload (pc' := 89) 0 (dX45_infer 42 rfl rfl) rfl rfl ?_
      exact x_iret (dX45_infer 43 rfl rfl) rfl hf
    · replace hf := hf.1 (Classical.not_not.mp c38)
      replace c38 := Classical.not_not.mp c38
      refine x_aload_n (pc' := 60) 4 (dX45_infer 28 rfl rfl) rfl rfl rfl ?_
      refine x_iload_n (pc' := 61) 2 (dX45_infer 29 rfl rfl) rfl rfl rfl ?_
      refine x_iload (pc' := 63) 0 (dX45_infer 30 rfl rfl) rfl rfl ?_
      refine x_aload_n (pc' := 64) 3 (dX45_infer 31 rfl rfl) rfl rfl rfl ?_
      obtain ⟨b44, e45, hf⟩ := hf
      refine x_getR (pc' := 67) (dX45_infer 32 rfl rfl) g337 q1770 (Or.inl rfl) rfl (hf_of 41 k1 rfl (by decide) m41_337) e45 ?_
      obtain ⟨u46, hf⟩ := hf
      refine x_getI (pc' := 70) (dX45_infer 33 rfl rfl) g296 q1540 (Or.inl rfl) rfl u46 ?_
      refine x_inv (pc' := 73) (ν := mX11_same) (av := [_, _, _, _]) (st := []) rfl rfl (dX45_infer 34 rfl rfl) (Nat.le_of_ble_eq_true rfl) wX11_same q225 (inv_V (k := 9) (dX45_infer 34 rfl rfl) q2676 q2483 q2484 wX11_same (by decide) lX11_same (by decide) s6.1) (exN (by decide)) rfl ?_
      refine C.mono hf (fun _ _ => KV.g (fun h47 hf le48 => ?_))
      have k1 := leK le48 k1 (by decide)
      replace s2 := s2.le sc2 (le48)
      replace s6 := s6.le sc6 (le48)
      refine x_aload_n (pc' := 74) 4 (dX45_infer 35 rfl rfl) rfl rfl rfl ?_
      refine x_iload_n (pc' := 75) 1 (dX45_infer 36 rfl rfl) rfl rfl rfl ?_
      refine x_iload (pc' := 77) 0 (dX45_infer 37 rfl rfl) rfl rfl ?_
      refine x_aload_n (pc' := 78) 3 (dX45_infer 38 rfl rfl) rfl rfl rfl ?_
      obtain ⟨b49, e50, hf⟩ := hf
      refine x_getR (pc' := 81) (dX45_infer 39 rfl rfl) g338 q1771 (Or.inl rfl) rfl (hf_of 41 k1 rfl (by decide) m41_338) e50 ?_
      obtain ⟨u51, hf⟩ := hf
      refine x_getI (pc' := 84) (dX45_infer 40 rfl rfl) g296 q1540 (Or.inl rfl) rfl u51 ?_
      refine x_inv (pc' := 87) (ν := mX11_same) (av := [_, _, _, _]) (st := []) rfl rfl (dX45_infer 41 rfl rfl) (Nat.le_of_ble_eq_true rfl) wX11_same q225 (inv_V (k := 9) (dX45_infer 41 rfl rfl) q2676 q2483 q2484 wX11_same (by decide) lX11_same (by decide) s6.1) (exN (by decide)) rfl ?_
      refine C.mono hf (fun _ _ => KV.g (fun h52 hf le53 => ?_))
      have k1 := leK le53 k1 (by decide)
      replace s2 := s2.le sc2 (le53)
      replace s6 := s6.le sc6 (le53)
      refine x_iload (pc' := 89) 0 (dX45_infer 42 rfl rfl) rfl rfl ?_
      exact x_iret (dX45_infer 43 rfl rfl) rfl hf
theorem bX45_begin (G : Gh) (d : Nat) (h : AH) (Q : Outcome → AH → Prop) (a0 : Nat) (p2 : Int32) (s3 : So 3 (gW G) h) (hf : C G mX6_pay d [.ref (gW G 3), .int (1)] h (KI Q (fun x3 h1 => (x3 = 0 → (Q (.returned none) h1)) ∧ (¬ x3 = 0 → (C G mX6_frame d [.ref (gW G 3), .ref (a0), .int (0), .int (p2)] h1 (KV Q (fun h5 => hK h5 a0 = 42 ∧ (∃ b8, fR h5 a0 337 = some b8 ∧ (C G mX6_next d [.ref (gW G 3), .ref (b8), .int (p2)] h5 (KV Q (fun h10 => Q (.returned none) h10))))))))))) : C G mX45_begin (d + 1) [.ref (a0), .ref (gW G 3), .int (p2)] h Q := by
  refine C.of_X (by decide +kernel) (Nat.le_of_ble_eq_true rfl) wX45_begin ?_
  show X G mX45_begin (d + 1) none [] 0 [(0, .ref (a0)), (1, .ref (gW G 3)), (2, .int (p2))] [] h Q
  refine x_aload_n (pc' := 1) 1 (dX45_begin 0 rfl rfl) rfl rfl rfl ?_
  refine x_iconst (pc' := 2) (v := 1) (dX45_begin 1 rfl rfl) (by decide) rfl ?_
  refine x_inv (pc' := 5) (ν := mX6_pay) (av := [_, _]) (st := []) rfl rfl (dX45_begin 2 rfl rfl) (Nat.le_of_ble_eq_true rfl) wX6_pay q220 (inv_V (k := 4) (dX45_begin 2 rfl rfl) q3030 q2891 q2892 wX6_pay (by decide) lX6_pay (by decide) s3.1) (exN (by decide)) rfl ?_
  refine C.mono hf (fun _ _ => KI.g (fun x3 h1 hf le2 => ?_))
  replace s3 := s3.le sc3 (le2)
  refine x_if_ne (pc' := 8) (tgt := 9) (dX45_begin 3 rfl rfl) (by decide) rfl (fun c4 => ?_) (fun c4 => ?_)
  · replace hf := hf.2 c4
    refine x_aload_n (pc' := 10) 1 (dX45_begin 5 rfl rfl) rfl rfl rfl ?_
    refine x_aload_n (pc' := 11) 0 (dX45_begin 6 rfl rfl) rfl rfl rfl ?_
    refine x_iconst (pc' := 12) (v := 0) (dX45_begin 7 rfl rfl) (by decide) rfl ?_
    refine x_iload_n (pc' := 13) 2 (dX45_begin 8 rfl rfl) rfl rfl rfl ?_
    refine x_inv (pc' := 16) (ν := mX6_frame) (av := [_, _, _, _]) (st := []) rfl rfl (dX45_begin 9 rfl rfl) (Nat.le_of_ble_eq_true rfl) wX6_frame q220 (inv_V (k := 4) (dX45_begin 9 rfl rfl) q3031 q2899 q2900 wX6_frame (by decide) lX6_frame (by decide) s3.1) (exN (by decide)) rfl ?_
    refine C.mono hf (fun _ _ => KV.g (fun h5 hf le6 => ?_))
    replace s3 := s3.le sc3 (le6)
    refine x_aload_n (pc' := 17) 1 (dX45_begin 10 rfl rfl) rfl rfl rfl ?_
    refine x_aload_n (pc' := 18) 0 (dX45_begin 11 rfl rfl) rfl rfl rfl ?_
    obtain ⟨k7, hf⟩ := hf
    obtain ⟨b8, e9, hf⟩ := hf
    refine x_getR (pc' := 21) (dX45_begin 12 rfl rfl) g337 q1770 (Or.inl rfl) rfl (hf_of 41 k7 rfl (by decide) m41_337) e9 ?_
    refine x_iload_n (pc' := 22) 2 (dX45_begin 13 rfl rfl) rfl rfl rfl ?_
    refine x_inv (pc' := 25) (ν := mX6_next) (av := [_, _, _]) (st := []) rfl rfl (dX45_begin 14 rfl rfl) (Nat.le_of_ble_eq_true rfl) wX6_next q220 (inv_V (k := 4) (dX45_begin 14 rfl rfl) q3032 q2881 q2882 wX6_next (by decide) lX6_next (by decide) s3.1) (exN (by decide)) rfl ?_
    refine C.mono hf (fun _ _ => KV.g (fun h10 hf le11 => ?_))
    have k7 := leK le11 k7 (by decide)
    replace s3 := s3.le sc3 (le11)
    exact x_vret (dX45_begin 15 rfl rfl) rfl hf
  · replace hf := hf.1 (Classical.not_not.mp c4)
    replace c4 := Classical.not_not.mp c4
    exact x_vret (dX45_begin 4 rfl rfl) rfl hf
theorem bX45_resume (G : Gh) (d : Nat) (h : AH) (Q : Outcome → AH → Prop) (a0 : Nat) (p2 : Int32) (p3 : Int32) (p4 : Int32) (s3 : So 3 (gW G) h) (hf : (p2 = 0 → (C G mX6_push d [.ref (gW G 3), .int (p4)] h (KV Q (fun h14 => C G mX6_frame d [.ref (gW G 3), .ref (a0), .int (1), .int (p3)] h14 (KV Q (fun h16 => hK h16 a0 = 42 ∧ (∃ b19, fR h16 a0 338 = some b19 ∧ (C G mX6_next d [.ref (gW G 3), .ref (b19), .int (p3)] h16 (KV Q (fun h21 => Q (.returned none) h21)))))))))) ∧ (¬ p2 = 0 → (C G mX6_pop d [.ref (gW G 3)] h (KI Q (fun x4 h2 => hK h2 a0 = 42 ∧ (((fI h2 a0 336) = 286 → (C G mX6_made_2 d [.ref (gW G 3), .int (3), .int (x4), .int (p4)] h2 (KI Q (fun x11 h9 => C G mX6_give d [.ref (gW G 3), .int (x11)] h9 (KV Q (fun h12 => Q (.returned none) h12)))))) ∧ (¬ ((fI h2 a0 336) = 286) → (C G mX6_append d [.ref (gW G 3), .int (x4), .int (p4)] h2 (KV Q (fun h7 => Q (.returned none) h7)))))))))) : C G mX45_resume (d + 1) [.ref (a0), .ref (gW G 3), .int (p2), .int (p3), .int (p4)] h Q := by
  refine C.of_X (by decide +kernel) (Nat.le_of_ble_eq_true rfl) wX45_resume ?_
  show X G mX45_resume (d + 1) none [] 0 [(0, .ref (a0)), (1, .ref (gW G 3)), (2, .int (p2)), (3, .int (p3)), (4, .int (p4))] [] h Q
  refine x_iload_n (pc' := 1) 2 (dX45_resume 0 rfl rfl) rfl rfl rfl ?_
  refine x_if_ne (pc' := 4) (tgt := 27) (dX45_resume 1 rfl rfl) (by decide) rfl (fun c1 => ?_) (fun c1 => ?_)
  · replace hf := hf.2 c1
    refine x_aload_n (pc' := 28) 1 (dX45_resume 16 rfl rfl) rfl rfl rfl ?_
    refine x_inv (pc' := 31) (ν := mX6_pop) (av := [_]) (st := []) rfl rfl (dX45_resume 17 rfl rfl) (Nat.le_of_ble_eq_true rfl) wX6_pop q220 (inv_V (k := 4) (dX45_resume 17 rfl rfl) q3274 q3063 q3064 wX6_pop (by decide) lX6_pop (by decide) s3.1) (exN (by decide)) rfl ?_
    refine C.mono hf (fun _ _ => KI.g (fun x4 h2 hf le3 => ?_))
    replace s3 := s3.le sc3 (le3)
    refine x_istore (pc' := 33) (dX45_resume 18 rfl rfl) (by decide) rfl rfl ?_
    refine x_aload_n (pc' := 34) 1 (dX45_resume 19 rfl rfl) rfl rfl rfl ?_
    obtain ⟨k5, hf⟩ := hf
    refine x_getI (pc' := 37) (dX45_resume 20 rfl rfl) g336 q1769 (Or.inl rfl) rfl (hf_of 41 k5 rfl (by decide) m41_336) ?_
    refine x_sipush (pc' := 40) (v := 286) (dX45_resume 21 rfl rfl) (by decide) rfl ?_
    refine x_icmp_ne (pc' := 43) (tgt := 59) (dX45_resume 22 rfl rfl) (by decide) rfl (fun c6 => ?_) (fun c6 => ?_)
    · replace hf := hf.2 c6
      refine x_aload_n (pc' := 60) 2 (dX45_resume 31 rfl rfl) rfl rfl rfl ?_
      refine x_iload (pc' := 62) 0 (dX45_resume 32 rfl rfl) rfl rfl ?_
      refine x_iload (pc' := 64) 5 (dX45_resume 33 rfl rfl) rfl rfl ?_
      refine x_inv (pc' := 67) (ν := mX6_append) (av := [_, _, _]) (st := []) rfl rfl (dX45_resume 34 rfl rfl) (Nat.le_of_ble_eq_true rfl) wX6_append q220 (inv_V (k := 4) (dX45_resume 34 rfl rfl) q3277 q3278 q3279 wX6_append (by decide) lX6_append (by decide) s3.1) (exN (by decide)) rfl ?_
      refine C.mono hf (fun _ _ => KV.g (fun h7 hf le8 => ?_))
      have k5 := leK le8 k5 (by decide)
      replace s3 := s3.le sc3 (le8)
      exact x_vret (dX45_resume 35 rfl rfl) rfl hf
    · replace hf := hf.1 (Classical.not_not.mp c6)
      replace c6 := Classical.not_not.mp c6
      refine x_aload_n (pc' := 44) 2 (dX45_resume 23 rfl rfl) rfl rfl rfl ?_
      refine x_aload_n (pc' := 45) 2 (dX45_resume 24 rfl rfl) rfl rfl rfl ?_
      refine x_iconst (pc' := 46) (v := 3) (dX45_resume 25 rfl rfl) (by decide) rfl ?_
      refine x_iload (pc' := 48) 0 (dX45_resume 26 rfl rfl) rfl rfl ?_
      refine x_iload (pc' := 50) 5 (dX45_resume 27 rfl rfl) rfl rfl ?_
      refine x_inv (pc' := 53) (ν := mX6_made_2) (av := [_, _, _, _]) (st := [_]) rfl rfl (dX45_resume 28 rfl rfl) (Nat.le_of_ble_eq_true rfl) wX6_made_2 q220 (inv_V (k := 4) (dX45_resume 28 rfl rfl) q3275 q3002 q3003 wX6_made_2 (by decide) lX6_made_2 (by decide) s3.1) (exN (by decide)) rfl ?_
      refine C.mono hf (fun _ _ => KI.g (fun x11 h9 hf le10 => ?_))
      have k5 := leK le10 k5 (by decide)
      replace s3 := s3.le sc3 (le10)
      refine x_inv (pc' := 56) (ν := mX6_give) (av := [_, _]) (st := []) rfl rfl (dX45_resume 29 rfl rfl) (Nat.le_of_ble_eq_true rfl) wX6_give q220 (inv_V (k := 4) (dX45_resume 29 rfl rfl) q3276 q2913 q2914 wX6_give (by decide) lX6_give (by decide) s3.1) (exN (by decide)) rfl ?_
      refine C.mono hf (fun _ _ => KV.g (fun h12 hf le13 => ?_))
      have k5 := leK le13 k5 (by decide)
      replace s3 := s3.le sc3 (le13)
      refine x_goto (tgt := 67) (dX45_resume 30 rfl rfl) (by decide) ?_
      exact x_vret (dX45_resume 35 rfl rfl) rfl hf
  · replace hf := hf.1 (Classical.not_not.mp c1)
    replace c1 := Classical.not_not.mp c1
    refine x_aload_n (pc' := 5) 1 (dX45_resume 2 rfl rfl) rfl rfl rfl ?_
    refine x_iload (pc' := 7) 4 (dX45_resume 3 rfl rfl) rfl rfl ?_
    refine x_inv (pc' := 10) (ν := mX6_push) (av := [_, _]) (st := []) rfl rfl (dX45_resume 4 rfl rfl) (Nat.le_of_ble_eq_true rfl) wX6_push q220 (inv_V (k := 4) (dX45_resume 4 rfl rfl) q3273 q3059 q3060 wX6_push (by decide) lX6_push (by decide) s3.1) (exN (by decide)) rfl ?_
    refine C.mono hf (fun _ _ => KV.g (fun h14 hf le15 => ?_))
    replace s3 := s3.le sc3 (le15)
    refine x_aload_n (pc' := 11) 1 (dX45_resume 5 rfl rfl) rfl rfl rfl ?_
    refine x_aload_n (pc' := 12) 0 (dX45_resume 6 rfl rfl) rfl rfl rfl ?_
    refine x_iconst (pc' := 13) (v := 1) (dX45_resume 7 rfl rfl) (by decide) rfl ?_
    refine x_iload_n (pc' := 14) 3 (dX45_resume 8 rfl rfl) rfl rfl rfl ?_
    refine x_inv (pc' := 17) (ν := mX6_frame) (av := [_, _, _, _]) (st := []) rfl rfl (dX45_resume 9 rfl rfl) (Nat.le_of_ble_eq_true rfl) wX6_frame q220 (inv_V (k := 4) (dX45_resume 9 rfl rfl) q3031 q2899 q2900 wX6_frame (by decide) lX6_frame (by decide) s3.1) (exN (by decide)) rfl ?_
    refine C.mono hf (fun _ _ => KV.g (fun h16 hf le17 => ?_))
    replace s3 := s3.le sc3 (le17)
    refine x_aload_n (pc' := 18) 1 (dX45_resume 10 rfl rfl) rfl rfl rfl ?_
    refine x_aload_n (pc' := 19) 0 (dX45_resume 11 rfl rfl) rfl rfl rfl ?_
    obtain ⟨k18, hf⟩ := hf
    obtain ⟨b19, e20, hf⟩ := hf
    refine x_getR (pc' := 22) (dX45_resume 12 rfl rfl) g338 q1771 (Or.inl rfl) rfl (hf_of 41 k18 rfl (by decide) m41_338) e20 ?_
    refine x_iload_n (pc' := 23) 3 (dX45_resume 13 rfl rfl) rfl rfl rfl ?_
    refine x_inv (pc' := 26) (ν := mX6_next) (av := [_, _, _]) (st := []) rfl rfl (dX45_resume 14 rfl rfl) (Nat.le_of_ble_eq_true rfl) wX6_next q220 (inv_V (k := 4) (dX45_resume 14 rfl rfl) q3032 q2881 q2882 wX6_next (by decide) lX6_next (by decide) s3.1) (exN (by decide)) rfl ?_
    refine C.mono hf (fun _ _ => KV.g (fun h21 hf le22 => ?_))
    have k18 := leK le22 k18 (by decide)
    replace s3 := s3.le sc3 (le22)
    exact x_vret (dX45_resume 15 rfl rfl) rfl hf
theorem bX46_init (G : Gh) (d : Nat) (hd1 : 1 ≤ d) (h : AH) (Q : Outcome → AH → Prop) (a0 : Nat) (hf : (¬ (4 : Int32) < 0) ∧ (hc h + 1 ≤ MC) ∧ (hs h + (4 : Int32).toNatClampNeg ≤ MS) ∧ ∀ q1, hK h q1 = 0 → ∀ h3, h3 = nA h q1 0 (4 : Int32).toNatClampNeg → (hK h3 a0 = 43 ∧ (∀ h8, h8 = pR h3 a0 339 (some q1) → (Q (.returned none) h8)))) : C G mX46_init d [.ref (a0)] h Q := by
  refine C.of_X (by decide +kernel) (Nat.le_of_ble_eq_true rfl) wX46_init ?_
  show X G mX46_init d (some a0) [] 0 [(0, .ref (a0))] [] h Q
  refine x_aload_n (pc' := 1) 0 (dX46_init 0 rfl rfl) rfl rfl rfl ?_
  refine x_objInit (pc' := 4) (dX46_init 1 rfl rfl) q1786 q288 q289 (by decide) (by omega) rfl ?_
  refine x_aload_n (pc' := 5) 0 (dX46_init 2 rfl rfl) rfl rfl rfl ?_
  refine x_iconst (pc' := 6) (v := 4) (dX46_init 3 rfl rfl) (by decide) rfl ?_
  obtain ⟨z5, n1, n2, hf⟩ := hf
  refine x_newa0 (pc' := 8) (dX46_init 4 rfl rfl) rfl z5 (by decide) n1 n2 (fun q1 h3 k2 e4 => ?_)
  replace hf := hf q1 k2 h3 e4
  have k6 : hK h3 q1 = 1000 := by rw [e4]; exact kNAs
  obtain ⟨k7, hf⟩ := hf
  refine x_putR (pc' := 11) (dX46_init 5 rfl rfl) g339 q1787 (Or.inl rfl) (Or.inl rfl) (Or.inr rfl) rfl (hf_of 42 k7 rfl (by decide) m42_339) (fun h8 e9 => ?_)
  replace hf := hf h8 e9
  replace k6 : hK h8 q1 = 1000 := by rw [e9]; exact k6
  replace k7 : hK h8 a0 = 43 := by rw [e9]; exact k7
  exact x_vret (dX46_init 6 rfl rfl) rfl hf
theorem bX46_add (G : Gh) (d : Nat) (h : AH) (Q : Outcome → AH → Prop) (a0 : Nat) (p1 : Int32) (hf : hK h a0 = 43 ∧ (∃ b2, fR h a0 339 = some b2 ∧ (hK h b2 = 1000 ∧ (((fI h a0 340) = (Int32.ofNat (hL h b2)) → ((¬ (2 * (fI h a0 340) : Int32) < 0) ∧ (hc h + 1 ≤ MC) ∧ (hs h + (2 * (fI h a0 340) : Int32).toNatClampNeg ≤ MS) ∧ ∀ q15, hK h q15 = 0 → ∀ h17, h17 = nA h q15 0 (2 * (fI h a0 340) : Int32).toNatClampNeg → (X G mX46_add d none [] 23 [(0, .ref (a0)), (1, .int (p1)), (2, .ref (q15)), (3, .int (0))] [] h17 Q))) ∧ (¬ ((fI h a0 340) = (Int32.ofNat (hL h b2))) → (∃ b6, fR h a0 339 = some b6 ∧ (hK h b6 = 1000 ∧ Ns (gW G) b6 ∧ vp_in (fI h a0 340) (hL h b6) ∧ ∀ h10, h10 = sI h b6 (fI h a0 340).toNatClampNeg p1 → (∀ h13, h13 = pI h10 a0 340 ((fI h10 a0 340) + 1) → (Q (.returned none) h13))))))))) : C G mX46_add d [.ref (a0), .int (p1)] h Q := by
  refine C.of_X (by decide +kernel) (Nat.le_of_ble_eq_true rfl) wX46_add ?_
  show X G mX46_add d none [] 0 [(0, .ref (a0)), (1, .int (p1))] [] h Q
  refine x_aload_n (pc' := 1) 0 (dX46_add 0 rfl rfl) rfl rfl rfl ?_
  obtain ⟨k1, hf⟩ := hf
  refine x_getI (pc' := 4) (dX46_add 1 rfl rfl) g340 q1788 (Or.inl rfl) rfl (hf_of 42 k1 rfl (by decide) m42_340) ?_
  refine x_aload_n (pc' := 5) 0 (dX46_add 2 rfl rfl) rfl rfl rfl ?_
  obtain ⟨b2, e3, hf⟩ := hf
  refine x_getR (pc' := 8) (dX46_add 3 rfl rfl) g339 q1787 (Or.inl rfl) rfl (hf_of 42 k1 rfl (by decide) m42_339) e3 ?_
  obtain ⟨k4, hf⟩ := hf
  refine x_alen (pc' := 9) (t := 0) (ty := .int) (dX46_add 4 rfl rfl) rfl rfl k4 ?_
  refine x_icmp_ne (pc' := 12) (tgt := 51) (dX46_add 5 rfl rfl) (by decide) rfl (fun c5 => ?_) (fun c5 => ?_)
  · replace hf := hf.2 c5
    refine x_aload_n (pc' := 52) 0 (dX46_add 30 rfl rfl) rfl rfl rfl ?_
    obtain ⟨b6, e7, hf⟩ := hf
    refine x_getR (pc' := 55) (dX46_add 31 rfl rfl) g339 q1787 (Or.inl rfl) rfl (hf_of 42 k1 rfl (by decide) m42_339) e7 ?_
    refine x_aload_n (pc' := 56) 0 (dX46_add 32 rfl rfl) rfl rfl rfl ?_
    refine x_getI (pc' := 59) (dX46_add 33 rfl rfl) g340 q1788 (Or.inl rfl) rfl (hf_of 42 k1 rfl (by decide) m42_340) ?_
    refine x_iload_n (pc' := 60) 1 (dX46_add 34 rfl rfl) rfl rfl rfl ?_
    obtain ⟨k8, hf⟩ := hf
    obtain ⟨n12, hf⟩ := hf
    obtain ⟨i9, hf⟩ := hf
    refine x_iast (pc' := 61) (dX46_add 35 rfl rfl) rfl k8 (Or.inr ⟨n12, by decide⟩) i9 (fun h10 e11 => ?_)
    replace hf := hf h10 e11
    replace k1 : hK h10 a0 = 43 := by rw [e11]; exact k1
    replace k4 : hK h10 b2 = 1000 := by rw [e11]; exact k4
    replace k8 : hK h10 b6 = 1000 := by rw [e11]; exact k8
    refine x_aload_n (pc' := 62) 0 (dX46_add 36 rfl rfl) rfl rfl rfl ?_
    refine x_dup (pc' := 63) (dX46_add 37 rfl rfl) rfl rfl ?_
    refine x_getI (pc' := 66) (dX46_add 38 rfl rfl) g340 q1788 (Or.inl rfl) rfl (hf_of 42 k1 rfl (by decide) m42_340) ?_
    refine x_iconst (pc' := 67) (v := 1) (dX46_add 39 rfl rfl) (by decide) rfl ?_
    refine x_iadd (pc' := 68) (dX46_add 40 rfl rfl) rfl ?_
    refine x_putI (pc' := 71) (dX46_add 41 rfl rfl) g340 q1788 (Or.inl rfl) (Or.inl rfl) (Or.inl (by decide)) rfl (hf_of 42 k1 rfl (by decide) m42_340) (fun h13 e14 => ?_)
    replace hf := hf h13 e14
    replace k1 : hK h13 a0 = 43 := by rw [e14]; exact k1
    replace k4 : hK h13 b2 = 1000 := by rw [e14]; exact k4
    replace k8 : hK h13 b6 = 1000 := by rw [e14]; exact k8
    exact x_vret (dX46_add 42 rfl rfl) rfl hf
  · replace hf := hf.1 (Classical.not_not.mp c5)
    replace c5 := Classical.not_not.mp c5
    refine x_iconst (pc' := 13) (v := 2) (dX46_add 6 rfl rfl) (by decide) rfl ?_
    refine x_aload_n (pc' := 14) 0 (dX46_add 7 rfl rfl) rfl rfl rfl ?_
    refine x_getI (pc' := 17) (dX46_add 8 rfl rfl) g340 q1788 (Or.inl rfl) rfl (hf_of 42 k1 rfl (by decide) m42_340) ?_
    refine x_imul (pc' := 18) (dX46_add 9 rfl rfl) rfl ?_
    obtain ⟨z19, n1, n2, hf⟩ := hf
    refine x_newa0 (pc' := 20) (dX46_add 10 rfl rfl) rfl z19 (by decide) n1 n2 (fun q15 h17 k16 e18 => ?_)
    replace hf := hf q15 k16 h17 e18
    replace k1 : hK h17 a0 = 43 := by rw [e18]; exact kNA k1 (by decide) k16
    replace k4 : hK h17 b2 = 1000 := by rw [e18]; exact kNA k4 (by decide) k16
    have k20 : hK h17 q15 = 1000 := by rw [e18]; exact kNAs
    refine x_astore_n (pc' := 21) (dX46_add 11 rfl rfl) rfl (by decide) rfl rfl ?_
    refine x_iconst (pc' := 22) (v := 0) (dX46_add 12 rfl rfl) (by decide) rfl ?_
    refine x_istore_n (pc' := 23) (dX46_add 13 rfl rfl) rfl (by decide) rfl rfl ?_
    exact X.sub [2, 3, 1, 0] rfl (by simp) hf
theorem bX46_add_23 (G : Gh) (d : Nat) (h : AH) (Q : Outcome → AH → Prop) (l0 : Nat) (l1 : Int32) (l2 : Nat) (l3 : Int32) (hf : hK h l0 = 43 ∧ (((fI h l0 340) ≤ l3 → (∀ h3, h3 = pR h l0 339 (some l2) → (∃ b4, fR h3 l0 339 = some b4 ∧ (hK h3 b4 = 1000 ∧ Ns (gW G) b4 ∧ vp_in (fI h3 l0 340) (hL h3 b4) ∧ ∀ h8, h8 = sI h3 b4 (fI h3 l0 340).toNatClampNeg l1 → (∀ h11, h11 = pI h8 l0 340 ((fI h8 l0 340) + 1) → (Q (.returned none) h11)))))) ∧ (¬ ((fI h l0 340) ≤ l3) → (∃ b14, fR h l0 339 = some b14 ∧ (hK h b14 = 1000 ∧ vp_in l3 (hL h b14) ∧ (hK h l2 = 1000 ∧ Ns (gW G) l2 ∧ vp_in l3 (hL h l2) ∧ ∀ h20, h20 = sI h l2 l3.toNatClampNeg (aI h b14 l3.toNatClampNeg) → (∀ x23 : Int32, x23 = l3 + 1 → (X G mX46_add d none [] 23 [(0, .ref (l0)), (1, .int (l1)), (2, .ref (l2)), (3, .int (x23))] [] h20 Q)))))))) : X G mX46_add d none [] 23 [(0, .ref (l0)), (1, .int (l1)), (2, .ref (l2)), (3, .int (l3))] [] h Q := by
  refine x_iload_n (pc' := 24) 3 (dX46_add 14 rfl rfl) rfl rfl rfl ?_
  refine x_aload_n (pc' := 25) 0 (dX46_add 15 rfl rfl) rfl rfl rfl ?_
  obtain ⟨k1, hf⟩ := hf
  refine x_getI (pc' := 28) (dX46_add 16 rfl rfl) g340 q1788 (Or.inl rfl) rfl (hf_of 42 k1 rfl (by decide) m42_340) ?_
  refine x_icmp_ge (pc' := 31) (tgt := 46) (dX46_add 17 rfl rfl) (by decide) rfl (fun c2 => ?_) (fun c2 => ?_)
  · replace hf := hf.1 c2
    refine x_aload_n (pc' := 47) 0 (dX46_add 27 rfl rfl) rfl rfl rfl ?_
    refine x_aload_n (pc' := 48) 2 (dX46_add 28 rfl rfl) rfl rfl rfl ?_
    refine x_putR (pc' := 51) (dX46_add 29 rfl rfl) g339 q1787 (Or.inl rfl) (Or.inl rfl) (Or.inl (by decide)) rfl (hf_of 42 k1 rfl (by decide) m42_339) (fun h3 e13 => ?_)
    replace hf := hf h3 e13
    replace k1 : hK h3 l0 = 43 := by rw [e13]; exact k1
    refine x_aload_n (pc' := 52) 0 (dX46_add 30 rfl rfl) rfl rfl rfl ?_
    obtain ⟨b4, e5, hf⟩ := hf
    refine x_getR (pc' := 55) (dX46_add 31 rfl rfl) g339 q1787 (Or.inl rfl) rfl (hf_of 42 k1 rfl (by decide) m42_339) e5 ?_
    refine x_aload_n (pc' := 56) 0 (dX46_add 32 rfl rfl) rfl rfl rfl ?_
    refine x_getI (pc' := 59) (dX46_add 33 rfl rfl) g340 q1788 (Or.inl rfl) rfl (hf_of 42 k1 rfl (by decide) m42_340) ?_
    refine x_iload_n (pc' := 60) 1 (dX46_add 34 rfl rfl) rfl rfl rfl ?_
    obtain ⟨k6, hf⟩ := hf
    obtain ⟨n10, hf⟩ := hf
    obtain ⟨i7, hf⟩ := hf
    refine x_iast (pc' := 61) (dX46_add 35 rfl rfl) rfl k6 (Or.inr ⟨n10, by decide⟩) i7 (fun h8 e9 => ?_)
    replace hf := hf h8 e9
    replace k1 : hK h8 l0 = 43 := by rw [e9]; exact k1
    replace k6 : hK h8 b4 = 1000 := by rw [e9]; exact k6
    refine x_aload_n (pc' := 62) 0 (dX46_add 36 rfl rfl) rfl rfl rfl ?_
    refine x_dup (pc' := 63) (dX46_add 37 rfl rfl) rfl rfl ?_
    refine x_getI (pc' := 66) (dX46_add 38 rfl rfl) g340 q1788 (Or.inl rfl) rfl (hf_of 42 k1 rfl (by decide) m42_340) ?_
    refine x_iconst (pc' := 67) (v := 1) (dX46_add 39 rfl rfl) (by decide) rfl ?_
    refine x_iadd (pc' := 68) (dX46_add 40 rfl rfl) rfl ?_
    refine x_putI (pc' := 71) (dX46_add 41 rfl rfl) g340 q1788 (Or.inl rfl) (Or.inl rfl) (Or.inl (by decide)) rfl (hf_of 42 k1 rfl (by decide) m42_340) (fun h11 e12 => ?_)
    replace hf := hf h11 e12
    replace k1 : hK h11 l0 = 43 := by rw [e12]; exact k1
    replace k6 : hK h11 b4 = 1000 := by rw [e12]; exact k6
    exact x_vret (dX46_add 42 rfl rfl) rfl hf
  · replace hf := hf.2 c2
    refine x_aload_n (pc' := 32) 2 (dX46_add 18 rfl rfl) rfl rfl rfl ?_
    refine x_iload_n (pc' := 33) 3 (dX46_add 19 rfl rfl) rfl rfl rfl ?_
    refine x_aload_n (pc' := 34) 0 (dX46_add 20 rfl rfl) rfl rfl rfl ?_
    obtain ⟨b14, e15, hf⟩ := hf
    refine x_getR (pc' := 37) (dX46_add 21 rfl rfl) g339 q1787 (Or.inl rfl) rfl (hf_of 42 k1 rfl (by decide) m42_339) e15 ?_
    refine x_iload_n (pc' := 38) 3 (dX46_add 22 rfl rfl) rfl rfl rfl ?_
    obtain ⟨k16, hf⟩ := hf
    obtain ⟨i17, hf⟩ := hf
    refine x_iald (pc' := 39) (dX46_add 23 rfl rfl) rfl k16 i17 ?_
    obtain ⟨k18, hf⟩ := hf
    obtain ⟨n22, hf⟩ := hf
    obtain ⟨i19, hf⟩ := hf
    refine x_iast (pc' := 40) (dX46_add 24 rfl rfl) rfl k18 (Or.inr ⟨n22, by decide⟩) i19 (fun h20 e21 => ?_)
    replace hf := hf h20 e21
    replace k1 : hK h20 l0 = 43 := by rw [e21]; exact k1
    replace k16 : hK h20 b14 = 1000 := by rw [e21]; exact k16
    replace k18 : hK h20 l2 = 1000 := by rw [e21]; exact k18
    replace hf := hf _ rfl
    refine x_iinc (pc' := 43) 3 (dX46_add 25 rfl rfl) rfl (by rfl) (by decide) rfl rfl ?_
    refine x_goto (tgt := 23) (dX46_add 26 rfl rfl) (by decide) ?_
    exact X.sub [1, 2, 3, 0] rfl (by simp) hf
theorem bX46_get (G : Gh) (d : Nat) (h : AH) (Q : Outcome → AH → Prop) (a0 : Nat) (p1 : Int32) (hf : hK h a0 = 43 ∧ (∃ b2, fR h a0 339 = some b2 ∧ (hK h b2 = 1000 ∧ vp_in p1 (hL h b2) ∧ (Q (.returned (some (.int (aI h b2 p1.toNatClampNeg)))) h)))) : C G mX46_get d [.ref (a0), .int (p1)] h Q := by
  refine C.of_X (by decide +kernel) (Nat.le_of_ble_eq_true rfl) wX46_get ?_
  show X G mX46_get d none [] 0 [(0, .ref (a0)), (1, .int (p1))] [] h Q
  refine x_aload_n (pc' := 1) 0 (dX46_get 0 rfl rfl) rfl rfl rfl ?_
  obtain ⟨k1, hf⟩ := hf
  obtain ⟨b2, e3, hf⟩ := hf
  refine x_getR (pc' := 4) (dX46_get 1 rfl rfl) g339 q1787 (Or.inl rfl) rfl (hf_of 42 k1 rfl (by decide) m42_339) e3 ?_
  refine x_iload_n (pc' := 5) 1 (dX46_get 2 rfl rfl) rfl rfl rfl ?_
  obtain ⟨k4, hf⟩ := hf
  obtain ⟨i5, hf⟩ := hf
  refine x_iald (pc' := 6) (dX46_get 3 rfl rfl) rfl k4 i5 ?_
  exact x_iret (dX46_get 4 rfl rfl) rfl hf
theorem bX47_init (G : Gh) (d : Nat) (h : AH) (Q : Outcome → AH → Prop) (a0 : Nat) (p1 : Int32) (p2 : Nat) (p3 : Nat) (p4 : Nat) (hf : C G mX16_init d [.ref (a0), .int (p1)] h (KV Q (fun h1 => hK h1 a0 = 44 ∧ (∀ h4, h4 = pR h1 a0 341 (some p2) → (∀ h5, h5 = pR h4 a0 342 (some p3) → (∀ h6, h6 = pR h5 a0 343 (some p4) → (Q (.returned none) h6))))))) : C G mX47_init (d + 1) [.ref (a0), .int (p1), .ref (p2), .ref (p3), .ref (p4)] h Q := by
  refine C.of_X (by decide +kernel) (Nat.le_of_ble_eq_true rfl) wX47_init ?_
  show X G mX47_init (d + 1) (some a0) [] 0 [(0, .ref (a0)), (1, .int (p1)), (2, .ref (p2)), (3, .ref (p3)), (4, .ref (p4))] [] h Q
  refine x_aload_n (pc' := 1) 0 (dX47_init 0 rfl rfl) rfl rfl rfl ?_
  refine x_iload_n (pc' := 2) 1 (dX47_init 1 rfl rfl) rfl rfl rfl ?_
  refine x_inv (pc' := 5) (ν := mX16_init) (av := [_, _]) (st := []) rfl rfl (dX47_init 2 rfl rfl) (Nat.le_of_ble_eq_true rfl) wX16_init q237 (inv_I (dX47_init 2 rfl rfl) q1803 q1521 q1522 rfl (by decide) lX16_init) (fun b hb => by exact Or.inr (by rw [← hb]; rfl)) rfl ?_
  refine C.mono hf (fun _ _ => KV.g (fun h1 hf le2 => ?_))
  refine x_aload_n (pc' := 6) 0 (dX47_init 3 rfl rfl) rfl rfl rfl ?_
  refine x_aload_n (pc' := 7) 2 (dX47_init 4 rfl rfl) rfl rfl rfl ?_
  obtain ⟨k3, hf⟩ := hf
  refine x_putR (pc' := 10) (dX47_init 5 rfl rfl) g341 q1804 (Or.inl rfl) (Or.inr ⟨rfl, rfl, rfl, rfl⟩) (Or.inr rfl) rfl (hf_of 43 k3 rfl (by decide) m43_341) (fun h4 e9 => ?_)
  replace hf := hf h4 e9
  replace k3 : hK h4 a0 = 44 := by rw [e9]; exact k3
  refine x_aload_n (pc' := 11) 0 (dX47_init 6 rfl rfl) rfl rfl rfl ?_
  refine x_aload_n (pc' := 12) 3 (dX47_init 7 rfl rfl) rfl rfl rfl ?_
  refine x_putR (pc' := 15) (dX47_init 8 rfl rfl) g342 q1805 (Or.inl rfl) (Or.inr ⟨rfl, rfl, rfl, rfl⟩) (Or.inr rfl) rfl (hf_of 43 k3 rfl (by decide) m43_342) (fun h5 e8 => ?_)
  replace hf := hf h5 e8
  replace k3 : hK h5 a0 = 44 := by rw [e8]; exact k3
  refine x_aload_n (pc' := 16) 0 (dX47_init 9 rfl rfl) rfl rfl rfl ?_
  refine x_aload (pc' := 18) 4 (dX47_init 10 rfl rfl) rfl rfl ?_
  refine x_putR (pc' := 21) (dX47_init 11 rfl rfl) g343 q1806 (Or.inl rfl) (Or.inr ⟨rfl, rfl, rfl, rfl⟩) (Or.inr rfl) rfl (hf_of 43 k3 rfl (by decide) m43_343) (fun h6 e7 => ?_)
  replace hf := hf h6 e7
  replace k3 : hK h6 a0 = 44 := by rw [e7]; exact k3
  exact x_vret (dX47_init 12 rfl rfl) rfl hf
theorem bX47_resolve (G : Gh) (d : Nat) (h : AH) (Q : Outcome → AH → Prop) (a0 : Nat) (hf : hK h a0 = 44 ∧ (∃ b2, fR h a0 341 = some b2 ∧ (∃ (k : Nat) (ν : Mu), VT ⟨"LetMill$Exp", "resolve", "(LLetMill$Scope;)V"⟩ VMExp_resolve k ν ∧ hK h b2 = k + 1 ∧ C G ν d [.ref (b2), .ref (gW G 4)] h (KV Q (fun h4 => X G mX47_resolve (d + 1) none [] 10 [(0, .ref (a0)), (1, .ref (gW G 4)), (2, .int (0))] [] h4 Q))))) : C G mX47_resolve (d + 1) [.ref (a0), .ref (gW G 4)] h Q := by
  refine C.of_X (by decide +kernel) (Nat.le_of_ble_eq_true rfl) wX47_resolve ?_
  show X G mX47_resolve (d + 1) none [] 0 [(0, .ref (a0)), (1, .ref (gW G 4))] [] h Q
  refine x_aload_n (pc' := 1) 0 (dX47_resolve 0 rfl rfl) rfl rfl rfl ?_
  obtain ⟨k1, hf⟩ := hf
  obtain ⟨b2, e3, hf⟩ := hf
  refine x_getR (pc' := 4) (dX47_resolve 1 rfl rfl) g341 q1804 (Or.inl rfl) rfl (hf_of 43 k1 rfl (by decide) m43_341) e3 ?_
  refine x_aload_n (pc' := 5) 1 (dX47_resolve 2 rfl rfl) rfl rfl rfl ?_
  obtain ⟨k, ν, ⟨v0, v1, v2, v3, v4, v5, v6, v7⟩, k6, hf⟩ := hf
  refine x_inv (pc' := 8) (ν := ν) (st := []) rfl (sub_tr v7 rfl) (dX47_resolve 3 rfl rfl) (by have := v5; simp only [List.map, List.sum_cons, List.sum_nil, Value.category]; omega) v1 v2 (inv_U (k := k) (av := [_]) (dX47_resolve 3 rfl rfl) q2263 q2251 (by decide) v3 v4 (by decide) (show _ = some 1 by decide +kernel) v0 k6) (exN v6) rfl ?_
  refine C.mono hf (fun _ _ => KV.g (fun h4 hf le5 => ?_))
  replace le5 := Le.nx v6 le5
  have k1 := leK le5 k1 (by decide)
  refine x_iconst (pc' := 9) (v := 0) (dX47_resolve 4 rfl rfl) (by decide) rfl ?_
  refine x_istore_n (pc' := 10) (dX47_resolve 5 rfl rfl) rfl (by decide) rfl rfl ?_
  exact X.sub [1, 2, 0] rfl (by simp) hf
theorem bX47_resolve_10 (G : Gh) (d : Nat) (h : AH) (Q : Outcome → AH → Prop) (l0 : Nat) (l2 : Int32) (hf : hK h l0 = 44 ∧ (∃ b2, fR h l0 343 = some b2 ∧ (hK h b2 = 1009 ∧ (((Int32.ofNat (hL h b2)) ≤ l2 → (Q (.returned none) h)) ∧ (¬ ((Int32.ofNat (hL h b2)) ≤ l2) → (∃ b6, fR h l0 343 = some b6 ∧ (hK h b6 = 1009 ∧ vp_in l2 (hL h b6) ∧ ∃ b10, aR h b6 l2.toNatClampNeg = some b10 ∧ (∃ (k : Nat) (ν : Mu), VT ⟨"LetMill$Exp", "resolve", "(LLetMill$Scope;)V"⟩ VMExp_resolve k ν ∧ hK h b10 = k + 1 ∧ C G ν d [.ref (b10), .ref (gW G 4)] h (KV Q (fun h12 => ∀ x14 : Int32, x14 = l2 + 1 → (X G mX47_resolve (d + 1) none [] 10 [(0, .ref (l0)), (1, .ref (gW G 4)), (2, .int (x14))] [] h12 Q))))))))))) : X G mX47_resolve (d + 1) none [] 10 [(0, .ref (l0)), (1, .ref (gW G 4)), (2, .int (l2))] [] h Q := by
  refine x_iload_n (pc' := 11) 2 (dX47_resolve 6 rfl rfl) rfl rfl rfl ?_
  refine x_aload_n (pc' := 12) 0 (dX47_resolve 7 rfl rfl) rfl rfl rfl ?_
  obtain ⟨k1, hf⟩ := hf
  obtain ⟨b2, e3, hf⟩ := hf
  refine x_getR (pc' := 15) (dX47_resolve 8 rfl rfl) g343 q1806 (Or.inl rfl) rfl (hf_of 43 k1 rfl (by decide) m43_343) e3 ?_
  obtain ⟨k4, hf⟩ := hf
  refine x_alen (pc' := 16) (t := 9) (ty := .object "LetMill$Exp") (dX47_resolve 9 rfl rfl) rfl rfl k4 ?_
  refine x_icmp_ge (pc' := 19) (tgt := 35) (dX47_resolve 10 rfl rfl) (by decide) rfl (fun c5 => ?_) (fun c5 => ?_)
  · replace hf := hf.1 c5
    exact x_vret (dX47_resolve 19 rfl rfl) rfl hf
  · replace hf := hf.2 c5
    refine x_aload_n (pc' := 20) 0 (dX47_resolve 11 rfl rfl) rfl rfl rfl ?_
    obtain ⟨b6, e7, hf⟩ := hf
    refine x_getR (pc' := 23) (dX47_resolve 12 rfl rfl) g343 q1806 (Or.inl rfl) rfl (hf_of 43 k1 rfl (by decide) m43_343) e7 ?_
    refine x_iload_n (pc' := 24) 2 (dX47_resolve 13 rfl rfl) rfl rfl rfl ?_
    obtain ⟨k8, hf⟩ := hf
    obtain ⟨i9, hf⟩ := hf
    obtain ⟨b10, e11, hf⟩ := hf
    refine x_aald (pc' := 25) (t := 9) (C := "LetMill$Exp") (dX47_resolve 14 rfl rfl) rfl (by decide) rfl k8 i9 e11 ?_
    refine x_aload_n (pc' := 26) 1 (dX47_resolve 15 rfl rfl) rfl rfl rfl ?_
    obtain ⟨k, ν, ⟨v0, v1, v2, v3, v4, v5, v6, v7⟩, k15, hf⟩ := hf
    refine x_inv (pc' := 29) (ν := ν) (st := []) rfl (sub_tr v7 rfl) (dX47_resolve 16 rfl rfl) (by have := v5; simp only [List.map, List.sum_cons, List.sum_nil, Value.category]; omega) v1 v2 (inv_U (k := k) (av := [_]) (dX47_resolve 16 rfl rfl) q2263 q2251 (by decide) v3 v4 (by decide) (show _ = some 1 by decide +kernel) v0 k15) (exN v6) rfl ?_
    refine C.mono hf (fun _ _ => KV.g (fun h12 hf le13 => ?_))
    replace le13 := Le.nx v6 le13
    have k1 := leK le13 k1 (by decide)
    have k4 := leK le13 k4 (by decide)
    have k8 := leK le13 k8 (by decide)
    replace hf := hf _ rfl
    refine x_iinc (pc' := 32) 2 (dX47_resolve 17 rfl rfl) rfl (by rfl) (by decide) rfl rfl ?_
    refine x_goto (tgt := 10) (dX47_resolve 18 rfl rfl) (by decide) ?_
    exact X.sub [1, 2, 0] rfl (by simp) hf
theorem bX47_infer (G : Gh) (d : Nat) (h : AH) (Q : Outcome → AH → Prop) (a0 : Nat) (hf : hK h a0 = 44 ∧ (∃ b2, fR h a0 341 = some b2 ∧ (∃ (k : Nat) (ν : Mu), VT ⟨"LetMill$Exp", "infer", "(LLetMill$Typer;)I"⟩ VMExp_infer k ν ∧ hK h b2 = k + 1 ∧ C G ν d [.ref (b2), .ref (gW G 6)] h (KI Q (fun x6 h4 => X G mX47_infer (d + 1) none [] 11 [(0, .ref (a0)), (1, .ref (gW G 6)), (2, .int (x6)), (3, .int (0))] [] h4 Q))))) : C G mX47_infer (d + 1) [.ref (a0), .ref (gW G 6)] h Q := by
  refine C.of_X (by decide +kernel) (Nat.le_of_ble_eq_true rfl) wX47_infer ?_
  show X G mX47_infer (d + 1) none [] 0 [(0, .ref (a0)), (1, .ref (gW G 6))] [] h Q
  refine x_aload_n (pc' := 1) 0 (dX47_infer 0 rfl rfl) rfl rfl rfl ?_
  obtain ⟨k1, hf⟩ := hf
  obtain ⟨b2, e3, hf⟩ := hf
  refine x_getR (pc' := 4) (dX47_infer 1 rfl rfl) g341 q1804 (Or.inl rfl) rfl (hf_of 43 k1 rfl (by decide) m43_341) e3 ?_
  refine x_aload_n (pc' := 5) 1 (dX47_infer 2 rfl rfl) rfl rfl rfl ?_
  obtain ⟨k, ν, ⟨v0, v1, v2, v3, v4, v5, v6, v7⟩, k7, hf⟩ := hf
  refine x_inv (pc' := 8) (ν := ν) (st := []) rfl (sub_tr v7 rfl) (dX47_infer 3 rfl rfl) (by have := v5; simp only [List.map, List.sum_cons, List.sum_nil, Value.category]; omega) v1 v2 (inv_U (k := k) (av := [_]) (dX47_infer 3 rfl rfl) q2527 q2512 (by decide) v3 v4 (by decide) (show _ = some 1 by decide +kernel) v0 k7) (exN v6) rfl ?_
  refine C.mono hf (fun _ _ => KI.g (fun x6 h4 hf le5 => ?_))
  replace le5 := Le.nx v6 le5
  have k1 := leK le5 k1 (by decide)
  refine x_istore_n (pc' := 9) (dX47_infer 4 rfl rfl) rfl (by decide) rfl rfl ?_
  refine x_iconst (pc' := 10) (v := 0) (dX47_infer 5 rfl rfl) (by decide) rfl ?_
  refine x_istore_n (pc' := 11) (dX47_infer 6 rfl rfl) rfl (by decide) rfl rfl ?_
  exact X.sub [2, 3, 1, 0] rfl (by simp) hf
theorem bX47_infer_11 (G : Gh) (d : Nat) (h : AH) (Q : Outcome → AH → Prop) (l0 : Nat) (l2 : Int32) (l3 : Int32) (hf : hK h l0 = 44 ∧ (∃ b2, fR h l0 343 = some b2 ∧ (hK h b2 = 1009 ∧ (((Int32.ofNat (hL h b2)) ≤ l3 → (Q (.returned (some (.int l2))) h)) ∧ (¬ ((Int32.ofNat (hL h b2)) ≤ l3) → (∃ b6, fR h l0 343 = some b6 ∧ (hK h b6 = 1009 ∧ vp_in l3 (hL h b6) ∧ ∃ b10, aR h b6 l3.toNatClampNeg = some b10 ∧ (∃ (k : Nat) (ν : Mu), VT ⟨"LetMill$Exp", "infer", "(LLetMill$Typer;)I"⟩ VMExp_infer k ν ∧ hK h b10 = k + 1 ∧ C G ν d [.ref (b10), .ref (gW G 6)] h (KI Q (fun x14 h12 => ∃ b15, fR h12 l0 342 = some b15 ∧ (hK h12 b15 = 43 ∧ (C G mX46_get d [.ref (b15), .int (l3)] h12 (KI Q (fun x20 h17 => ∃ b21, fR h17 l0 343 = some b21 ∧ (hK h17 b21 = 1009 ∧ vp_in l3 (hL h17 b21) ∧ ∃ b25, aR h17 b21 l3.toNatClampNeg = some b25 ∧ (HF h17 b25 296 0 ∧ (C G mX47_one d [.ref (l0), .ref (gW G 6), .int (l2), .int (x14), .int (x20), .int (fI h17 b25 296)] h17 (KI Q (fun x30 h28 => ∀ x31 : Int32, x31 = l3 + 1 → (X G mX47_infer (d + 1) none [] 11 [(0, .ref (l0)), (1, .ref (gW G 6)), (2, .int (x30)), (3, .int (x31))] [] h28 Q)))))))))))))))))))) : X G mX47_infer (d + 1) none [] 11 [(0, .ref (l0)), (1, .ref (gW G 6)), (2, .int (l2)), (3, .int (l3))] [] h Q := by
  refine x_iload_n (pc' := 12) 3 (dX47_infer 7 rfl rfl) rfl rfl rfl ?_
  refine x_aload_n (pc' := 13) 0 (dX47_infer 8 rfl rfl) rfl rfl rfl ?_
  obtain ⟨k1, hf⟩ := hf
  obtain ⟨b2, e3, hf⟩ := hf
  refine x_getR (pc' := 16) (dX47_infer 9 rfl rfl) g343 q1806 (Or.inl rfl) rfl (hf_of 43 k1 rfl (by decide) m43_343) e3 ?_
  obtain ⟨k4, hf⟩ := hf
  refine x_alen (pc' := 17) (t := 9) (ty := .object "LetMill$Exp") (dX47_infer 10 rfl rfl) rfl rfl k4 ?_
  refine x_icmp_ge (pc' := 20) (tgt := 60) (dX47_infer 11 rfl rfl) (by decide) rfl (fun c5 => ?_) (fun c5 => ?_)
  · replace hf := hf.1 c5
    refine x_iload_n (pc' := 61) 2 (dX47_infer 34 rfl rfl) rfl rfl rfl ?_
    exact x_iret (dX47_infer 35 rfl rfl) rfl hf
  · replace hf := hf.2 c5
    refine x_aload_n (pc' := 21) 0 (dX47_infer 12 rfl rfl) rfl rfl rfl ?_
    refine x_aload_n (pc' := 22) 1 (dX47_infer 13 rfl rfl) rfl rfl rfl ?_
    refine x_iload_n (pc' := 23) 2 (dX47_infer 14 rfl rfl) rfl rfl rfl ?_
    refine x_aload_n (pc' := 24) 0 (dX47_infer 15 rfl rfl) rfl rfl rfl ?_
    obtain ⟨b6, e7, hf⟩ := hf
    refine x_getR (pc' := 27) (dX47_infer 16 rfl rfl) g343 q1806 (Or.inl rfl) rfl (hf_of 43 k1 rfl (by decide) m43_343) e7 ?_
    refine x_iload_n (pc' := 28) 3 (dX47_infer 17 rfl rfl) rfl rfl rfl ?_
    obtain ⟨k8, hf⟩ := hf
    obtain ⟨i9, hf⟩ := hf
    obtain ⟨b10, e11, hf⟩ := hf
    refine x_aald (pc' := 29) (t := 9) (C := "LetMill$Exp") (dX47_infer 18 rfl rfl) rfl (by decide) rfl k8 i9 e11 ?_
    refine x_aload_n (pc' := 30) 1 (dX47_infer 19 rfl rfl) rfl rfl rfl ?_
    obtain ⟨k, ν, ⟨v0, v1, v2, v3, v4, v5, v6, v7⟩, k32, hf⟩ := hf
    refine x_inv (pc' := 33) (ν := ν) (st := [_, _, _]) rfl (sub_tr v7 rfl) (dX47_infer 20 rfl rfl) (by have := v5; simp only [List.map, List.sum_cons, List.sum_nil, Value.category]; omega) v1 v2 (inv_U (k := k) (av := [_]) (dX47_infer 20 rfl rfl) q2527 q2512 (by decide) v3 v4 (by decide) (show _ = some 1 by decide +kernel) v0 k32) (exN v6) rfl ?_
    refine C.mono hf (fun _ _ => KI.g (fun x14 h12 hf le13 => ?_))
    replace le13 := Le.nx v6 le13
    have k1 := leK le13 k1 (by decide)
    have k4 := leK le13 k4 (by decide)
    have k8 := leK le13 k8 (by decide)
    refine x_aload_n (pc' := 34) 0 (dX47_infer 21 rfl rfl) rfl rfl rfl ?_
    obtain ⟨b15, e16, hf⟩ := hf
    refine x_getR (pc' := 37) (dX47_infer 22 rfl rfl) g342 q1805 (Or.inl rfl) rfl (hf_of 43 k1 rfl (by decide) m43_342) e16 ?_
    refine x_iload_n (pc' := 38) 3 (dX47_infer 23 rfl rfl) rfl rfl rfl ?_
    obtain ⟨k19, hf⟩ := hf
    refine x_inv (pc' := 41) (ν := mX46_get) (av := [_, _]) (st := [_, _, _, _]) rfl rfl (dX47_infer 24 rfl rfl) (Nat.le_of_ble_eq_true rfl) wX46_get q267 (inv_V (k := 42) (dX47_infer 24 rfl rfl) q2761 q2762 q2763 wX46_get (by decide) lX46_get (by decide) k19) (exN (by decide)) rfl ?_
    refine C.mono hf (fun _ _ => KI.g (fun x20 h17 hf le18 => ?_))
    have k1 := leK le18 k1 (by decide)
    have k4 := leK le18 k4 (by decide)
    have k8 := leK le18 k8 (by decide)
    have k19 := leK le18 k19 (by decide)
    refine x_aload_n (pc' := 42) 0 (dX47_infer 25 rfl rfl) rfl rfl rfl ?_
    obtain ⟨b21, e22, hf⟩ := hf
    refine x_getR (pc' := 45) (dX47_infer 26 rfl rfl) g343 q1806 (Or.inl rfl) rfl (hf_of 43 k1 rfl (by decide) m43_343) e22 ?_
    refine x_iload_n (pc' := 46) 3 (dX47_infer 27 rfl rfl) rfl rfl rfl ?_
    obtain ⟨k23, hf⟩ := hf
    obtain ⟨i24, hf⟩ := hf
    obtain ⟨b25, e26, hf⟩ := hf
    refine x_aald (pc' := 47) (t := 9) (C := "LetMill$Exp") (dX47_infer 28 rfl rfl) rfl (by decide) rfl k23 i24 e26 ?_
    obtain ⟨u27, hf⟩ := hf
    refine x_getI (pc' := 50) (dX47_infer 29 rfl rfl) g296 q1536 (Or.inl rfl) rfl u27 ?_
    refine x_inv (pc' := 53) (ν := mX47_one) (av := [_, _, _, _, _, _]) (st := []) rfl rfl (dX47_infer 30 rfl rfl) (Nat.le_of_ble_eq_true rfl) wX47_one q268 (inv_V (k := 43) (dX47_infer 30 rfl rfl) q2765 q2767 qs51 wX47_one (by decide) lX47_one (by decide) k1) (exN (by decide)) rfl ?_
    refine C.mono hf (fun _ _ => KI.g (fun x30 h28 hf le29 => ?_))
    have k1 := leK le29 k1 (by decide)
    have k4 := leK le29 k4 (by decide)
    have k8 := leK le29 k8 (by decide)
    have k19 := leK le29 k19 (by decide)
    have k23 := leK le29 k23 (by decide)
    refine x_istore_n (pc' := 54) (dX47_infer 31 rfl rfl) rfl (by decide) rfl rfl ?_
    replace hf := hf _ rfl
    refine x_iinc (pc' := 57) 3 (dX47_infer 32 rfl rfl) rfl (by rfl) (by decide) rfl rfl ?_
    refine x_goto (tgt := 11) (dX47_infer 33 rfl rfl) (by decide) ?_
    exact X.sub [2, 3, 1, 0] rfl (by simp) hf
theorem bX47_one (G : Gh) (d : Nat) (h : AH) (Q : Outcome → AH → Prop) (a0 : Nat) (p2 : Int32) (p3 : Int32) (p4 : Int32) (p5 : Int32) (s2 : So 2 (gW G) h) (s6 : So 6 (gW G) h) (hf : (p4 = 287 → (C G mX3_variable d [.ref (gW G 2)] h (KI Q (fun x8 h6 => C G mX3_built_3 d [.ref (gW G 2), .int (11), .int (x8)] h6 (KI Q (fun x11 h9 => hK h9 a0 = 44 ∧ (C G mX11_same d [.ref (gW G 6), .int (p2), .int (x11), .int (fI h9 a0 296)] h9 (KV Q (fun h13 => C G mX11_same d [.ref (gW G 6), .int (p3), .int (x8), .int (p5)] h13 (KV Q (fun h15 => Q (.returned (some (.int (fI h15 (gW G 2) 44)))) h15))))))))))) ∧ (¬ p4 = 287 → (C G mX47_isLogic d [.int (p4)] h (KI Q (fun x4 h2 => (x4 = 0 → (X G mX47_one (d + 1) none [] 75 [(0, .ref (a0)), (1, .ref (gW G 6)), (2, .int (p2)), (3, .int (p3)), (4, .int (p4)), (5, .int (p5)), (6, .ref (gW G 2))] [.int (fI h2 (gW G 2) 42)] h2 Q)) ∧ (¬ x4 = 0 → (X G mX47_one (d + 1) none [] 75 [(0, .ref (a0)), (1, .ref (gW G 6)), (2, .int (p2)), (3, .int (p3)), (4, .int (p4)), (5, .int (p5)), (6, .ref (gW G 2))] [.int (fI h2 (gW G 2) 43)] h2 Q))))))) : C G mX47_one (d + 1) [.ref (a0), .ref (gW G 6), .int (p2), .int (p3), .int (p4), .int (p5)] h Q := by
  refine C.of_X (by decide +kernel) (Nat.le_of_ble_eq_true rfl) wX47_one ?_
  show X G mX47_one (d + 1) none [] 0 [(0, .ref (a0)), (1, .ref (gW G 6)), (2, .int (p2)), (3, .int (p3)), (4, .int (p4)), (5, .int (p5))] [] h Q
  refine x_aload_n (pc' := 1) 1 (dX47_one 0 rfl rfl) rfl rfl rfl ?_
  refine x_getR (pc' := 4) (dX47_one 1 rfl rfl) g108 q819 (Or.inl rfl) rfl (hf_of 9 s6.1 rfl (by decide) m9_108) (s6.2 0 _ rfl rfl).1 ?_
  refine x_astore (pc' := 6) (dX47_one 2 rfl rfl) (by decide) rfl rfl ?_
  refine x_iload (pc' := 8) 5 (dX47_one 3 rfl rfl) rfl rfl ?_
  refine x_sipush (pc' := 11) (v := 287) (dX47_one 4 rfl rfl) (by decide) rfl ?_
  refine x_icmp_ne (pc' := 14) (tgt := 54) (dX47_one 5 rfl rfl) (by decide) rfl (fun c1 => ?_) (fun c1 => ?_)
  · replace hf := hf.2 c1
    refine x_iload (pc' := 56) 5 (dX47_one 26 rfl rfl) rfl rfl ?_
    refine x_inv (pc' := 59) (ν := mX47_isLogic) (av := [_]) (st := []) rfl rfl (dX47_one 27 rfl rfl) (Nat.le_of_ble_eq_true rfl) wX47_isLogic q268 (inv_S (dX47_one 27 rfl rfl) q2772 q2773 q268 wX47_isLogic (by decide) lX47_isLogic) (exN (by decide)) rfl ?_
    refine C.mono hf (fun _ _ => KI.g (fun x4 h2 hf le3 => ?_))
    replace s2 := s2.le sc2 (le3)
    replace s6 := s6.le sc6 (le3)
    refine x_if_eq (pc' := 62) (tgt := 70) (dX47_one 28 rfl rfl) (by decide) rfl (fun c5 => ?_) (fun c5 => ?_)
    · replace hf := hf.1 c5
      refine x_aload (pc' := 72) 0 (dX47_one 32 rfl rfl) rfl rfl ?_
      refine x_getI (pc' := 75) (dX47_one 33 rfl rfl) g42 q496 (Or.inl rfl) rfl (hf_of 2 s2.1 rfl (by decide) m2_42) ?_
      exact X.sub [1, 2, 3, 4, 5, 6, 0] rfl (by simp) hf
    · replace hf := hf.2 c5
      refine x_aload (pc' := 64) 0 (dX47_one 29 rfl rfl) rfl rfl ?_
      refine x_getI (pc' := 67) (dX47_one 30 rfl rfl) g43 q501 (Or.inl rfl) rfl (hf_of 2 s2.1 rfl (by decide) m2_43) ?_
      refine x_goto (tgt := 75) (dX47_one 31 rfl rfl) (by decide) ?_
      exact X.sub [1, 2, 3, 4, 5, 6, 0] rfl (by simp) hf
  · replace hf := hf.1 (Classical.not_not.mp c1)
    replace c1 := Classical.not_not.mp c1
    refine x_aload (pc' := 16) 0 (dX47_one 6 rfl rfl) rfl rfl ?_
    refine x_inv (pc' := 19) (ν := mX3_variable) (av := [_]) (st := []) rfl rfl (dX47_one 7 rfl rfl) (Nat.le_of_ble_eq_true rfl) wX3_variable q213 (inv_V (k := 2) (dX47_one 7 rfl rfl) q2769 q2341 q2342 wX3_variable (by decide) lX3_variable (by decide) s2.1) (exN (by decide)) rfl ?_
    refine C.mono hf (fun _ _ => KI.g (fun x8 h6 hf le7 => ?_))
    replace s2 := s2.le sc2 (le7)
    replace s6 := s6.le sc6 (le7)
    refine x_istore (pc' := 21) (dX47_one 8 rfl rfl) (by decide) rfl rfl ?_
    refine x_aload_n (pc' := 22) 3 (dX47_one 9 rfl rfl) rfl rfl rfl ?_
    refine x_iload_n (pc' := 23) 4 (dX47_one 10 rfl rfl) rfl rfl rfl ?_
    refine x_aload (pc' := 25) 1 (dX47_one 11 rfl rfl) rfl rfl ?_
    refine x_bipush (pc' := 27) (v := 11) (dX47_one 12 rfl rfl) (by decide) rfl ?_
    refine x_iload (pc' := 29) 0 (dX47_one 13 rfl rfl) rfl rfl ?_
    refine x_inv (pc' := 32) (ν := mX3_built_3) (av := [_, _, _]) (st := [_, _]) rfl rfl (dX47_one 14 rfl rfl) (Nat.le_of_ble_eq_true rfl) wX3_built_3 q213 (inv_V (k := 2) (dX47_one 14 rfl rfl) q2770 q2378 q2379 wX3_built_3 (by decide) lX3_built_3 (by decide) s2.1) (exN (by decide)) rfl ?_
    refine C.mono hf (fun _ _ => KI.g (fun x11 h9 hf le10 => ?_))
    replace s2 := s2.le sc2 (le10)
    replace s6 := s6.le sc6 (le10)
    refine x_aload_n (pc' := 33) 2 (dX47_one 15 rfl rfl) rfl rfl rfl ?_
    obtain ⟨k12, hf⟩ := hf
    refine x_getI (pc' := 36) (dX47_one 16 rfl rfl) g296 q1541 (Or.inr q1542) rfl (hf_of 43 k12 rfl (by decide) m43_296) ?_
    refine x_inv (pc' := 39) (ν := mX11_same) (av := [_, _, _, _]) (st := []) rfl rfl (dX47_one 17 rfl rfl) (Nat.le_of_ble_eq_true rfl) wX11_same q225 (inv_V (k := 9) (dX47_one 17 rfl rfl) q2771 q2483 q2484 wX11_same (by decide) lX11_same (by decide) s6.1) (exN (by decide)) rfl ?_
    refine C.mono hf (fun _ _ => KV.g (fun h13 hf le14 => ?_))
    have k12 := leK le14 k12 (by decide)
    replace s2 := s2.le sc2 (le14)
    replace s6 := s6.le sc6 (le14)
    refine x_aload_n (pc' := 40) 3 (dX47_one 18 rfl rfl) rfl rfl rfl ?_
    refine x_iload_n (pc' := 41) 5 (dX47_one 19 rfl rfl) rfl rfl rfl ?_
    refine x_iload (pc' := 43) 0 (dX47_one 20 rfl rfl) rfl rfl ?_
    refine x_iload (pc' := 45) 7 (dX47_one 21 rfl rfl) rfl rfl ?_
    refine x_inv (pc' := 48) (ν := mX11_same) (av := [_, _, _, _]) (st := []) rfl rfl (dX47_one 22 rfl rfl) (Nat.le_of_ble_eq_true rfl) wX11_same q225 (inv_V (k := 9) (dX47_one 22 rfl rfl) q2771 q2483 q2484 wX11_same (by decide) lX11_same (by decide) s6.1) (exN (by decide)) rfl ?_
    refine C.mono hf (fun _ _ => KV.g (fun h15 hf le16 => ?_))
    have k12 := leK le16 k12 (by decide)
    replace s2 := s2.le sc2 (le16)
    replace s6 := s6.le sc6 (le16)
    refine x_aload (pc' := 50) 1 (dX47_one 23 rfl rfl) rfl rfl ?_
    refine x_getI (pc' := 53) (dX47_one 24 rfl rfl) g44 q506 (Or.inl rfl) rfl (hf_of 2 s2.1 rfl (by decide) m2_44) ?_
    exact x_iret (dX47_one 25 rfl rfl) rfl hf
theorem bX47_one_75 (G : Gh) (d : Nat) (h : AH) (Q : Outcome → AH → Prop) (l0 : Nat) (l2 : Int32) (l3 : Int32) (l4 : Int32) (l5 : Int32) (t0 : Int32) (s2 : So 2 (gW G) h) (s6 : So 6 (gW G) h) (hf : hK h l0 = 44 ∧ (C G mX11_same d [.ref (gW G 6), .int (l2), .int (t0), .int (fI h l0 296)] h (KV Q (fun h2 => C G mX11_same d [.ref (gW G 6), .int (l3), .int (t0), .int (l5)] h2 (KV Q (fun h4 => (l4 = 43 → (Q (.returned (some (.int (fI h4 (gW G 2) 42)))) h4)) ∧ (¬ l4 = 43 → ((l4 = 45 → (Q (.returned (some (.int (fI h4 (gW G 2) 42)))) h4)) ∧ (¬ l4 = 45 → ((l4 = 42 → (Q (.returned (some (.int (fI h4 (gW G 2) 42)))) h4)) ∧ (¬ l4 = 42 → ((l4 = 259 → (Q (.returned (some (.int (fI h4 (gW G 2) 42)))) h4)) ∧ (¬ l4 = 259 → ((l4 = 267 → (Q (.returned (some (.int (fI h4 (gW G 2) 42)))) h4)) ∧ (¬ l4 = 267 → (Q (.returned (some (.int (fI h4 (gW G 2) 43)))) h4)))))))))))))))) : X G mX47_one (d + 1) none [] 75 [(0, .ref (l0)), (1, .ref (gW G 6)), (2, .int (l2)), (3, .int (l3)), (4, .int (l4)), (5, .int (l5)), (6, .ref (gW G 2))] [.int (t0)] h Q := by
  refine x_istore (pc' := 77) (dX47_one 34 rfl rfl) (by decide) rfl rfl ?_
  refine x_aload_n (pc' := 78) 2 (dX47_one 35 rfl rfl) rfl rfl rfl ?_
  refine x_iload_n (pc' := 79) 3 (dX47_one 36 rfl rfl) rfl rfl rfl ?_
  refine x_iload (pc' := 81) 0 (dX47_one 37 rfl rfl) rfl rfl ?_
  refine x_aload_n (pc' := 82) 1 (dX47_one 38 rfl rfl) rfl rfl rfl ?_
  obtain ⟨k1, hf⟩ := hf
  refine x_getI (pc' := 85) (dX47_one 39 rfl rfl) g296 q1541 (Or.inr q1542) rfl (hf_of 43 k1 rfl (by decide) m43_296) ?_
  refine x_inv (pc' := 88) (ν := mX11_same) (av := [_, _, _, _]) (st := []) rfl rfl (dX47_one 40 rfl rfl) (Nat.le_of_ble_eq_true rfl) wX11_same q225 (inv_V (k := 9) (dX47_one 40 rfl rfl) q2771 q2483 q2484 wX11_same (by decide) lX11_same (by decide) s6.1) (exN (by decide)) rfl ?_
  refine C.mono hf (fun _ _ => KV.g (fun h2 hf le3 => ?_))
  have k1 := leK le3 k1 (by decide)
  replace s2 := s2.le sc2 (le3)
  replace s6 := s6.le sc6 (le3)
  refine x_aload_n (pc' := 89) 2 (dX47_one 41 rfl rfl) rfl rfl rfl ?_
  refine x_iload_n (pc' := 90) 4 (dX47_one 42 rfl rfl) rfl rfl rfl ?_
  refine x_iload (pc' := 92) 0 (dX47_one 43 rfl rfl) rfl rfl ?_
  refine x_iload (pc' := 94) 6 (dX47_one 44 rfl rfl) rfl rfl ?_
  refine x_inv (pc' := 97) (ν := mX11_same) (av := [_, _, _, _]) (st := []) rfl rfl (dX47_one 45 rfl rfl) (Nat.le_of_ble_eq_true rfl) wX11_same q225 (inv_V (k := 9) (dX47_one 45 rfl rfl) q2771 q2483 q2484 wX11_same (by decide) lX11_same (by decide) s6.1) (exN (by decide)) rfl ?_
  refine C.mono hf (fun _ _ => KV.g (fun h4 hf le5 => ?_))
  have k1 := leK le5 k1 (by decide)
  replace s2 := s2.le sc2 (le5)
  replace s6 := s6.le sc6 (le5)
  refine x_iload (pc' := 99) 5 (dX47_one 46 rfl rfl) rfl rfl ?_
  refine x_bipush (pc' := 101) (v := 43) (dX47_one 47 rfl rfl) (by decide) rfl ?_
  refine x_icmp_eq (pc' := 104) (tgt := 134) (dX47_one 48 rfl rfl) (by decide) rfl (fun c6 => ?_) (fun c6 => ?_)
  · replace hf := hf.1 c6
    refine x_aload (pc' := 136) 7 (dX47_one 61 rfl rfl) rfl rfl ?_
    refine x_getI (pc' := 139) (dX47_one 62 rfl rfl) g42 q496 (Or.inl rfl) rfl (hf_of 2 s2.1 rfl (by decide) m2_42) ?_
    refine x_goto (tgt := 147) (dX47_one 63 rfl rfl) (by decide) ?_
    exact x_iret (dX47_one 66 rfl rfl) rfl hf
  · replace hf := hf.2 c6
    refine x_iload (pc' := 106) 5 (dX47_one 49 rfl rfl) rfl rfl ?_
    refine x_bipush (pc' := 108) (v := 45) (dX47_one 50 rfl rfl) (by decide) rfl ?_
    refine x_icmp_eq (pc' := 111) (tgt := 134) (dX47_one 51 rfl rfl) (by decide) rfl (fun c7 => ?_) (fun c7 => ?_)
    · replace hf := hf.1 c7
      refine x_aload (pc' := 136) 7 (dX47_one 61 rfl rfl) rfl rfl ?_
      refine x_getI (pc' := 139) (dX47_one 62 rfl rfl) g42 q496 (Or.inl rfl) rfl (hf_of 2 s2.1 rfl (by decide) m2_42) ?_
      refine x_goto (tgt := 147) (dX47_one 63 rfl rfl) (by decide) ?_
      exact x_iret (dX47_one 66 rfl rfl) rfl hf
    · replace hf := hf.2 c7
      refine x_iload (pc' := 113) 5 (dX47_one 52 rfl rfl) rfl rfl ?_
      refine x_bipush (pc' := 115) (v := 42) (dX47_one 53 rfl rfl) (by decide) rfl ?_
      refine x_icmp_eq (pc' := 118) (tgt := 134) (dX47_one 54 rfl rfl) (by decide) rfl (fun c8 => ?_) (fun c8 => ?_)
      · replace hf := hf.1 c8
        refine x_aload (pc' := 136) 7 (dX47_one 61 rfl rfl) rfl rfl ?_
        refine x_getI (pc' := 139) (dX47_one 62 rfl rfl) g42 q496 (Or.inl rfl) rfl (hf_of 2 s2.1 rfl (by decide) m2_42) ?_
        refine x_goto (tgt := 147) (dX47_one 63 rfl rfl) (by decide) ?_
        exact x_iret (dX47_one 66 rfl rfl) rfl hf
      · replace hf := hf.2 c8
        refine x_iload (pc' := 120) 5 (dX47_one 55 rfl rfl) rfl rfl ?_
        refine x_sipush (pc' := 123) (v := 259) (dX47_one 56 rfl rfl) (by decide) rfl ?_
        refine x_icmp_eq (pc' := 126) (tgt := 134) (dX47_one 57 rfl rfl) (by decide) rfl (fun c9 => ?_) (fun c9 => ?_)
        · replace hf := hf.1 c9
          refine x_aload (pc' := 136) 7 (dX47_one 61 rfl rfl) rfl rfl ?_
          refine x_getI (pc' := 139) (dX47_one 62 rfl rfl) g42 q496 (Or.inl rfl) rfl (hf_of 2 s2.1 rfl (by decide) m2_42) ?_
          refine x_goto (tgt := 147) (dX47_one 63 rfl rfl) (by decide) ?_
          exact x_iret (dX47_one 66 rfl rfl) rfl hf
        · replace hf := hf.2 c9
          refine x_iload (pc' := 128) 5 (dX47_one 58 rfl rfl) rfl rfl ?_
          refine x_sipush (pc' := 131) (v := 267) (dX47_one 59 rfl rfl) (by decide) rfl ?_
          refine x_icmp_ne (pc' := 134) (tgt := 142) (dX47_one 60 rfl rfl) (by decide) rfl (fun c10 => ?_) (fun c10 => ?_)
          · replace hf := hf.2 c10
            refine x_aload (pc' := 144) 7 (dX47_one 64 rfl rfl) rfl rfl ?_
            refine x_getI (pc' := 147) (dX47_one 65 rfl rfl) g43 q501 (Or.inl rfl) rfl (hf_of 2 s2.1 rfl (by decide) m2_43) ?_
            exact x_iret (dX47_one 66 rfl rfl) rfl hf
          · replace hf := hf.1 (Classical.not_not.mp c10)
            replace c10 := Classical.not_not.mp c10
            refine x_aload (pc' := 136) 7 (dX47_one 61 rfl rfl) rfl rfl ?_
            refine x_getI (pc' := 139) (dX47_one 62 rfl rfl) g42 q496 (Or.inl rfl) rfl (hf_of 2 s2.1 rfl (by decide) m2_42) ?_
            refine x_goto (tgt := 147) (dX47_one 63 rfl rfl) (by decide) ?_
            exact x_iret (dX47_one 66 rfl rfl) rfl hf
theorem bX47_isLogic (G : Gh) (d : Nat) (h : AH) (Q : Outcome → AH → Prop) (p0 : Int32) (hf : (p0 = 269 → (Q (.returned (some (.int 1))) h)) ∧ (¬ p0 = 269 → ((p0 = 270 → (Q (.returned (some (.int 1))) h)) ∧ (¬ p0 = 270 → (Q (.returned (some (.int 0))) h))))) : C G mX47_isLogic d [.int (p0)] h Q := by
  refine C.of_X (by decide +kernel) (Nat.le_of_ble_eq_true rfl) wX47_isLogic ?_
  show X G mX47_isLogic d none [] 0 [(0, .int (p0))] [] h Q
  refine x_iload_n (pc' := 1) 0 (dX47_isLogic 0 rfl rfl) rfl rfl rfl ?_
  refine x_sipush (pc' := 4) (v := 269) (dX47_isLogic 1 rfl rfl) (by decide) rfl ?_
  refine x_icmp_eq (pc' := 7) (tgt := 14) (dX47_isLogic 2 rfl rfl) (by decide) rfl (fun c1 => ?_) (fun c1 => ?_)
  · replace hf := hf.1 c1
    refine x_iconst (pc' := 15) (v := 1) (dX47_isLogic 6 rfl rfl) (by decide) rfl ?_
    refine x_goto (tgt := 19) (dX47_isLogic 7 rfl rfl) (by decide) ?_
    exact x_zret (ty := .boolean) (dX47_isLogic 9 rfl rfl) rfl (by decide) hf
  · replace hf := hf.2 c1
    refine x_iload_n (pc' := 8) 0 (dX47_isLogic 3 rfl rfl) rfl rfl rfl ?_
    refine x_sipush (pc' := 11) (v := 270) (dX47_isLogic 4 rfl rfl) (by decide) rfl ?_
    refine x_icmp_ne (pc' := 14) (tgt := 18) (dX47_isLogic 5 rfl rfl) (by decide) rfl (fun c2 => ?_) (fun c2 => ?_)
    · replace hf := hf.2 c2
      refine x_iconst (pc' := 19) (v := 0) (dX47_isLogic 8 rfl rfl) (by decide) rfl ?_
      exact x_zret (ty := .boolean) (dX47_isLogic 9 rfl rfl) rfl (by decide) hf
    · replace hf := hf.1 (Classical.not_not.mp c2)
      replace c2 := Classical.not_not.mp c2
      refine x_iconst (pc' := 15) (v := 1) (dX47_isLogic 6 rfl rfl) (by decide) rfl ?_
      refine x_goto (tgt := 19) (dX47_isLogic 7 rfl rfl) (by decide) ?_
      exact x_zret (ty := .boolean) (dX47_isLogic 9 rfl rfl) rfl (by decide) hf
theorem bX47_begin (G : Gh) (d : Nat) (h : AH) (Q : Outcome → AH → Prop) (a0 : Nat) (p2 : Int32) (hf : X G mX47_begin (d + 1) none [] 2 [(0, .ref (a0)), (1, .ref (gW G 3)), (2, .int (p2)), (3, .int (0))] [] h Q) : C G mX47_begin (d + 1) [.ref (a0), .ref (gW G 3), .int (p2)] h Q := by
  refine C.of_X (by decide +kernel) (Nat.le_of_ble_eq_true rfl) wX47_begin ?_
  show X G mX47_begin (d + 1) none [] 0 [(0, .ref (a0)), (1, .ref (gW G 3)), (2, .int (p2))] [] h Q
  refine x_iconst (pc' := 1) (v := 0) (dX47_begin 0 rfl rfl) (by decide) rfl ?_
  refine x_istore_n (pc' := 2) (dX47_begin 1 rfl rfl) rfl (by decide) rfl rfl ?_
  exact X.sub [1, 2, 3, 0] rfl (by simp) hf
theorem bX47_begin_2 (G : Gh) (d : Nat) (h : AH) (Q : Outcome → AH → Prop) (l0 : Nat) (l2 : Int32) (l3 : Int32) (s3 : So 3 (gW G) h) (hf : hK h l0 = 44 ∧ (∃ b2, fR h l0 343 = some b2 ∧ (hK h b2 = 1009 ∧ (((Int32.ofNat (hL h b2)) ≤ l3 → (C G mX6_frame d [.ref (gW G 3), .ref (l0), .int (0), .int (l2)] h (KV Q (fun h6 => ∃ b8, fR h6 l0 341 = some b8 ∧ (C G mX6_next d [.ref (gW G 3), .ref (b8), .int (l2)] h6 (KV Q (fun h10 => Q (.returned none) h10))))))) ∧ (¬ ((Int32.ofNat (hL h b2)) ≤ l3) → (C G mX6_pay d [.ref (gW G 3), .int (1)] h (KI Q (fun x14 h12 => (x14 = 0 → (Q (.returned none) h12)) ∧ (¬ x14 = 0 → (∀ x16 : Int32, x16 = l3 + 1 → (X G mX47_begin (d + 1) none [] 2 [(0, .ref (l0)), (1, .ref (gW G 3)), (2, .int (l2)), (3, .int (x16))] [] h12 Q))))))))))) : X G mX47_begin (d + 1) none [] 2 [(0, .ref (l0)), (1, .ref (gW G 3)), (2, .int (l2)), (3, .int (l3))] [] h Q := by
  refine x_iload_n (pc' := 3) 3 (dX47_begin 2 rfl rfl) rfl rfl rfl ?_
  refine x_aload_n (pc' := 4) 0 (dX47_begin 3 rfl rfl) rfl rfl rfl ?_
  obtain ⟨k1, hf⟩ := hf
  obtain ⟨b2, e3, hf⟩ := hf
  refine x_getR (pc' := 7) (dX47_begin 4 rfl rfl) g343 q1806 (Or.inl rfl) rfl (hf_of 43 k1 rfl (by decide) m43_343) e3 ?_
  obtain ⟨k4, hf⟩ := hf
  refine x_alen (pc' := 8) (t := 9) (ty := .object "LetMill$Exp") (dX47_begin 5 rfl rfl) rfl rfl k4 ?_
  refine x_icmp_ge (pc' := 11) (tgt := 26) (dX47_begin 6 rfl rfl) (by decide) rfl (fun c5 => ?_) (fun c5 => ?_)
  · replace hf := hf.1 c5
    refine x_aload_n (pc' := 27) 1 (dX47_begin 14 rfl rfl) rfl rfl rfl ?_
    refine x_aload_n (pc' := 28) 0 (dX47_begin 15 rfl rfl) rfl rfl rfl ?_
    refine x_iconst (pc' := 29) (v := 0) (dX47_begin 16 rfl rfl) (by decide) rfl ?_
    refine x_iload_n (pc' := 30) 2 (dX47_begin 17 rfl rfl) rfl rfl rfl ?_
    refine x_inv (pc' := 33) (ν := mX6_frame) (av := [_, _, _, _]) (st := []) rfl rfl (dX47_begin 18 rfl rfl) (Nat.le_of_ble_eq_true rfl) wX6_frame q220 (inv_V (k := 4) (dX47_begin 18 rfl rfl) q2926 q2899 q2900 wX6_frame (by decide) lX6_frame (by decide) s3.1) (exN (by decide)) rfl ?_
    refine C.mono hf (fun _ _ => KV.g (fun h6 hf le7 => ?_))
    have k1 := leK le7 k1 (by decide)
    have k4 := leK le7 k4 (by decide)
    replace s3 := s3.le sc3 (le7)
    refine x_aload_n (pc' := 34) 1 (dX47_begin 19 rfl rfl) rfl rfl rfl ?_
    refine x_aload_n (pc' := 35) 0 (dX47_begin 20 rfl rfl) rfl rfl rfl ?_
    obtain ⟨b8, e9, hf⟩ := hf
    refine x_getR (pc' := 38) (dX47_begin 21 rfl rfl) g341 q1804 (Or.inl rfl) rfl (hf_of 43 k1 rfl (by decide) m43_341) e9 ?_
    refine x_iload_n (pc' := 39) 2 (dX47_begin 22 rfl rfl) rfl rfl rfl ?_
    refine x_inv (pc' := 42) (ν := mX6_next) (av := [_, _, _]) (st := []) rfl rfl (dX47_begin 23 rfl rfl) (Nat.le_of_ble_eq_true rfl) wX6_next q220 (inv_V (k := 4) (dX47_begin 23 rfl rfl) q2927 q2881 q2882 wX6_next (by decide) lX6_next (by decide) s3.1) (exN (by decide)) rfl ?_
    refine C.mono hf (fun _ _ => KV.g (fun h10 hf le11 => ?_))
    have k1 := leK le11 k1 (by decide)
    have k4 := leK le11 k4 (by decide)
    replace s3 := s3.le sc3 (le11)
    exact x_vret (dX47_begin 24 rfl rfl) rfl hf
  · replace hf := hf.2 c5
    refine x_aload_n (pc' := 12) 1 (dX47_begin 7 rfl rfl) rfl rfl rfl ?_
    refine x_iconst (pc' := 13) (v := 1) (dX47_begin 8 rfl rfl) (by decide) rfl ?_
    refine x_inv (pc' := 16) (ν := mX6_pay) (av := [_, _]) (st := []) rfl rfl (dX47_begin 9 rfl rfl) (Nat.le_of_ble_eq_true rfl) wX6_pay q220 (inv_V (k := 4) (dX47_begin 9 rfl rfl) q2925 q2891 q2892 wX6_pay (by decide) lX6_pay (by decide) s3.1) (exN (by decide)) rfl ?_
    refine C.mono hf (fun _ _ => KI.g (fun x14 h12 hf le13 => ?_))
    have k1 := leK le13 k1 (by decide)
    have k4 := leK le13 k4 (by decide)
    replace s3 := s3.le sc3 (le13)
    refine x_if_ne (pc' := 19) (tgt := 20) (dX47_begin 10 rfl rfl) (by decide) rfl (fun c15 => ?_) (fun c15 => ?_)
    · replace hf := hf.2 c15
      replace hf := hf _ rfl
      refine x_iinc (pc' := 23) 3 (dX47_begin 12 rfl rfl) rfl (by rfl) (by decide) rfl rfl ?_
      refine x_goto (tgt := 2) (dX47_begin 13 rfl rfl) (by decide) ?_
      exact X.sub [1, 2, 3, 0] rfl (by simp) hf
    · replace hf := hf.1 (Classical.not_not.mp c15)
      replace c15 := Classical.not_not.mp c15
      exact x_vret (dX47_begin 11 rfl rfl) rfl hf
theorem bX47_resume (G : Gh) (d : Nat) (h : AH) (Q : Outcome → AH → Prop) (a0 : Nat) (p2 : Int32) (p3 : Int32) (p4 : Int32) (s3 : So 3 (gW G) h) (hf : ∀ x1 : Int32, x1 = p2 / 2 → (hK h a0 = 44 ∧ (∃ b3, fR h a0 342 = some b3 ∧ (hK h b3 = 43 ∧ (C G mX46_get d [.ref (b3), .int (x1)] h (KI Q (fun x8 h5 => ((p2 - p2 / 2 * 2) = 0 → (X G mX47_resume (d + 1) none [] 88 [(0, .ref (a0)), (1, .ref (gW G 3)), (3, .int (p3)), (5, .int (x1)), (6, .int (x8)), (7, .int (p4))] [] h5 Q)) ∧ (¬ ((p2 - p2 / 2 * 2) = 0) → (C G mX47_isLogic d [.int (x8)] h5 (KI Q (fun x12 h10 => (x12 = 0 → ((x8 = 287 → (C G mX6_pop d [.ref (gW G 3)] h10 (KI Q (fun x39 h37 => C G mX6_set d [.ref (gW G 3), .int (x39), .int (p4)] h37 (KI Q (fun x42 h40 => C G mX6_isOver d [.ref (gW G 3)] h40 (KI Q (fun x45 h43 => (x45 = 0 → (∀ x47 : Int32, x47 = x1 + 1 → (X G mX47_resume (d + 1) none [] 88 [(0, .ref (a0)), (1, .ref (gW G 3)), (3, .int (p3)), (5, .int (x47)), (6, .int (x8)), (7, .int (x42))] [] h43 Q))) ∧ (¬ x45 = 0 → (Q (.returned none) h43)))))))))) ∧ (¬ x8 = 287 → (C G mX6_pop d [.ref (gW G 3)] h10 (KI Q (fun x22 h20 => C G mX6_whole d [.ref (gW G 3), .int (x22)] h20 (KI Q (fun x25 h23 => C G mX6_whole d [.ref (gW G 3), .int (p4)] h23 (KI Q (fun x28 h26 => C G mX6_reckoned d [.ref (gW G 3), .int (x8), .int (x25), .int (x28)] h26 (KI Q (fun x31 h29 => C G mX6_isOver d [.ref (gW G 3)] h29 (KI Q (fun x34 h32 => (x34 = 0 → (∀ x36 : Int32, x36 = x1 + 1 → (X G mX47_resume (d + 1) none [] 88 [(0, .ref (a0)), (1, .ref (gW G 3)), (3, .int (p3)), (5, .int (x36)), (6, .int (x8)), (7, .int (x31))] [] h32 Q))) ∧ (¬ x34 = 0 → (Q (.returned none) h32)))))))))))))))) ∧ (¬ x12 = 0 → (C G mX6_isOver d [.ref (gW G 3)] h10 (KI Q (fun x16 h14 => (x16 = 0 → (∀ x18 : Int32, x18 = x1 + 1 → (X G mX47_resume (d + 1) none [] 88 [(0, .ref (a0)), (1, .ref (gW G 3)), (3, .int (p3)), (5, .int (x18)), (6, .int (x8)), (7, .int (p4))] [] h14 Q))) ∧ (¬ x16 = 0 → (Q (.returned none) h14))))))))))))))))) : C G mX47_resume (d + 1) [.ref (a0), .ref (gW G 3), .int (p2), .int (p3), .int (p4)] h Q := by
  refine C.of_X (by decide +kernel) (Nat.le_of_ble_eq_true rfl) wX47_resume ?_
  show X G mX47_resume (d + 1) none [] 0 [(0, .ref (a0)), (1, .ref (gW G 3)), (2, .int (p2)), (3, .int (p3)), (4, .int (p4))] [] h Q
  refine x_iload_n (pc' := 1) 2 (dX47_resume 0 rfl rfl) rfl rfl rfl ?_
  refine x_iconst (pc' := 2) (v := 2) (dX47_resume 1 rfl rfl) (by decide) rfl ?_
  refine x_idiv (pc' := 3) (dX47_resume 2 rfl rfl) (by decide) rfl ?_
  replace hf := hf _ rfl
  refine x_istore (pc' := 5) (dX47_resume 3 rfl rfl) (by decide) rfl rfl ?_
  refine x_aload_n (pc' := 6) 1 (dX47_resume 4 rfl rfl) rfl rfl rfl ?_
  obtain ⟨k2, hf⟩ := hf
  obtain ⟨b3, e4, hf⟩ := hf
  refine x_getR (pc' := 9) (dX47_resume 5 rfl rfl) g342 q1805 (Or.inl rfl) rfl (hf_of 43 k2 rfl (by decide) m43_342) e4 ?_
  refine x_iload (pc' := 11) 0 (dX47_resume 6 rfl rfl) rfl rfl ?_
  obtain ⟨k7, hf⟩ := hf
  refine x_inv (pc' := 14) (ν := mX46_get) (av := [_, _]) (st := []) rfl rfl (dX47_resume 7 rfl rfl) (Nat.le_of_ble_eq_true rfl) wX46_get q267 (inv_V (k := 42) (dX47_resume 7 rfl rfl) q2761 q2762 q2763 wX46_get (by decide) lX46_get (by decide) k7) (exN (by decide)) rfl ?_
  refine C.mono hf (fun _ _ => KI.g (fun x8 h5 hf le6 => ?_))
  have k2 := leK le6 k2 (by decide)
  have k7 := leK le6 k7 (by decide)
  replace s3 := s3.le sc3 (le6)
  refine x_istore (pc' := 16) (dX47_resume 8 rfl rfl) (by decide) rfl rfl ?_
  refine x_iload (pc' := 18) 6 (dX47_resume 9 rfl rfl) rfl rfl ?_
  refine x_istore (pc' := 20) (dX47_resume 10 rfl rfl) (by decide) rfl rfl ?_
  refine x_iload_n (pc' := 21) 5 (dX47_resume 11 rfl rfl) rfl rfl rfl ?_
  refine x_iconst (pc' := 22) (v := 2) (dX47_resume 12 rfl rfl) (by decide) rfl ?_
  refine x_irem (pc' := 23) (dX47_resume 13 rfl rfl) (by decide) rfl ?_
  refine x_if_eq (pc' := 26) (tgt := 88) (dX47_resume 14 rfl rfl) (by decide) rfl (fun c9 => ?_) (fun c9 => ?_)
  · replace hf := hf.1 c9
    exact X.sub [3, 4, 6, 2, 1, 0] rfl (by simp) hf
  · replace hf := hf.2 c9
    refine x_iload (pc' := 28) 1 (dX47_resume 15 rfl rfl) rfl rfl ?_
    refine x_inv (pc' := 31) (ν := mX47_isLogic) (av := [_]) (st := []) rfl rfl (dX47_resume 16 rfl rfl) (Nat.le_of_ble_eq_true rfl) wX47_isLogic q268 (inv_S (dX47_resume 16 rfl rfl) q2772 q2773 q268 wX47_isLogic (by decide) lX47_isLogic) (exN (by decide)) rfl ?_
    refine C.mono hf (fun _ _ => KI.g (fun x12 h10 hf le11 => ?_))
    have k2 := leK le11 k2 (by decide)
    have k7 := leK le11 k7 (by decide)
    replace s3 := s3.le sc3 (le11)
    refine x_if_ne (pc' := 34) (tgt := 77) (dX47_resume 17 rfl rfl) (by decide) rfl (fun c13 => ?_) (fun c13 => ?_)
    · replace hf := hf.2 c13
      refine x_aload_n (pc' := 78) 4 (dX47_resume 38 rfl rfl) rfl rfl rfl ?_
      refine x_inv (pc' := 81) (ν := mX6_isOver) (av := [_]) (st := []) rfl rfl (dX47_resume 39 rfl rfl) (Nat.le_of_ble_eq_true rfl) wX6_isOver q220 (inv_V (k := 4) (dX47_resume 39 rfl rfl) q3224 q2973 q2974 wX6_isOver (by decide) lX6_isOver (by decide) s3.1) (exN (by decide)) rfl ?_
      refine C.mono hf (fun _ _ => KI.g (fun x16 h14 hf le15 => ?_))
      have k2 := leK le15 k2 (by decide)
      have k7 := leK le15 k7 (by decide)
      replace s3 := s3.le sc3 (le15)
      refine x_if_eq (pc' := 84) (tgt := 85) (dX47_resume 40 rfl rfl) (by decide) rfl (fun c17 => ?_) (fun c17 => ?_)
      · replace hf := hf.1 c17
        replace hf := hf _ rfl
        refine x_iinc (pc' := 88) 2 (dX47_resume 42 rfl rfl) rfl (by rfl) (by decide) rfl rfl ?_
        exact X.sub [3, 4, 6, 0, 2, 1] rfl (by simp) hf
      · replace hf := hf.2 c17
        exact x_vret (dX47_resume 41 rfl rfl) rfl hf
    · replace hf := hf.1 (Classical.not_not.mp c13)
      replace c13 := Classical.not_not.mp c13
      refine x_iload (pc' := 36) 1 (dX47_resume 18 rfl rfl) rfl rfl ?_
      refine x_sipush (pc' := 39) (v := 287) (dX47_resume 19 rfl rfl) (by decide) rfl ?_
      refine x_icmp_ne (pc' := 42) (tgt := 55) (dX47_resume 20 rfl rfl) (by decide) rfl (fun c19 => ?_) (fun c19 => ?_)
      · replace hf := hf.2 c19
        refine x_aload_n (pc' := 56) 4 (dX47_resume 27 rfl rfl) rfl rfl rfl ?_
        refine x_iload (pc' := 58) 1 (dX47_resume 28 rfl rfl) rfl rfl ?_
        refine x_aload_n (pc' := 59) 4 (dX47_resume 29 rfl rfl) rfl rfl rfl ?_
        refine x_aload_n (pc' := 60) 4 (dX47_resume 30 rfl rfl) rfl rfl rfl ?_
        refine x_inv (pc' := 63) (ν := mX6_pop) (av := [_]) (st := [_, _, _]) rfl rfl (dX47_resume 31 rfl rfl) (Nat.le_of_ble_eq_true rfl) wX6_pop q220 (inv_V (k := 4) (dX47_resume 31 rfl rfl) q3208 q3063 q3064 wX6_pop (by decide) lX6_pop (by decide) s3.1) (exN (by decide)) rfl ?_
        refine C.mono hf (fun _ _ => KI.g (fun x22 h20 hf le21 => ?_))
        have k2 := leK le21 k2 (by decide)
        have k7 := leK le21 k7 (by decide)
        replace s3 := s3.le sc3 (le21)
        refine x_inv (pc' := 66) (ν := mX6_whole) (av := [_, _]) (st := [_, _]) rfl rfl (dX47_resume 32 rfl rfl) (Nat.le_of_ble_eq_true rfl) wX6_whole q220 (inv_V (k := 4) (dX47_resume 32 rfl rfl) q3213 q3090 q3091 wX6_whole (by decide) lX6_whole (by decide) s3.1) (exN (by decide)) rfl ?_
        refine C.mono hf (fun _ _ => KI.g (fun x25 h23 hf le24 => ?_))
        have k2 := leK le24 k2 (by decide)
        have k7 := leK le24 k7 (by decide)
        replace s3 := s3.le sc3 (le24)
        refine x_aload_n (pc' := 67) 4 (dX47_resume 33 rfl rfl) rfl rfl rfl ?_
        refine x_iload (pc' := 69) 7 (dX47_resume 34 rfl rfl) rfl rfl ?_
        refine x_inv (pc' := 72) (ν := mX6_whole) (av := [_, _]) (st := [_, _, _]) rfl rfl (dX47_resume 35 rfl rfl) (Nat.le_of_ble_eq_true rfl) wX6_whole q220 (inv_V (k := 4) (dX47_resume 35 rfl rfl) q3213 q3090 q3091 wX6_whole (by decide) lX6_whole (by decide) s3.1) (exN (by decide)) rfl ?_
        refine C.mono hf (fun _ _ => KI.g (fun x28 h26 hf le27 => ?_))
        have k2 := leK le27 k2 (by decide)
        have k7 := leK le27 k7 (by decide)
        replace s3 := s3.le sc3 (le27)
        refine x_inv (pc' := 75) (ν := mX6_reckoned) (av := [_, _, _, _]) (st := []) rfl rfl (dX47_resume 36 rfl rfl) (Nat.le_of_ble_eq_true rfl) wX6_reckoned q220 (inv_V (k := 4) (dX47_resume 36 rfl rfl) q3214 q3215 q3216 wX6_reckoned (by decide) lX6_reckoned (by decide) s3.1) (exN (by decide)) rfl ?_
        refine C.mono hf (fun _ _ => KI.g (fun x31 h29 hf le30 => ?_))
        have k2 := leK le30 k2 (by decide)
        have k7 := leK le30 k7 (by decide)
        replace s3 := s3.le sc3 (le30)
        refine x_istore (pc' := 77) (dX47_resume 37 rfl rfl) (by decide) rfl rfl ?_
        refine x_aload_n (pc' := 78) 4 (dX47_resume 38 rfl rfl) rfl rfl rfl ?_
        refine x_inv (pc' := 81) (ν := mX6_isOver) (av := [_]) (st := []) rfl rfl (dX47_resume 39 rfl rfl) (Nat.le_of_ble_eq_true rfl) wX6_isOver q220 (inv_V (k := 4) (dX47_resume 39 rfl rfl) q3224 q2973 q2974 wX6_isOver (by decide) lX6_isOver (by decide) s3.1) (exN (by decide)) rfl ?_
        refine C.mono hf (fun _ _ => KI.g (fun x34 h32 hf le33 => ?_))
        have k2 := leK le33 k2 (by decide)
        have k7 := leK le33 k7 (by decide)
        replace s3 := s3.le sc3 (le33)
        refine x_if_eq (pc' := 84) (tgt := 85) (dX47_resume 40 rfl rfl) (by decide) rfl (fun c35 => ?_) (fun c35 => ?_)
        · replace hf := hf.1 c35
          replace hf := hf _ rfl
          refine x_iinc (pc' := 88) 2 (dX47_resume 42 rfl rfl) rfl (by rfl) (by decide) rfl rfl ?_
          exact X.sub [3, 4, 6, 0, 2, 1] rfl (by simp) hf
        · replace hf := hf.2 c35
          exact x_vret (dX47_resume 41 rfl rfl) rfl hf
      · replace hf := hf.1 (Classical.not_not.mp c19)
        replace c19 := Classical.not_not.mp c19
        refine x_aload_n (pc' := 43) 4 (dX47_resume 21 rfl rfl) rfl rfl rfl ?_
        refine x_aload_n (pc' := 44) 4 (dX47_resume 22 rfl rfl) rfl rfl rfl ?_
        refine x_inv (pc' := 47) (ν := mX6_pop) (av := [_]) (st := [_]) rfl rfl (dX47_resume 23 rfl rfl) (Nat.le_of_ble_eq_true rfl) wX6_pop q220 (inv_V (k := 4) (dX47_resume 23 rfl rfl) q3208 q3063 q3064 wX6_pop (by decide) lX6_pop (by decide) s3.1) (exN (by decide)) rfl ?_
        refine C.mono hf (fun _ _ => KI.g (fun x39 h37 hf le38 => ?_))
        have k2 := leK le38 k2 (by decide)
        have k7 := leK le38 k7 (by decide)
        replace s3 := s3.le sc3 (le38)
        refine x_iload (pc' := 49) 7 (dX47_resume 24 rfl rfl) rfl rfl ?_
        refine x_inv (pc' := 52) (ν := mX6_set) (av := [_, _, _]) (st := []) rfl rfl (dX47_resume 25 rfl rfl) (Nat.le_of_ble_eq_true rfl) wX6_set q220 (inv_V (k := 4) (dX47_resume 25 rfl rfl) q3209 q3210 q3211 wX6_set (by decide) lX6_set (by decide) s3.1) (exN (by decide)) rfl ?_
        refine C.mono hf (fun _ _ => KI.g (fun x42 h40 hf le41 => ?_))
        have k2 := leK le41 k2 (by decide)
        have k7 := leK le41 k7 (by decide)
        replace s3 := s3.le sc3 (le41)
        refine x_goto (tgt := 75) (dX47_resume 26 rfl rfl) (by decide) ?_
        refine x_istore (pc' := 77) (dX47_resume 37 rfl rfl) (by decide) rfl rfl ?_
        refine x_aload_n (pc' := 78) 4 (dX47_resume 38 rfl rfl) rfl rfl rfl ?_
        refine x_inv (pc' := 81) (ν := mX6_isOver) (av := [_]) (st := []) rfl rfl (dX47_resume 39 rfl rfl) (Nat.le_of_ble_eq_true rfl) wX6_isOver q220 (inv_V (k := 4) (dX47_resume 39 rfl rfl) q3224 q2973 q2974 wX6_isOver (by decide) lX6_isOver (by decide) s3.1) (exN (by decide)) rfl ?_
        refine C.mono hf (fun _ _ => KI.g (fun x45 h43 hf le44 => ?_))
        have k2 := leK le44 k2 (by decide)
        have k7 := leK le44 k7 (by decide)
        replace s3 := s3.le sc3 (le44)
        refine x_if_eq (pc' := 84) (tgt := 85) (dX47_resume 40 rfl rfl) (by decide) rfl (fun c46 => ?_) (fun c46 => ?_)
        · replace hf := hf.1 c46
          replace hf := hf _ rfl
          refine x_iinc (pc' := 88) 2 (dX47_resume 42 rfl rfl) rfl (by rfl) (by decide) rfl rfl ?_
          exact X.sub [3, 4, 6, 0, 2, 1] rfl (by simp) hf
        · replace hf := hf.2 c46
          exact x_vret (dX47_resume 41 rfl rfl) rfl hf
theorem bX47_resume_88 (G : Gh) (d : Nat) (h : AH) (Q : Outcome → AH → Prop) (l0 : Nat) (l3 : Int32) (l5 : Int32) (l6 : Int32) (l7 : Int32) (s3 : So 3 (gW G) h) (hf : hK h l0 = 44 ∧ (∃ b2, fR h l0 343 = some b2 ∧ (hK h b2 = 1009 ∧ ((l5 = (Int32.ofNat (hL h b2)) → (C G mX6_give d [.ref (gW G 3), .int (l7)] h (KV Q (fun h6 => Q (.returned none) h6)))) ∧ (¬ (l5 = (Int32.ofNat (hL h b2))) → (C G mX47_isLogic d [.int (l6)] h (KI Q (fun x10 h8 => (x10 = 0 → (C G mX47_isLogic d [.int (l6)] h8 (KI Q (fun x14 h12 => (x14 = 0 → (C G mX6_push d [.ref (gW G 3), .int (l7)] h12 (KV Q (fun h26 => C G mX6_frame d [.ref (gW G 3), .ref (l0), .int ((2 * l5) + 1), .int (l3)] h26 (KV Q (fun h28 => ∃ b30, fR h28 l0 343 = some b30 ∧ (hK h28 b30 = 1009 ∧ vp_in l5 (hL h28 b30) ∧ ∃ b34, aR h28 b30 l5.toNatClampNeg = some b34 ∧ (C G mX6_next d [.ref (gW G 3), .ref (b34), .int (l3)] h28 (KV Q (fun h36 => Q (.returned none) h36)))))))))) ∧ (¬ x14 = 0 → (C G mX6_frame d [.ref (gW G 3), .ref (l0), .int ((2 * l5) + 1), .int (l3)] h12 (KV Q (fun h16 => ∃ b18, fR h16 l0 343 = some b18 ∧ (hK h16 b18 = 1009 ∧ vp_in l5 (hL h16 b18) ∧ ∃ b22, aR h16 b18 l5.toNatClampNeg = some b22 ∧ (C G mX6_next d [.ref (gW G 3), .ref (b22), .int (l3)] h16 (KV Q (fun h24 => Q (.returned none) h24)))))))))))) ∧ (¬ x10 = 0 → (C G mX6_isTrue d [.ref (gW G 3), .int (l7)] h8 (KI Q (fun x40 h38 => (l6 = 269 → (X G mX47_resume (d + 1) none [] 125 [(0, .ref (l0)), (1, .ref (gW G 3)), (3, .int (l3)), (5, .int (l5)), (6, .int (l6)), (7, .int (l7))] [.int (1), .int (x40)] h38 Q)) ∧ (¬ l6 = 269 → (X G mX47_resume (d + 1) none [] 125 [(0, .ref (l0)), (1, .ref (gW G 3)), (3, .int (l3)), (5, .int (l5)), (6, .int (l6)), (7, .int (l7))] [.int (0), .int (x40)] h38 Q)))))))))))))) : X G mX47_resume (d + 1) none [] 88 [(0, .ref (l0)), (1, .ref (gW G 3)), (3, .int (l3)), (5, .int (l5)), (6, .int (l6)), (7, .int (l7))] [] h Q := by
  refine x_iload (pc' := 90) 3 (dX47_resume 43 rfl rfl) rfl rfl ?_
  refine x_aload_n (pc' := 91) 0 (dX47_resume 44 rfl rfl) rfl rfl rfl ?_
  obtain ⟨k1, hf⟩ := hf
  obtain ⟨b2, e3, hf⟩ := hf
  refine x_getR (pc' := 94) (dX47_resume 45 rfl rfl) g343 q1806 (Or.inl rfl) rfl (hf_of 43 k1 rfl (by decide) m43_343) e3 ?_
  obtain ⟨k4, hf⟩ := hf
  refine x_alen (pc' := 95) (t := 9) (ty := .object "LetMill$Exp") (dX47_resume 46 rfl rfl) rfl rfl k4 ?_
  refine x_icmp_eq (pc' := 98) (tgt := 128) (dX47_resume 47 rfl rfl) (by decide) rfl (fun c5 => ?_) (fun c5 => ?_)
  · replace hf := hf.1 c5
    refine x_aload_n (pc' := 129) 1 (dX47_resume 61 rfl rfl) rfl rfl rfl ?_
    refine x_iload (pc' := 131) 5 (dX47_resume 62 rfl rfl) rfl rfl ?_
    refine x_inv (pc' := 134) (ν := mX6_give) (av := [_, _]) (st := []) rfl rfl (dX47_resume 63 rfl rfl) (Nat.le_of_ble_eq_true rfl) wX6_give q220 (inv_V (k := 4) (dX47_resume 63 rfl rfl) q3226 q2913 q2914 wX6_give (by decide) lX6_give (by decide) s3.1) (exN (by decide)) rfl ?_
    refine C.mono hf (fun _ _ => KV.g (fun h6 hf le7 => ?_))
    have k1 := leK le7 k1 (by decide)
    have k4 := leK le7 k4 (by decide)
    replace s3 := s3.le sc3 (le7)
    exact x_vret (dX47_resume 64 rfl rfl) rfl hf
  · replace hf := hf.2 c5
    refine x_iload (pc' := 100) 4 (dX47_resume 48 rfl rfl) rfl rfl ?_
    refine x_inv (pc' := 103) (ν := mX47_isLogic) (av := [_]) (st := []) rfl rfl (dX47_resume 49 rfl rfl) (Nat.le_of_ble_eq_true rfl) wX47_isLogic q268 (inv_S (dX47_resume 49 rfl rfl) q2772 q2773 q268 wX47_isLogic (by decide) lX47_isLogic) (exN (by decide)) rfl ?_
    refine C.mono hf (fun _ _ => KI.g (fun x10 h8 hf le9 => ?_))
    have k1 := leK le9 k1 (by decide)
    have k4 := leK le9 k4 (by decide)
    replace s3 := s3.le sc3 (le9)
    refine x_if_eq (pc' := 106) (tgt := 135) (dX47_resume 50 rfl rfl) (by decide) rfl (fun c11 => ?_) (fun c11 => ?_)
    · replace hf := hf.1 c11
      refine x_iload (pc' := 137) 4 (dX47_resume 65 rfl rfl) rfl rfl ?_
      refine x_inv (pc' := 140) (ν := mX47_isLogic) (av := [_]) (st := []) rfl rfl (dX47_resume 66 rfl rfl) (Nat.le_of_ble_eq_true rfl) wX47_isLogic q268 (inv_S (dX47_resume 66 rfl rfl) q2772 q2773 q268 wX47_isLogic (by decide) lX47_isLogic) (exN (by decide)) rfl ?_
      refine C.mono hf (fun _ _ => KI.g (fun x14 h12 hf le13 => ?_))
      have k1 := leK le13 k1 (by decide)
      have k4 := leK le13 k4 (by decide)
      replace s3 := s3.le sc3 (le13)
      refine x_if_ne (pc' := 143) (tgt := 149) (dX47_resume 67 rfl rfl) (by decide) rfl (fun c15 => ?_) (fun c15 => ?_)
      · replace hf := hf.2 c15
        refine x_aload_n (pc' := 150) 1 (dX47_resume 71 rfl rfl) rfl rfl rfl ?_
        refine x_aload_n (pc' := 151) 0 (dX47_resume 72 rfl rfl) rfl rfl rfl ?_
        refine x_iconst (pc' := 152) (v := 2) (dX47_resume 73 rfl rfl) (by decide) rfl ?_
        refine x_iload (pc' := 154) 3 (dX47_resume 74 rfl rfl) rfl rfl ?_
        refine x_imul (pc' := 155) (dX47_resume 75 rfl rfl) rfl ?_
        refine x_iconst (pc' := 156) (v := 1) (dX47_resume 76 rfl rfl) (by decide) rfl ?_
        refine x_iadd (pc' := 157) (dX47_resume 77 rfl rfl) rfl ?_
        refine x_iload_n (pc' := 158) 2 (dX47_resume 78 rfl rfl) rfl rfl rfl ?_
        refine x_inv (pc' := 161) (ν := mX6_frame) (av := [_, _, _, _]) (st := []) rfl rfl (dX47_resume 79 rfl rfl) (Nat.le_of_ble_eq_true rfl) wX6_frame q220 (inv_V (k := 4) (dX47_resume 79 rfl rfl) q2926 q2899 q2900 wX6_frame (by decide) lX6_frame (by decide) s3.1) (exN (by decide)) rfl ?_
        refine C.mono hf (fun _ _ => KV.g (fun h16 hf le17 => ?_))
        have k1 := leK le17 k1 (by decide)
        have k4 := leK le17 k4 (by decide)
        replace s3 := s3.le sc3 (le17)
        refine x_aload_n (pc' := 162) 1 (dX47_resume 80 rfl rfl) rfl rfl rfl ?_
        refine x_aload_n (pc' := 163) 0 (dX47_resume 81 rfl rfl) rfl rfl rfl ?_
        obtain ⟨b18, e19, hf⟩ := hf
        refine x_getR (pc' := 166) (dX47_resume 82 rfl rfl) g343 q1806 (Or.inl rfl) rfl (hf_of 43 k1 rfl (by decide) m43_343) e19 ?_
        refine x_iload (pc' := 168) 3 (dX47_resume 83 rfl rfl) rfl rfl ?_
        obtain ⟨k20, hf⟩ := hf
        obtain ⟨i21, hf⟩ := hf
        obtain ⟨b22, e23, hf⟩ := hf
        refine x_aald (pc' := 169) (t := 9) (C := "LetMill$Exp") (dX47_resume 84 rfl rfl) rfl (by decide) rfl k20 i21 e23 ?_
        refine x_iload_n (pc' := 170) 2 (dX47_resume 85 rfl rfl) rfl rfl rfl ?_
        refine x_inv (pc' := 173) (ν := mX6_next) (av := [_, _, _]) (st := []) rfl rfl (dX47_resume 86 rfl rfl) (Nat.le_of_ble_eq_true rfl) wX6_next q220 (inv_V (k := 4) (dX47_resume 86 rfl rfl) q2927 q2881 q2882 wX6_next (by decide) lX6_next (by decide) s3.1) (exN (by decide)) rfl ?_
        refine C.mono hf (fun _ _ => KV.g (fun h24 hf le25 => ?_))
        have k1 := leK le25 k1 (by decide)
        have k4 := leK le25 k4 (by decide)
        have k20 := leK le25 k20 (by decide)
        replace s3 := s3.le sc3 (le25)
        exact x_vret (dX47_resume 87 rfl rfl) rfl hf
      · replace hf := hf.1 (Classical.not_not.mp c15)
        replace c15 := Classical.not_not.mp c15
        refine x_aload_n (pc' := 144) 1 (dX47_resume 68 rfl rfl) rfl rfl rfl ?_
        refine x_iload (pc' := 146) 5 (dX47_resume 69 rfl rfl) rfl rfl ?_
        refine x_inv (pc' := 149) (ν := mX6_push) (av := [_, _]) (st := []) rfl rfl (dX47_resume 70 rfl rfl) (Nat.le_of_ble_eq_true rfl) wX6_push q220 (inv_V (k := 4) (dX47_resume 70 rfl rfl) q3227 q3059 q3060 wX6_push (by decide) lX6_push (by decide) s3.1) (exN (by decide)) rfl ?_
        refine C.mono hf (fun _ _ => KV.g (fun h26 hf le27 => ?_))
        have k1 := leK le27 k1 (by decide)
        have k4 := leK le27 k4 (by decide)
        replace s3 := s3.le sc3 (le27)
        refine x_aload_n (pc' := 150) 1 (dX47_resume 71 rfl rfl) rfl rfl rfl ?_
        refine x_aload_n (pc' := 151) 0 (dX47_resume 72 rfl rfl) rfl rfl rfl ?_
        refine x_iconst (pc' := 152) (v := 2) (dX47_resume 73 rfl rfl) (by decide) rfl ?_
        refine x_iload (pc' := 154) 3 (dX47_resume 74 rfl rfl) rfl rfl ?_
        refine x_imul (pc' := 155) (dX47_resume 75 rfl rfl) rfl ?_
        refine x_iconst (pc' := 156) (v := 1) (dX47_resume 76 rfl rfl) (by decide) rfl ?_
        refine x_iadd (pc' := 157) (dX47_resume 77 rfl rfl) rfl ?_
        refine x_iload_n (pc' := 158) 2 (dX47_resume 78 rfl rfl) rfl rfl rfl ?_
        refine x_inv (pc' := 161) (ν := mX6_frame) (av := [_, _, _, _]) (st := []) rfl rfl (dX47_resume 79 rfl rfl) (Nat.le_of_ble_eq_true rfl) wX6_frame q220 (inv_V (k := 4) (dX47_resume 79 rfl rfl) q2926 q2899 q2900 wX6_frame (by decide) lX6_frame (by decide) s3.1) (exN (by decide)) rfl ?_
        refine C.mono hf (fun _ _ => KV.g (fun h28 hf le29 => ?_))
        have k1 := leK le29 k1 (by decide)
        have k4 := leK le29 k4 (by decide)
        replace s3 := s3.le sc3 (le29)
        refine x_aload_n (pc' := 162) 1 (dX47_resume 80 rfl rfl) rfl rfl rfl ?_
        refine x_aload_n (pc' := 163) 0 (dX47_resume 81 rfl rfl) rfl rfl rfl ?_
        obtain ⟨b30, e31, hf⟩ := hf
        refine x_getR (pc' := 166) (dX47_resume 82 rfl rfl) g343 q1806 (Or.inl rfl) rfl (hf_of 43 k1 rfl (by decide) m43_343) e31 ?_
        refine x_iload (pc' := 168) 3 (dX47_resume 83 rfl rfl) rfl rfl ?_
        obtain ⟨k32, hf⟩ := hf
        obtain ⟨i33, hf⟩ := hf
        obtain ⟨b34, e35, hf⟩ := hf
        refine x_aald (pc' := 169) (t := 9) (C := "LetMill$Exp") (dX47_resume 84 rfl rfl) rfl (by decide) rfl k32 i33 e35 ?_
        refine x_iload_n (pc' := 170) 2 (dX47_resume 85 rfl rfl) rfl rfl rfl ?_
        refine x_inv (pc' := 173) (ν := mX6_next) (av := [_, _, _]) (st := []) rfl rfl (dX47_resume 86 rfl rfl) (Nat.le_of_ble_eq_true rfl) wX6_next q220 (inv_V (k := 4) (dX47_resume 86 rfl rfl) q2927 q2881 q2882 wX6_next (by decide) lX6_next (by decide) s3.1) (exN (by decide)) rfl ?_
        refine C.mono hf (fun _ _ => KV.g (fun h36 hf le37 => ?_))
        have k1 := leK le37 k1 (by decide)
        have k4 := leK le37 k4 (by decide)
        have k32 := leK le37 k32 (by decide)
        replace s3 := s3.le sc3 (le37)
        exact x_vret (dX47_resume 87 rfl rfl) rfl hf
    · replace hf := hf.2 c11
      refine x_aload_n (pc' := 107) 1 (dX47_resume 51 rfl rfl) rfl rfl rfl ?_
      refine x_iload (pc' := 109) 5 (dX47_resume 52 rfl rfl) rfl rfl ?_
      refine x_inv (pc' := 112) (ν := mX6_isTrue) (av := [_, _]) (st := []) rfl rfl (dX47_resume 53 rfl rfl) (Nat.le_of_ble_eq_true rfl) wX6_isTrue q220 (inv_V (k := 4) (dX47_resume 53 rfl rfl) q3225 q3084 q3085 wX6_isTrue (by decide) lX6_isTrue (by decide) s3.1) (exN (by decide)) rfl ?_
      refine C.mono hf (fun _ _ => KI.g (fun x40 h38 hf le39 => ?_))
      have k1 := leK le39 k1 (by decide)
      have k4 := leK le39 k4 (by decide)
      replace s3 := s3.le sc3 (le39)
      refine x_iload (pc' := 114) 4 (dX47_resume 54 rfl rfl) rfl rfl ?_
      refine x_sipush (pc' := 117) (v := 269) (dX47_resume 55 rfl rfl) (by decide) rfl ?_
      refine x_icmp_ne (pc' := 120) (tgt := 124) (dX47_resume 56 rfl rfl) (by decide) rfl (fun c41 => ?_) (fun c41 => ?_)
      · replace hf := hf.2 c41
        refine x_iconst (pc' := 125) (v := 0) (dX47_resume 59 rfl rfl) (by decide) rfl ?_
        exact X.sub [0, 1, 2, 3, 4, 5] rfl (by simp) hf
      · replace hf := hf.1 (Classical.not_not.mp c41)
        replace c41 := Classical.not_not.mp c41
        refine x_iconst (pc' := 121) (v := 1) (dX47_resume 57 rfl rfl) (by decide) rfl ?_
        refine x_goto (tgt := 125) (dX47_resume 58 rfl rfl) (by decide) ?_
        exact X.sub [0, 1, 2, 3, 4, 5] rfl (by simp) hf
theorem bX47_resume_125 (G : Gh) (d : Nat) (h : AH) (Q : Outcome → AH → Prop) (l0 : Nat) (l3 : Int32) (l5 : Int32) (l6 : Int32) (l7 : Int32) (t0 : Int32) (t1 : Int32) (s3 : So 3 (gW G) h) (hf : (t1 = t0 → (C G mX6_give d [.ref (gW G 3), .int (l7)] h (KV Q (fun h30 => Q (.returned none) h30)))) ∧ (¬ t1 = t0 → (C G mX47_isLogic d [.int (l6)] h (KI Q (fun x4 h2 => (x4 = 0 → (C G mX6_push d [.ref (gW G 3), .int (l7)] h2 (KV Q (fun h17 => C G mX6_frame d [.ref (gW G 3), .ref (l0), .int ((2 * l5) + 1), .int (l3)] h17 (KV Q (fun h19 => hK h19 l0 = 44 ∧ (∃ b22, fR h19 l0 343 = some b22 ∧ (hK h19 b22 = 1009 ∧ vp_in l5 (hL h19 b22) ∧ ∃ b26, aR h19 b22 l5.toNatClampNeg = some b26 ∧ (C G mX6_next d [.ref (gW G 3), .ref (b26), .int (l3)] h19 (KV Q (fun h28 => Q (.returned none) h28))))))))))) ∧ (¬ x4 = 0 → (C G mX6_frame d [.ref (gW G 3), .ref (l0), .int ((2 * l5) + 1), .int (l3)] h2 (KV Q (fun h6 => hK h6 l0 = 44 ∧ (∃ b9, fR h6 l0 343 = some b9 ∧ (hK h6 b9 = 1009 ∧ vp_in l5 (hL h6 b9) ∧ ∃ b13, aR h6 b9 l5.toNatClampNeg = some b13 ∧ (C G mX6_next d [.ref (gW G 3), .ref (b13), .int (l3)] h6 (KV Q (fun h15 => Q (.returned none) h15)))))))))))))) : X G mX47_resume (d + 1) none [] 125 [(0, .ref (l0)), (1, .ref (gW G 3)), (3, .int (l3)), (5, .int (l5)), (6, .int (l6)), (7, .int (l7))] [.int (t0), .int (t1)] h Q := by
  refine x_icmp_ne (pc' := 128) (tgt := 135) (dX47_resume 60 rfl rfl) (by decide) rfl (fun c1 => ?_) (fun c1 => ?_)
  · replace hf := hf.2 c1
    refine x_iload (pc' := 137) 4 (dX47_resume 65 rfl rfl) rfl rfl ?_
    refine x_inv (pc' := 140) (ν := mX47_isLogic) (av := [_]) (st := []) rfl rfl (dX47_resume 66 rfl rfl) (Nat.le_of_ble_eq_true rfl) wX47_isLogic q268 (inv_S (dX47_resume 66 rfl rfl) q2772 q2773 q268 wX47_isLogic (by decide) lX47_isLogic) (exN (by decide)) rfl ?_
    refine C.mono hf (fun _ _ => KI.g (fun x4 h2 hf le3 => ?_))
    replace s3 := s3.le sc3 (le3)
    refine x_if_ne (pc' := 143) (tgt := 149) (dX47_resume 67 rfl rfl) (by decide) rfl (fun c5 => ?_) (fun c5 => ?_)
    · replace hf := hf.2 c5
      refine x_aload_n (pc' := 150) 1 (dX47_resume 71 rfl rfl) rfl rfl rfl ?_
      refine x_aload_n (pc' := 151) 0 (dX47_resume 72 rfl rfl) rfl rfl rfl ?_
      refine x_iconst (pc' := 152) (v := 2) (dX47_resume 73 rfl rfl) (by decide) rfl ?_
      refine x_iload (pc' := 154) 3 (dX47_resume 74 rfl rfl) rfl rfl ?_
      refine x_imul (pc' := 155) (dX47_resume 75 rfl rfl) rfl ?_
      refine x_iconst (pc' := 156) (v := 1) (dX47_resume 76 rfl rfl) (by decide) rfl ?_
      refine x_iadd (pc' := 157) (dX47_resume 77 rfl rfl) rfl ?_
      refine x_iload_n (pc' := 158) 2 (dX47_resume 78 rfl rfl) rfl rfl rfl ?_
      refine x_inv (pc' := 161) (ν := mX6_frame) (av := [_, _, _, _]) (st := []) rfl rfl (dX47_resume 79 rfl rfl) (Nat.le_of_ble_eq_true rfl) wX6_frame q220 (inv_V (k := 4) (dX47_resume 79 rfl rfl) q2926 q2899 q2900 wX6_frame (by decide) lX6_frame (by decide) s3.1) (exN (by decide)) rfl ?_
      refine C.mono hf (fun _ _ => KV.g (fun h6 hf le7 => ?_))
      replace s3 := s3.le sc3 (le7)
      refine x_aload_n (pc' := 162) 1 (dX47_resume 80 rfl rfl) rfl rfl rfl ?_
      refine x_aload_n (pc' := 163) 0 (dX47_resume 81 rfl rfl) rfl rfl rfl ?_
      obtain ⟨k8, hf⟩ := hf
      obtain ⟨b9, e10, hf⟩ := hf
      refine x_getR (pc' := 166) (dX47_resume 82 rfl rfl) g343 q1806 (Or.inl rfl) rfl (hf_of 43 k8 rfl (by decide) m43_343) e10 ?_
      refine x_iload (pc' := 168) 3 (dX47_resume 83 rfl rfl) rfl rfl ?_
      obtain ⟨k11, hf⟩ := hf
      obtain ⟨i12, hf⟩ := hf
      obtain ⟨b13, e14, hf⟩ := hf
      refine x_aald (pc' := 169) (t := 9) (C := "LetMill$Exp") (dX47_resume 84 rfl rfl) rfl (by decide) rfl k11 i12 e14 ?_
      refine x_iload_n (pc' := 170) 2 (dX47_resume 85 rfl rfl) rfl rfl rfl ?_
      refine x_inv (pc' := 173) (ν := mX6_next) (av := [_, _, _]) (st := []) rfl rfl (dX47_resume 86 rfl rfl) (Nat.le_of_ble_eq_true rfl) wX6_next q220 (inv_V (k := 4) (dX47_resume 86 rfl rfl) q2927 q2881 q2882 wX6_next (by decide) lX6_next (by decide) s3.1) (exN (by decide)) rfl ?_
      refine C.mono hf (fun _ _ => KV.g (fun h15 hf le16 => ?_))
      have k8 := leK le16 k8 (by decide)
      have k11 := leK le16 k11 (by decide)
      replace s3 := s3.le sc3 (le16)
      exact x_vret (dX47_resume 87 rfl rfl) rfl hf
    · replace hf := hf.1 (Classical.not_not.mp c5)
      replace c5 := Classical.not_not.mp c5
      refine x_aload_n (pc' := 144) 1 (dX47_resume 68 rfl rfl) rfl rfl rfl ?_
      refine x_iload (pc' := 146) 5 (dX47_resume 69 rfl rfl) rfl rfl ?_
      refine x_inv (pc' := 149) (ν := mX6_push) (av := [_, _]) (st := []) rfl rfl (dX47_resume 70 rfl rfl) (Nat.le_of_ble_eq_true rfl) wX6_push q220 (inv_V (k := 4) (dX47_resume 70 rfl rfl) q3227 q3059 q3060 wX6_push (by decide) lX6_push (by decide) s3.1) (exN (by decide)) rfl ?_
      refine C.mono hf (fun _ _ => KV.g (fun h17 hf le18 => ?_))
      replace s3 := s3.le sc3 (le18)
      refine x_aload_n (pc' := 150) 1 (dX47_resume 71 rfl rfl) rfl rfl rfl ?_
      refine x_aload_n (pc' := 151) 0 (dX47_resume 72 rfl rfl) rfl rfl rfl ?_
      refine x_iconst (pc' := 152) (v := 2) (dX47_resume 73 rfl rfl) (by decide) rfl ?_
      refine x_iload (pc' := 154) 3 (dX47_resume 74 rfl rfl) rfl rfl ?_
      refine x_imul (pc' := 155) (dX47_resume 75 rfl rfl) rfl ?_
      refine x_iconst (pc' := 156) (v := 1) (dX47_resume 76 rfl rfl) (by decide) rfl ?_
      refine x_iadd (pc' := 157) (dX47_resume 77 rfl rfl) rfl ?_
      refine x_iload_n (pc' := 158) 2 (dX47_resume 78 rfl rfl) rfl rfl rfl ?_
      refine x_inv (pc' := 161) (ν := mX6_frame) (av := [_, _, _, _]) (st := []) rfl rfl (dX47_resume 79 rfl rfl) (Nat.le_of_ble_eq_true rfl) wX6_frame q220 (inv_V (k := 4) (dX47_resume 79 rfl rfl) q2926 q2899 q2900 wX6_frame (by decide) lX6_frame (by decide) s3.1) (exN (by decide)) rfl ?_
      refine C.mono hf (fun _ _ => KV.g (fun h19 hf le20 => ?_))
      replace s3 := s3.le sc3 (le20)
      refine x_aload_n (pc' := 162) 1 (dX47_resume 80 rfl rfl) rfl rfl rfl ?_
      refine x_aload_n (pc' := 163) 0 (dX47_resume 81 rfl rfl) rfl rfl rfl ?_
      obtain ⟨k21, hf⟩ := hf
      obtain ⟨b22, e23, hf⟩ := hf
      refine x_getR (pc' := 166) (dX47_resume 82 rfl rfl) g343 q1806 (Or.inl rfl) rfl (hf_of 43 k21 rfl (by decide) m43_343) e23 ?_
      refine x_iload (pc' := 168) 3 (dX47_resume 83 rfl rfl) rfl rfl ?_
      obtain ⟨k24, hf⟩ := hf
      obtain ⟨i25, hf⟩ := hf
      obtain ⟨b26, e27, hf⟩ := hf
      refine x_aald (pc' := 169) (t := 9) (C := "LetMill$Exp") (dX47_resume 84 rfl rfl) rfl (by decide) rfl k24 i25 e27 ?_
      refine x_iload_n (pc' := 170) 2 (dX47_resume 85 rfl rfl) rfl rfl rfl ?_
      refine x_inv (pc' := 173) (ν := mX6_next) (av := [_, _, _]) (st := []) rfl rfl (dX47_resume 86 rfl rfl) (Nat.le_of_ble_eq_true rfl) wX6_next q220 (inv_V (k := 4) (dX47_resume 86 rfl rfl) q2927 q2881 q2882 wX6_next (by decide) lX6_next (by decide) s3.1) (exN (by decide)) rfl ?_
      refine C.mono hf (fun _ _ => KV.g (fun h28 hf le29 => ?_))
      have k21 := leK le29 k21 (by decide)
      have k24 := leK le29 k24 (by decide)
      replace s3 := s3.le sc3 (le29)
      exact x_vret (dX47_resume 87 rfl rfl) rfl hf
  · replace hf := hf.1 (Classical.not_not.mp c1)
    replace c1 := Classical.not_not.mp c1
    refine x_aload_n (pc' := 129) 1 (dX47_resume 61 rfl rfl) rfl rfl rfl ?_
    refine x_iload (pc' := 131) 5 (dX47_resume 62 rfl rfl) rfl rfl ?_
    refine x_inv (pc' := 134) (ν := mX6_give) (av := [_, _]) (st := []) rfl rfl (dX47_resume 63 rfl rfl) (Nat.le_of_ble_eq_true rfl) wX6_give q220 (inv_V (k := 4) (dX47_resume 63 rfl rfl) q3226 q2913 q2914 wX6_give (by decide) lX6_give (by decide) s3.1) (exN (by decide)) rfl ?_
    refine C.mono hf (fun _ _ => KV.g (fun h30 hf le31 => ?_))
    replace s3 := s3.le sc3 (le31)
    exact x_vret (dX47_resume 64 rfl rfl) rfl hf
theorem bX48_init (G : Gh) (d : Nat) (h : AH) (Q : Outcome → AH → Prop) (a0 : Nat) (p1 : Int32) (hf : (hc h + 1 ≤ MC) ∧ (hs h + 2 ≤ MS) ∧ ∀ q1, hK h q1 = 0 → ∀ h3, h3 = nO h q1 5 → (C G mX7_init d [.ref (q1)] h3 (KV Q (fun h6 => hK h6 a0 = 45 ∧ (∀ h9, h9 = pR h6 a0 345 (some q1) → (∀ h10, h10 = pI h9 a0 344 p1 → (Q (.returned none) h10))))))) : C G mX48_init (d + 1) [.ref (a0), .int (p1)] h Q := by
  refine C.of_X (by decide +kernel) (Nat.le_of_ble_eq_true rfl) wX48_init ?_
  show X G mX48_init (d + 1) (some a0) [] 0 [(0, .ref (a0)), (1, .int (p1))] [] h Q
  refine x_aload_n (pc' := 1) 0 (dX48_init 0 rfl rfl) rfl rfl rfl ?_
  refine x_objInit (pc' := 4) (dX48_init 1 rfl rfl) q1850 q288 q289 (by decide) (by omega) rfl ?_
  refine x_aload_n (pc' := 5) 0 (dX48_init 2 rfl rfl) rfl rfl rfl ?_
  obtain ⟨n1, n2, hf⟩ := hf
  refine x_new (pc' := 8) (k := 5) (dX48_init 3 rfl rfl) q1851 (by decide) rfl (by decide) n1 n2 (fun q1 h3 k2 e4 => ?_)
  replace hf := hf q1 k2 h3 e4
  have k5 : hK h3 q1 = 6 := by rw [e4]; exact kNOs
  refine x_dup (pc' := 9) (dX48_init 4 rfl rfl) rfl rfl ?_
  refine x_inv (pc' := 12) (ν := mX7_init) (av := [_]) (st := [_, _]) rfl rfl (dX48_init 5 rfl rfl) (Nat.le_of_ble_eq_true rfl) wX7_init q221 (inv_N (host := "LetMill") (dX48_init 5 rfl rfl) (by decide) q560 q561 rfl (by decide) lX7_init) (fun b hb => by exact Or.inl (by have e : some _ = some b := hb; cases e; simp)) rfl ?_
  refine C.mono hf (fun _ _ => KV.g (fun h6 hf le7 => ?_))
  have k5 := leK le7 k5 (by decide)
  obtain ⟨k8, hf⟩ := hf
  refine x_putR (pc' := 15) (dX48_init 6 rfl rfl) g345 q1855 (Or.inl rfl) (Or.inr ⟨rfl, rfl, rfl, rfl⟩) (Or.inr rfl) rfl (hf_of 44 k8 rfl (by decide) m44_345) (fun h9 e12 => ?_)
  replace hf := hf h9 e12
  replace k5 : hK h9 q1 = 6 := by rw [e12]; exact k5
  replace k8 : hK h9 a0 = 45 := by rw [e12]; exact k8
  refine x_aload_n (pc' := 16) 0 (dX48_init 7 rfl rfl) rfl rfl rfl ?_
  refine x_iload_n (pc' := 17) 1 (dX48_init 8 rfl rfl) rfl rfl rfl ?_
  refine x_putI (pc' := 20) (dX48_init 9 rfl rfl) g344 q1853 (Or.inl rfl) (Or.inr ⟨rfl, rfl, rfl, rfl⟩) (Or.inr rfl) rfl (hf_of 44 k8 rfl (by decide) m44_344) (fun h10 e11 => ?_)
  replace hf := hf h10 e11
  replace k5 : hK h10 q1 = 6 := by rw [e11]; exact k5
  replace k8 : hK h10 a0 = 45 := by rw [e11]; exact k8
  exact x_vret (dX48_init 10 rfl rfl) rfl hf
theorem bX49_init (G : Gh) (d : Nat) (h : AH) (Q : Outcome → AH → Prop) (a0 : Nat) (p1 : Int32) (p2 : Nat) (hf : C G mX29_init d [.ref (a0), .int (p1)] h (KV Q (fun h1 => hK h1 a0 = 46 ∧ (∀ h4, h4 = pR h1 a0 348 (some p2) → (Q (.returned none) h4))))) : C G mX49_init (d + 1) [.ref (a0), .int (p1), .ref (p2)] h Q := by
  refine C.of_X (by decide +kernel) (Nat.le_of_ble_eq_true rfl) wX49_init ?_
  show X G mX49_init (d + 1) (some a0) [] 0 [(0, .ref (a0)), (1, .int (p1)), (2, .ref (p2))] [] h Q
  refine x_aload_n (pc' := 1) 0 (dX49_init 0 rfl rfl) rfl rfl rfl ?_
  refine x_iload_n (pc' := 2) 1 (dX49_init 1 rfl rfl) rfl rfl rfl ?_
  refine x_inv (pc' := 5) (ν := mX29_init) (av := [_, _]) (st := []) rfl rfl (dX49_init 2 rfl rfl) (Nat.le_of_ble_eq_true rfl) wX29_init q250 (inv_I (dX49_init 2 rfl rfl) q1874 q1820 q1821 rfl (by decide) lX29_init) (fun b hb => by exact Or.inr (by rw [← hb]; rfl)) rfl ?_
  refine C.mono hf (fun _ _ => KV.g (fun h1 hf le2 => ?_))
  refine x_aload_n (pc' := 6) 0 (dX49_init 3 rfl rfl) rfl rfl rfl ?_
  refine x_aload_n (pc' := 7) 2 (dX49_init 4 rfl rfl) rfl rfl rfl ?_
  obtain ⟨k3, hf⟩ := hf
  refine x_putR (pc' := 10) (dX49_init 5 rfl rfl) g348 q1875 (Or.inl rfl) (Or.inr ⟨rfl, rfl, rfl, rfl⟩) (Or.inr rfl) rfl (hf_of 45 k3 rfl (by decide) m45_348) (fun h4 e5 => ?_)
  replace hf := hf h4 e5
  replace k3 : hK h4 a0 = 46 := by rw [e5]; exact k3
  exact x_vret (dX49_init 6 rfl rfl) rfl hf
theorem bX49_resolve (G : Gh) (d : Nat) (h : AH) (Q : Outcome → AH → Prop) (a0 : Nat) (s4 : So 4 (gW G) h) (hf : ∀ x1 : Int32, x1 = fI h (gW G 4) 83 → (X G mX49_resolve (d + 1) none [] 7 [(0, .ref (a0)), (1, .ref (gW G 4)), (2, .int (x1)), (3, .int (0))] [] h Q)) : C G mX49_resolve (d + 1) [.ref (a0), .ref (gW G 4)] h Q := by
  refine C.of_X (by decide +kernel) (Nat.le_of_ble_eq_true rfl) wX49_resolve ?_
  show X G mX49_resolve (d + 1) none [] 0 [(0, .ref (a0)), (1, .ref (gW G 4))] [] h Q
  refine x_aload_n (pc' := 1) 1 (dX49_resolve 0 rfl rfl) rfl rfl rfl ?_
  refine x_getI (pc' := 4) (dX49_resolve 1 rfl rfl) g83 q688 (Or.inl rfl) rfl (hf_of 7 s4.1 rfl (by decide) m7_83) ?_
  replace hf := hf _ rfl
  refine x_istore_n (pc' := 5) (dX49_resolve 2 rfl rfl) rfl (by decide) rfl rfl ?_
  refine x_iconst (pc' := 6) (v := 0) (dX49_resolve 3 rfl rfl) (by decide) rfl ?_
  refine x_istore_n (pc' := 7) (dX49_resolve 4 rfl rfl) rfl (by decide) rfl rfl ?_
  exact X.sub [2, 3, 1, 0] rfl (by simp) hf
theorem bX49_resolve_7 (G : Gh) (d : Nat) (h : AH) (Q : Outcome → AH → Prop) (l0 : Nat) (l2 : Int32) (l3 : Int32) (s4 : So 4 (gW G) h) (hf : hK h l0 = 46 ∧ (∃ b2, fR h l0 348 = some b2 ∧ (hK h b2 = 6 ∧ (((fI h b2 78) ≤ l3 → (X G mX49_resolve (d + 1) none [] 53 [(0, .ref (l0)), (1, .ref (gW G 4)), (3, .int (0))] [] h Q)) ∧ (¬ ((fI h b2 78) ≤ l3) → (∃ b6, fR h l0 348 = some b6 ∧ (hK h b6 = 6 ∧ (C G mX7_fun d [.ref (b6), .int (l3)] h (KR Q (fun b11 h8 => ∃ b12, fR h8 l0 348 = some b12 ∧ (hK h8 b12 = 6 ∧ (C G mX7_fun d [.ref (b12), .int (l3)] h8 (KR Q (fun b17 h14 => hK h14 b17 = 45 ∧ (C G mX9_bind d [.ref (gW G 4), .int (fI h14 b17 344), .int (l2)] h14 (KR Q (fun b21 h19 => hK h19 b11 = 45 ∧ (∀ h23, h23 = pR h19 b11 346 (some b21) → (∀ x24 : Int32, x24 = l3 + 1 → (X G mX49_resolve (d + 1) none [] 7 [(0, .ref (l0)), (1, .ref (gW G 4)), (2, .int (l2)), (3, .int (x24))] [] h23 Q)))))))))))))))))))) : X G mX49_resolve (d + 1) none [] 7 [(0, .ref (l0)), (1, .ref (gW G 4)), (2, .int (l2)), (3, .int (l3))] [] h Q := by
  refine x_iload_n (pc' := 8) 3 (dX49_resolve 5 rfl rfl) rfl rfl rfl ?_
  refine x_aload_n (pc' := 9) 0 (dX49_resolve 6 rfl rfl) rfl rfl rfl ?_
  obtain ⟨k1, hf⟩ := hf
  obtain ⟨b2, e3, hf⟩ := hf
  refine x_getR (pc' := 12) (dX49_resolve 7 rfl rfl) g348 q1875 (Or.inl rfl) rfl (hf_of 45 k1 rfl (by decide) m45_348) e3 ?_
  obtain ⟨k4, hf⟩ := hf
  refine x_getI (pc' := 15) (dX49_resolve 8 rfl rfl) g78 q570 (Or.inl rfl) rfl (hf_of 5 k4 rfl (by decide) m5_78) ?_
  refine x_icmp_ge (pc' := 18) (tgt := 51) (dX49_resolve 9 rfl rfl) (by decide) rfl (fun c5 => ?_) (fun c5 => ?_)
  · replace hf := hf.1 c5
    refine x_iconst (pc' := 52) (v := 0) (dX49_resolve 25 rfl rfl) (by decide) rfl ?_
    refine x_istore_n (pc' := 53) (dX49_resolve 26 rfl rfl) rfl (by decide) rfl rfl ?_
    exact X.sub [1, 2, 0] rfl (by simp) hf
  · replace hf := hf.2 c5
    refine x_aload_n (pc' := 19) 0 (dX49_resolve 10 rfl rfl) rfl rfl rfl ?_
    obtain ⟨b6, e7, hf⟩ := hf
    refine x_getR (pc' := 22) (dX49_resolve 11 rfl rfl) g348 q1875 (Or.inl rfl) rfl (hf_of 45 k1 rfl (by decide) m45_348) e7 ?_
    refine x_iload_n (pc' := 23) 3 (dX49_resolve 12 rfl rfl) rfl rfl rfl ?_
    obtain ⟨k10, hf⟩ := hf
    refine x_inv (pc' := 26) (ν := mX7_fun) (av := [_, _]) (st := []) rfl rfl (dX49_resolve 13 rfl rfl) (Nat.le_of_ble_eq_true rfl) wX7_fun q221 (inv_V (k := 5) (dX49_resolve 13 rfl rfl) q2187 q2188 q2189 wX7_fun (by decide) lX7_fun (by decide) k10) (exN (by decide)) rfl ?_
    refine C.mono hf (fun _ _ => KR.g (fun b11 h8 hf le9 => ?_))
    have k1 := leK le9 k1 (by decide)
    have k4 := leK le9 k4 (by decide)
    have k10 := leK le9 k10 (by decide)
    replace s4 := s4.le sc4 (le9)
    refine x_aload_n (pc' := 27) 1 (dX49_resolve 14 rfl rfl) rfl rfl rfl ?_
    refine x_aload_n (pc' := 28) 0 (dX49_resolve 15 rfl rfl) rfl rfl rfl ?_
    obtain ⟨b12, e13, hf⟩ := hf
    refine x_getR (pc' := 31) (dX49_resolve 16 rfl rfl) g348 q1875 (Or.inl rfl) rfl (hf_of 45 k1 rfl (by decide) m45_348) e13 ?_
    refine x_iload_n (pc' := 32) 3 (dX49_resolve 17 rfl rfl) rfl rfl rfl ?_
    obtain ⟨k16, hf⟩ := hf
    refine x_inv (pc' := 35) (ν := mX7_fun) (av := [_, _]) (st := [_, _]) rfl rfl (dX49_resolve 18 rfl rfl) (Nat.le_of_ble_eq_true rfl) wX7_fun q221 (inv_V (k := 5) (dX49_resolve 18 rfl rfl) q2187 q2188 q2189 wX7_fun (by decide) lX7_fun (by decide) k16) (exN (by decide)) rfl ?_
    refine C.mono hf (fun _ _ => KR.g (fun b17 h14 hf le15 => ?_))
    have k1 := leK le15 k1 (by decide)
    have k4 := leK le15 k4 (by decide)
    have k10 := leK le15 k10 (by decide)
    have k16 := leK le15 k16 (by decide)
    replace s4 := s4.le sc4 (le15)
    obtain ⟨k18, hf⟩ := hf
    refine x_getI (pc' := 38) (dX49_resolve 19 rfl rfl) g344 q1854 (Or.inl rfl) rfl (hf_of 44 k18 rfl (by decide) m44_344) ?_
    refine x_iload_n (pc' := 39) 2 (dX49_resolve 20 rfl rfl) rfl rfl rfl ?_
    refine x_inv (pc' := 42) (ν := mX9_bind) (av := [_, _, _]) (st := [_]) rfl rfl (dX49_resolve 21 rfl rfl) (Nat.le_of_ble_eq_true rfl) wX9_bind q223 (inv_V (k := 7) (dX49_resolve 21 rfl rfl) q2192 q2193 q2194 wX9_bind (by decide) lX9_bind (by decide) s4.1) (exN (by decide)) rfl ?_
    refine C.mono hf (fun _ _ => KR.g (fun b21 h19 hf le20 => ?_))
    have k1 := leK le20 k1 (by decide)
    have k4 := leK le20 k4 (by decide)
    have k10 := leK le20 k10 (by decide)
    have k16 := leK le20 k16 (by decide)
    have k18 := leK le20 k18 (by decide)
    replace s4 := s4.le sc4 (le20)
    obtain ⟨k22, hf⟩ := hf
    refine x_putR (pc' := 45) (dX49_resolve 22 rfl rfl) g346 q1858 (Or.inl rfl) (Or.inl rfl) (Or.inl (by decide)) rfl (hf_of 44 k22 rfl (by decide) m44_346) (fun h23 e25 => ?_)
    replace hf := hf h23 e25
    replace k1 : hK h23 l0 = 46 := by rw [e25]; exact k1
    replace k4 : hK h23 b2 = 6 := by rw [e25]; exact k4
    replace k10 : hK h23 b6 = 6 := by rw [e25]; exact k10
    replace k16 : hK h23 b12 = 6 := by rw [e25]; exact k16
    replace k18 : hK h23 b17 = 45 := by rw [e25]; exact k18
    replace k22 : hK h23 b11 = 45 := by rw [e25]; exact k22
    replace s4 : So 4 (gW G) h23 := by rw [e25]; exact s4.le sc4 (pR_le (Or.inl rfl))
    replace hf := hf _ rfl
    refine x_iinc (pc' := 48) 3 (dX49_resolve 23 rfl rfl) rfl (by rfl) (by decide) rfl rfl ?_
    refine x_goto (tgt := 7) (dX49_resolve 24 rfl rfl) (by decide) ?_
    exact X.sub [1, 2, 3, 0] rfl (by simp) hf
theorem bX49_resolve_53 (G : Gh) (d : Nat) (h : AH) (Q : Outcome → AH → Prop) (l0 : Nat) (l3 : Int32) (hf : hK h l0 = 46 ∧ (∃ b2, fR h l0 348 = some b2 ∧ (hK h b2 = 6 ∧ (((fI h b2 78) ≤ l3 → (Q (.returned none) h)) ∧ (¬ ((fI h b2 78) ≤ l3) → (∃ b6, fR h l0 348 = some b6 ∧ (hK h b6 = 6 ∧ (C G mX7_fun d [.ref (b6), .int (l3)] h (KR Q (fun b11 h8 => X G mX49_resolve (d + 1) none [] 77 [(0, .ref (l0)), (1, .ref (gW G 4)), (3, .int (l3)), (4, .ref (b11)), (5, .int (0))] [] h8 Q)))))))))) : X G mX49_resolve (d + 1) none [] 53 [(0, .ref (l0)), (1, .ref (gW G 4)), (3, .int (l3))] [] h Q := by
  refine x_iload_n (pc' := 54) 2 (dX49_resolve 27 rfl rfl) rfl rfl rfl ?_
  refine x_aload_n (pc' := 55) 0 (dX49_resolve 28 rfl rfl) rfl rfl rfl ?_
  obtain ⟨k1, hf⟩ := hf
  obtain ⟨b2, e3, hf⟩ := hf
  refine x_getR (pc' := 58) (dX49_resolve 29 rfl rfl) g348 q1875 (Or.inl rfl) rfl (hf_of 45 k1 rfl (by decide) m45_348) e3 ?_
  obtain ⟨k4, hf⟩ := hf
  refine x_getI (pc' := 61) (dX49_resolve 30 rfl rfl) g78 q570 (Or.inl rfl) rfl (hf_of 5 k4 rfl (by decide) m5_78) ?_
  refine x_icmp_ge (pc' := 64) (tgt := 179) (dX49_resolve 31 rfl rfl) (by decide) rfl (fun c5 => ?_) (fun c5 => ?_)
  · replace hf := hf.1 c5
    exact x_vret (dX49_resolve 83 rfl rfl) rfl hf
  · replace hf := hf.2 c5
    refine x_aload_n (pc' := 65) 0 (dX49_resolve 32 rfl rfl) rfl rfl rfl ?_
    obtain ⟨b6, e7, hf⟩ := hf
    refine x_getR (pc' := 68) (dX49_resolve 33 rfl rfl) g348 q1875 (Or.inl rfl) rfl (hf_of 45 k1 rfl (by decide) m45_348) e7 ?_
    refine x_iload_n (pc' := 69) 2 (dX49_resolve 34 rfl rfl) rfl rfl rfl ?_
    obtain ⟨k10, hf⟩ := hf
    refine x_inv (pc' := 72) (ν := mX7_fun) (av := [_, _]) (st := []) rfl rfl (dX49_resolve 35 rfl rfl) (Nat.le_of_ble_eq_true rfl) wX7_fun q221 (inv_V (k := 5) (dX49_resolve 35 rfl rfl) q2187 q2188 q2189 wX7_fun (by decide) lX7_fun (by decide) k10) (exN (by decide)) rfl ?_
    refine C.mono hf (fun _ _ => KR.g (fun b11 h8 hf le9 => ?_))
    have k1 := leK le9 k1 (by decide)
    have k4 := leK le9 k4 (by decide)
    have k10 := leK le9 k10 (by decide)
    refine x_astore (pc' := 74) (dX49_resolve 36 rfl rfl) (by decide) rfl rfl ?_
    refine x_iconst (pc' := 75) (v := 0) (dX49_resolve 37 rfl rfl) (by decide) rfl ?_
    refine x_istore (pc' := 77) (dX49_resolve 38 rfl rfl) (by decide) rfl rfl ?_
    exact X.sub [2, 3, 4, 1, 0] rfl (by simp) hf
theorem bX49_resolve_77 (G : Gh) (d : Nat) (h : AH) (Q : Outcome → AH → Prop) (l0 : Nat) (l3 : Int32) (l4 : Nat) (l5 : Int32) (s4 : So 4 (gW G) h) (hf : hK h l4 = 45 ∧ (∃ b2, fR h l4 345 = some b2 ∧ (hK h b2 = 6 ∧ (((fI h b2 78) ≤ l5 → (∀ x6 : Int32, x6 = l3 + 1 → (X G mX49_resolve (d + 1) none [] 53 [(0, .ref (l0)), (1, .ref (gW G 4)), (3, .int (x6))] [] h Q))) ∧ (¬ ((fI h b2 78) ≤ l5) → (∃ b7, fR h l4 345 = some b7 ∧ (hK h b7 = 6 ∧ (C G mX7_clause d [.ref (b7), .int (l5)] h (KR Q (fun b12 h9 => hK h9 b12 = 29 ∧ (C G mX9_isTwice d [.ref (gW G 4), .int (fI h9 b12 316), .int (fI h9 l4 344)] h9 (KI Q (fun x16 h14 => (x16 = 0 → (C G mX9_found d [.ref (gW G 4), .int (3), .int (fI h14 b12 316)] h14 (KV Q (fun h40 => ∃ b42, fR h40 b12 317 = some b42 ∧ (hK h40 b42 = 1008 ∧ (∃ b45, fR h40 l4 345 = some b45 ∧ (hK h40 b45 = 6 ∧ (C G mX7_clause d [.ref (b45), .int (0)] h40 (KR Q (fun b50 h47 => hK h47 b50 = 29 ∧ (∃ b52, fR h47 b50 317 = some b52 ∧ (hK h47 b52 = 1008 ∧ (((Int32.ofNat (hL h40 b42)) = (Int32.ofNat (hL h47 b52)) → (C G mX9_clause d [.ref (gW G 4), .ref (b12)] h47 (KV Q (fun h56 => ∀ x58 : Int32, x58 = l5 + 1 → (X G mX49_resolve (d + 1) none [] 77 [(0, .ref (l0)), (1, .ref (gW G 4)), (3, .int (l3)), (4, .ref (l4)), (5, .int (x58))] [] h56 Q))))) ∧ (¬ ((Int32.ofNat (hL h40 b42)) = (Int32.ofNat (hL h47 b52))) → (C G mX9_found d [.ref (gW G 4), .int (4), .int (fI h47 b12 316)] h47 (KV Q (fun h59 => C G mX9_clause d [.ref (gW G 4), .ref (b12)] h59 (KV Q (fun h61 => ∀ x63 : Int32, x63 = l5 + 1 → (X G mX49_resolve (d + 1) none [] 77 [(0, .ref (l0)), (1, .ref (gW G 4)), (3, .int (l3)), (4, .ref (l4)), (5, .int (x63))] [] h61 Q)))))))))))))))))))) ∧ (¬ x16 = 0 → (∃ b18, fR h14 b12 317 = some b18 ∧ (hK h14 b18 = 1008 ∧ (∃ b21, fR h14 l4 345 = some b21 ∧ (hK h14 b21 = 6 ∧ (C G mX7_clause d [.ref (b21), .int (0)] h14 (KR Q (fun b26 h23 => hK h23 b26 = 29 ∧ (∃ b28, fR h23 b26 317 = some b28 ∧ (hK h23 b28 = 1008 ∧ (((Int32.ofNat (hL h14 b18)) = (Int32.ofNat (hL h23 b28)) → (C G mX9_clause d [.ref (gW G 4), .ref (b12)] h23 (KV Q (fun h32 => ∀ x34 : Int32, x34 = l5 + 1 → (X G mX49_resolve (d + 1) none [] 77 [(0, .ref (l0)), (1, .ref (gW G 4)), (3, .int (l3)), (4, .ref (l4)), (5, .int (x34))] [] h32 Q))))) ∧ (¬ ((Int32.ofNat (hL h14 b18)) = (Int32.ofNat (hL h23 b28))) → (C G mX9_found d [.ref (gW G 4), .int (4), .int (fI h23 b12 316)] h23 (KV Q (fun h35 => C G mX9_clause d [.ref (gW G 4), .ref (b12)] h35 (KV Q (fun h37 => ∀ x39 : Int32, x39 = l5 + 1 → (X G mX49_resolve (d + 1) none [] 77 [(0, .ref (l0)), (1, .ref (gW G 4)), (3, .int (l3)), (4, .ref (l4)), (5, .int (x39))] [] h37 Q))))))))))))))))))))))))))))))) : X G mX49_resolve (d + 1) none [] 77 [(0, .ref (l0)), (1, .ref (gW G 4)), (3, .int (l3)), (4, .ref (l4)), (5, .int (l5))] [] h Q := by
  refine x_iload (pc' := 79) 4 (dX49_resolve 39 rfl rfl) rfl rfl ?_
  refine x_aload (pc' := 81) 3 (dX49_resolve 40 rfl rfl) rfl rfl ?_
  obtain ⟨k1, hf⟩ := hf
  obtain ⟨b2, e3, hf⟩ := hf
  refine x_getR (pc' := 84) (dX49_resolve 41 rfl rfl) g345 q1856 (Or.inl rfl) rfl (hf_of 44 k1 rfl (by decide) m44_345) e3 ?_
  obtain ⟨k4, hf⟩ := hf
  refine x_getI (pc' := 87) (dX49_resolve 42 rfl rfl) g78 q570 (Or.inl rfl) rfl (hf_of 5 k4 rfl (by decide) m5_78) ?_
  refine x_icmp_ge (pc' := 90) (tgt := 173) (dX49_resolve 43 rfl rfl) (by decide) rfl (fun c5 => ?_) (fun c5 => ?_)
  · replace hf := hf.1 c5
    replace hf := hf _ rfl
    refine x_iinc (pc' := 176) 2 (dX49_resolve 81 rfl rfl) rfl (by rfl) (by decide) rfl rfl ?_
    refine x_goto (tgt := 53) (dX49_resolve 82 rfl rfl) (by decide) ?_
    exact X.sub [1, 2, 0] rfl (by simp) hf
  · replace hf := hf.2 c5
    refine x_aload (pc' := 92) 3 (dX49_resolve 44 rfl rfl) rfl rfl ?_
    obtain ⟨b7, e8, hf⟩ := hf
    refine x_getR (pc' := 95) (dX49_resolve 45 rfl rfl) g345 q1856 (Or.inl rfl) rfl (hf_of 44 k1 rfl (by decide) m44_345) e8 ?_
    refine x_iload (pc' := 97) 4 (dX49_resolve 46 rfl rfl) rfl rfl ?_
    obtain ⟨k11, hf⟩ := hf
    refine x_inv (pc' := 100) (ν := mX7_clause) (av := [_, _]) (st := []) rfl rfl (dX49_resolve 47 rfl rfl) (Nat.le_of_ble_eq_true rfl) wX7_clause q221 (inv_V (k := 5) (dX49_resolve 47 rfl rfl) q2196 q2197 q2198 wX7_clause (by decide) lX7_clause (by decide) k11) (exN (by decide)) rfl ?_
    refine C.mono hf (fun _ _ => KR.g (fun b12 h9 hf le10 => ?_))
    have k1 := leK le10 k1 (by decide)
    have k4 := leK le10 k4 (by decide)
    have k11 := leK le10 k11 (by decide)
    replace s4 := s4.le sc4 (le10)
    refine x_astore (pc' := 102) (dX49_resolve 48 rfl rfl) (by decide) rfl rfl ?_
    refine x_aload_n (pc' := 103) 2 (dX49_resolve 49 rfl rfl) rfl rfl rfl ?_
    refine x_aload (pc' := 105) 0 (dX49_resolve 50 rfl rfl) rfl rfl ?_
    obtain ⟨k13, hf⟩ := hf
    refine x_getI (pc' := 108) (dX49_resolve 51 rfl rfl) g316 q1492 (Or.inl rfl) rfl (hf_of 28 k13 rfl (by decide) m28_316) ?_
    refine x_aload (pc' := 110) 4 (dX49_resolve 52 rfl rfl) rfl rfl ?_
    refine x_getI (pc' := 113) (dX49_resolve 53 rfl rfl) g344 q1854 (Or.inl rfl) rfl (hf_of 44 k1 rfl (by decide) m44_344) ?_
    refine x_inv (pc' := 116) (ν := mX9_isTwice) (av := [_, _, _]) (st := []) rfl rfl (dX49_resolve 54 rfl rfl) (Nat.le_of_ble_eq_true rfl) wX9_isTwice q223 (inv_V (k := 7) (dX49_resolve 54 rfl rfl) q2201 q2053 q2054 wX9_isTwice (by decide) lX9_isTwice (by decide) s4.1) (exN (by decide)) rfl ?_
    refine C.mono hf (fun _ _ => KI.g (fun x16 h14 hf le15 => ?_))
    have k1 := leK le15 k1 (by decide)
    have k4 := leK le15 k4 (by decide)
    have k11 := leK le15 k11 (by decide)
    have k13 := leK le15 k13 (by decide)
    replace s4 := s4.le sc4 (le15)
    refine x_if_ne (pc' := 119) (tgt := 129) (dX49_resolve 55 rfl rfl) (by decide) rfl (fun c17 => ?_) (fun c17 => ?_)
    · replace hf := hf.2 c17
      refine x_aload (pc' := 131) 0 (dX49_resolve 61 rfl rfl) rfl rfl ?_
      obtain ⟨b18, e19, hf⟩ := hf
      refine x_getR (pc' := 134) (dX49_resolve 62 rfl rfl) g317 q1495 (Or.inl rfl) rfl (hf_of 28 k13 rfl (by decide) m28_317) e19 ?_
      obtain ⟨k20, hf⟩ := hf
      refine x_alen (pc' := 135) (t := 8) (ty := .object "LetMill$Pat") (dX49_resolve 63 rfl rfl) rfl rfl k20 ?_
      refine x_aload (pc' := 137) 4 (dX49_resolve 64 rfl rfl) rfl rfl ?_
      obtain ⟨b21, e22, hf⟩ := hf
      refine x_getR (pc' := 140) (dX49_resolve 65 rfl rfl) g345 q1856 (Or.inl rfl) rfl (hf_of 44 k1 rfl (by decide) m44_345) e22 ?_
      refine x_iconst (pc' := 141) (v := 0) (dX49_resolve 66 rfl rfl) (by decide) rfl ?_
      obtain ⟨k25, hf⟩ := hf
      refine x_inv (pc' := 144) (ν := mX7_clause) (av := [_, _]) (st := [_]) rfl rfl (dX49_resolve 67 rfl rfl) (Nat.le_of_ble_eq_true rfl) wX7_clause q221 (inv_V (k := 5) (dX49_resolve 67 rfl rfl) q2196 q2197 q2198 wX7_clause (by decide) lX7_clause (by decide) k25) (exN (by decide)) rfl ?_
      refine C.mono hf (fun _ _ => KR.g (fun b26 h23 hf le24 => ?_))
      have k1 := leK le24 k1 (by decide)
      have k4 := leK le24 k4 (by decide)
      have k11 := leK le24 k11 (by decide)
      have k13 := leK le24 k13 (by decide)
      have k20 := leK le24 k20 (by decide)
      have k25 := leK le24 k25 (by decide)
      replace s4 := s4.le sc4 (le24)
      obtain ⟨k27, hf⟩ := hf
      obtain ⟨b28, e29, hf⟩ := hf
      refine x_getR (pc' := 147) (dX49_resolve 68 rfl rfl) g317 q1495 (Or.inl rfl) rfl (hf_of 28 k27 rfl (by decide) m28_317) e29 ?_
      obtain ⟨k30, hf⟩ := hf
      refine x_alen (pc' := 148) (t := 8) (ty := .object "LetMill$Pat") (dX49_resolve 69 rfl rfl) rfl rfl k30 ?_
      refine x_icmp_eq (pc' := 151) (tgt := 161) (dX49_resolve 70 rfl rfl) (by decide) rfl (fun c31 => ?_) (fun c31 => ?_)
      · replace hf := hf.1 c31
        refine x_aload_n (pc' := 162) 2 (dX49_resolve 76 rfl rfl) rfl rfl rfl ?_
        refine x_aload (pc' := 164) 0 (dX49_resolve 77 rfl rfl) rfl rfl ?_
        refine x_inv (pc' := 167) (ν := mX9_clause) (av := [_, _]) (st := []) rfl rfl (dX49_resolve 78 rfl rfl) (Nat.le_of_ble_eq_true rfl) wX9_clause q223 (inv_V (k := 7) (dX49_resolve 78 rfl rfl) q2203 q2204 q2205 wX9_clause (by decide) lX9_clause (by decide) s4.1) (exN (by decide)) rfl ?_
        refine C.mono hf (fun _ _ => KV.g (fun h32 hf le33 => ?_))
        have k1 := leK le33 k1 (by decide)
        have k4 := leK le33 k4 (by decide)
        have k11 := leK le33 k11 (by decide)
        have k13 := leK le33 k13 (by decide)
        have k20 := leK le33 k20 (by decide)
        have k25 := leK le33 k25 (by decide)
        have k27 := leK le33 k27 (by decide)
        have k30 := leK le33 k30 (by decide)
        replace s4 := s4.le sc4 (le33)
        replace hf := hf _ rfl
        refine x_iinc (pc' := 170) 5 (dX49_resolve 79 rfl rfl) rfl (by rfl) (by decide) rfl rfl ?_
        refine x_goto (tgt := 77) (dX49_resolve 80 rfl rfl) (by decide) ?_
        exact X.sub [2, 3, 4, 5, 0] rfl (by simp) hf
      · replace hf := hf.2 c31
        refine x_aload_n (pc' := 152) 2 (dX49_resolve 71 rfl rfl) rfl rfl rfl ?_
        refine x_iconst (pc' := 153) (v := 4) (dX49_resolve 72 rfl rfl) (by decide) rfl ?_
        refine x_aload (pc' := 155) 0 (dX49_resolve 73 rfl rfl) rfl rfl ?_
        refine x_getI (pc' := 158) (dX49_resolve 74 rfl rfl) g316 q1492 (Or.inl rfl) rfl (hf_of 28 k13 rfl (by decide) m28_316) ?_
        refine x_inv (pc' := 161) (ν := mX9_found) (av := [_, _, _]) (st := []) rfl rfl (dX49_resolve 75 rfl rfl) (Nat.le_of_ble_eq_true rfl) wX9_found q223 (inv_V (k := 7) (dX49_resolve 75 rfl rfl) q2202 q2061 q2062 wX9_found (by decide) lX9_found (by decide) s4.1) (exN (by decide)) rfl ?_
        refine C.mono hf (fun _ _ => KV.g (fun h35 hf le36 => ?_))
        have k1 := leK le36 k1 (by decide)
        have k4 := leK le36 k4 (by decide)
        have k11 := leK le36 k11 (by decide)
        have k13 := leK le36 k13 (by decide)
        have k20 := leK le36 k20 (by decide)
        have k25 := leK le36 k25 (by decide)
        have k27 := leK le36 k27 (by decide)
        have k30 := leK le36 k30 (by decide)
        replace s4 := s4.le sc4 (le36)
        refine x_aload_n (pc' := 162) 2 (dX49_resolve 76 rfl rfl) rfl rfl rfl ?_
        refine x_aload (pc' := 164) 0 (dX49_resolve 77 rfl rfl) rfl rfl ?_
        refine x_inv (pc' := 167) (ν := mX9_clause) (av := [_, _]) (st := []) rfl rfl (dX49_resolve 78 rfl rfl) (Nat.le_of_ble_eq_true rfl) wX9_clause q223 (inv_V (k := 7) (dX49_resolve 78 rfl rfl) q2203 q2204 q2205 wX9_clause (by decide) lX9_clause (by decide) s4.1) (exN (by decide)) rfl ?_
        refine C.mono hf (fun _ _ => KV.g (fun h37 hf le38 => ?_))
        have k1 := leK le38 k1 (by decide)
        have k4 := leK le38 k4 (by decide)
        have k11 := leK le38 k11 (by decide)
        have k13 := leK le38 k13 (by decide)
        have k20 := leK le38 k20 (by decide)
        have k25 := leK le38 k25 (by decide)
        have k27 := leK le38 k27 (by decide)
        have k30 := leK le38 k30 (by decide)
        replace s4 := s4.le sc4 (le38)
        replace hf := hf _ rfl
        refine x_iinc (pc' := 170) 5 (dX49_resolve 79 rfl rfl) rfl (by rfl) (by decide) rfl rfl ?_
        refine x_goto (tgt := 77) (dX49_resolve 80 rfl rfl) (by decide) ?_
        exact X.sub [2, 3, 4, 5, 0] rfl (by simp) hf
    · replace hf := hf.1 (Classical.not_not.mp c17)
      replace c17 := Classical.not_not.mp c17
      refine x_aload_n (pc' := 120) 2 (dX49_resolve 56 rfl rfl) rfl rfl rfl ?_
      refine x_iconst (pc' := 121) (v := 3) (dX49_resolve 57 rfl rfl) (by decide) rfl ?_
      refine x_aload (pc' := 123) 0 (dX49_resolve 58 rfl rfl) rfl rfl ?_
      refine x_getI (pc' := 126) (dX49_resolve 59 rfl rfl) g316 q1492 (Or.inl rfl) rfl (hf_of 28 k13 rfl (by decide) m28_316) ?_
      refine x_inv (pc' := 129) (ν := mX9_found) (av := [_, _, _]) (st := []) rfl rfl (dX49_resolve 60 rfl rfl) (Nat.le_of_ble_eq_true rfl) wX9_found q223 (inv_V (k := 7) (dX49_resolve 60 rfl rfl) q2202 q2061 q2062 wX9_found (by decide) lX9_found (by decide) s4.1) (exN (by decide)) rfl ?_
      refine C.mono hf (fun _ _ => KV.g (fun h40 hf le41 => ?_))
      have k1 := leK le41 k1 (by decide)
      have k4 := leK le41 k4 (by decide)
      have k11 := leK le41 k11 (by decide)
      have k13 := leK le41 k13 (by decide)
      replace s4 := s4.le sc4 (le41)
      refine x_aload (pc' := 131) 0 (dX49_resolve 61 rfl rfl) rfl rfl ?_
      obtain ⟨b42, e43, hf⟩ := hf
      refine x_getR (pc' := 134) (dX49_resolve 62 rfl rfl) g317 q1495 (Or.inl rfl) rfl (hf_of 28 k13 rfl (by decide) m28_317) e43 ?_
      obtain ⟨k44, hf⟩ := hf
      refine x_alen (pc' := 135) (t := 8) (ty := .object "LetMill$Pat") (dX49_resolve 63 rfl rfl) rfl rfl k44 ?_
      refine x_aload (pc' := 137) 4 (dX49_resolve 64 rfl rfl) rfl rfl ?_
      obtain ⟨b45, e46, hf⟩ := hf
      refine x_getR (pc' := 140) (dX49_resolve 65 rfl rfl) g345 q1856 (Or.inl rfl) rfl (hf_of 44 k1 rfl (by decide) m44_345) e46 ?_
      refine x_iconst (pc' := 141) (v := 0) (dX49_resolve 66 rfl rfl) (by decide) rfl ?_
      obtain ⟨k49, hf⟩ := hf
      refine x_inv (pc' := 144) (ν := mX7_clause) (av := [_, _]) (st := [_]) rfl rfl (dX49_resolve 67 rfl rfl) (Nat.le_of_ble_eq_true rfl) wX7_clause q221 (inv_V (k := 5) (dX49_resolve 67 rfl rfl) q2196 q2197 q2198 wX7_clause (by decide) lX7_clause (by decide) k49) (exN (by decide)) rfl ?_
      refine C.mono hf (fun _ _ => KR.g (fun b50 h47 hf le48 => ?_))
      have k1 := leK le48 k1 (by decide)
      have k4 := leK le48 k4 (by decide)
      have k11 := leK le48 k11 (by decide)
      have k13 := leK le48 k13 (by decide)
      have k44 := leK le48 k44 (by decide)
      have k49 := leK le48 k49 (by decide)
      replace s4 := s4.le sc4 (le48)
      obtain ⟨k51, hf⟩ := hf
      obtain ⟨b52, e53, hf⟩ := hf
      refine x_getR (pc' := 147) (dX49_resolve 68 rfl rfl) g317 q1495 (Or.inl rfl) rfl (hf_of 28 k51 rfl (by decide) m28_317) e53 ?_
      obtain ⟨k54, hf⟩ := hf
      refine x_alen (pc' := 148) (t := 8) (ty := .object "LetMill$Pat") (dX49_resolve 69 rfl rfl) rfl rfl k54 ?_
      refine x_icmp_eq (pc' := 151) (tgt := 161) (dX49_resolve 70 rfl rfl) (by decide) rfl (fun c55 => ?_) (fun c55 => ?_)
      · replace hf := hf.1 c55
        refine x_aload_n (pc' := 162) 2 (dX49_resolve 76 rfl rfl) rfl rfl rfl ?_
        refine x_aload (pc' := 164) 0 (dX49_resolve 77 rfl rfl) rfl rfl ?_
        refine x_inv (pc' := 167) (ν := mX9_clause) (av := [_, _]) (st := []) rfl rfl (dX49_resolve 78 rfl rfl) (Nat.le_of_ble_eq_true rfl) wX9_clause q223 (inv_V (k := 7) (dX49_resolve 78 rfl rfl) q2203 q2204 q2205 wX9_clause (by decide) lX9_clause (by decide) s4.1) (exN (by decide)) rfl ?_
        refine C.mono hf (fun _ _ => KV.g (fun h56 hf le57 => ?_))
        have k1 := leK le57 k1 (by decide)
        have k4 := leK le57 k4 (by decide)
        have k11 := leK le57 k11 (by decide)
        have k13 := leK le57 k13 (by decide)
        have k44 := leK le57 k44 (by decide)
        have k49 := leK le57 k49 (by decide)
        have k51 := leK le57 k51 (by decide)
        have k54 := leK le57 k54 (by decide)
        replace s4 := s4.le sc4 (le57)
        replace hf := hf _ rfl
        refine x_iinc (pc' := 170) 5 (dX49_resolve 79 rfl rfl) rfl (by rfl) (by decide) rfl rfl ?_
        refine x_goto (tgt := 77) (dX49_resolve 80 rfl rfl) (by decide) ?_
        exact X.sub [2, 3, 4, 5, 0] rfl (by simp) hf
      · replace hf := hf.2 c55
        refine x_aload_n (pc' := 152) 2 (dX49_resolve 71 rfl rfl) rfl rfl rfl ?_
        refine x_iconst (pc' := 153) (v := 4) (dX49_resolve 72 rfl rfl) (by decide) rfl ?_
        refine x_aload (pc' := 155) 0 (dX49_resolve 73 rfl rfl) rfl rfl ?_
        refine x_getI (pc' := 158) (dX49_resolve 74 rfl rfl) g316 q1492 (Or.inl rfl) rfl (hf_of 28 k13 rfl (by decide) m28_316) ?_
        refine x_inv (pc' := 161) (ν := mX9_found) (av := [_, _, _]) (st := []) rfl rfl (dX49_resolve 75 rfl rfl) (Nat.le_of_ble_eq_true rfl) wX9_found q223 (inv_V (k := 7) (dX49_resolve 75 rfl rfl) q2202 q2061 q2062 wX9_found (by decide) lX9_found (by decide) s4.1) (exN (by decide)) rfl ?_
        refine C.mono hf (fun _ _ => KV.g (fun h59 hf le60 => ?_))
        have k1 := leK le60 k1 (by decide)
        have k4 := leK le60 k4 (by decide)
        have k11 := leK le60 k11 (by decide)
        have k13 := leK le60 k13 (by decide)
        have k44 := leK le60 k44 (by decide)
        have k49 := leK le60 k49 (by decide)
        have k51 := leK le60 k51 (by decide)
        have k54 := leK le60 k54 (by decide)
        replace s4 := s4.le sc4 (le60)
        refine x_aload_n (pc' := 162) 2 (dX49_resolve 76 rfl rfl) rfl rfl rfl ?_
        refine x_aload (pc' := 164) 0 (dX49_resolve 77 rfl rfl) rfl rfl ?_
        refine x_inv (pc' := 167) (ν := mX9_clause) (av := [_, _]) (st := []) rfl rfl (dX49_resolve 78 rfl rfl) (Nat.le_of_ble_eq_true rfl) wX9_clause q223 (inv_V (k := 7) (dX49_resolve 78 rfl rfl) q2203 q2204 q2205 wX9_clause (by decide) lX9_clause (by decide) s4.1) (exN (by decide)) rfl ?_
        refine C.mono hf (fun _ _ => KV.g (fun h61 hf le62 => ?_))
        have k1 := leK le62 k1 (by decide)
        have k4 := leK le62 k4 (by decide)
        have k11 := leK le62 k11 (by decide)
        have k13 := leK le62 k13 (by decide)
        have k44 := leK le62 k44 (by decide)
        have k49 := leK le62 k49 (by decide)
        have k51 := leK le62 k51 (by decide)
        have k54 := leK le62 k54 (by decide)
        replace s4 := s4.le sc4 (le62)
        replace hf := hf _ rfl
        refine x_iinc (pc' := 170) 5 (dX49_resolve 79 rfl rfl) rfl (by rfl) (by decide) rfl rfl ?_
        refine x_goto (tgt := 77) (dX49_resolve 80 rfl rfl) (by decide) ?_
        exact X.sub [2, 3, 4, 5, 0] rfl (by simp) hf
theorem bX49_infer (G : Gh) (d : Nat) (h : AH) (Q : Outcome → AH → Prop) (a0 : Nat) (s6 : So 6 (gW G) h) (hf : ∀ x1 : Int32, x1 = fI h (gW G 6) 112 → (X G mX49_infer (d + 1) none [] 7 [(0, .ref (a0)), (1, .ref (gW G 6)), (2, .int (x1)), (3, .int (0))] [] h Q)) : C G mX49_infer (d + 1) [.ref (a0), .ref (gW G 6)] h Q := by
  refine C.of_X (by decide +kernel) (Nat.le_of_ble_eq_true rfl) wX49_infer ?_
  show X G mX49_infer (d + 1) none [] 0 [(0, .ref (a0)), (1, .ref (gW G 6))] [] h Q
  refine x_aload_n (pc' := 1) 1 (dX49_infer 0 rfl rfl) rfl rfl rfl ?_
  refine x_getI (pc' := 4) (dX49_infer 1 rfl rfl) g112 q833 (Or.inl rfl) rfl (hf_of 9 s6.1 rfl (by decide) m9_112) ?_
  replace hf := hf _ rfl
  refine x_istore_n (pc' := 5) (dX49_infer 2 rfl rfl) rfl (by decide) rfl rfl ?_
  refine x_iconst (pc' := 6) (v := 0) (dX49_infer 3 rfl rfl) (by decide) rfl ?_
  refine x_istore_n (pc' := 7) (dX49_infer 4 rfl rfl) rfl (by decide) rfl rfl ?_
  exact X.sub [2, 3, 1, 0] rfl (by simp) hf
theorem bX49_infer_7 (G : Gh) (d : Nat) (h : AH) (Q : Outcome → AH → Prop) (l0 : Nat) (l2 : Int32) (l3 : Int32) (s2 : So 2 (gW G) h) (s6 : So 6 (gW G) h) (hf : hK h l0 = 46 ∧ (∃ b2, fR h l0 348 = some b2 ∧ (hK h b2 = 6 ∧ (((fI h b2 78) ≤ l3 → (X G mX49_infer (d + 1) none [] 57 [(0, .ref (l0)), (1, .ref (gW G 6)), (2, .int (l2)), (3, .int (0))] [] h Q)) ∧ (¬ ((fI h b2 78) ≤ l3) → (∃ b6, fR h l0 348 = some b6 ∧ (hK h b6 = 6 ∧ (C G mX7_fun d [.ref (b6), .int (l3)] h (KR Q (fun b11 h8 => hK h8 b11 = 45 ∧ (∃ b13, fR h8 b11 346 = some b13 ∧ (C G mX3_variable d [.ref (gW G 2)] h8 (KI Q (fun x17 h15 => hK h15 b13 = 13 ∧ (∀ h19, h19 = pI h15 b13 127 x17 → (C G mX11_push d [.ref (gW G 6), .ref (b13)] h19 (KV Q (fun h20 => ∀ x22 : Int32, x22 = l3 + 1 → (X G mX49_infer (d + 1) none [] 7 [(0, .ref (l0)), (1, .ref (gW G 6)), (2, .int (l2)), (3, .int (x22))] [] h20 Q))))))))))))))))))) : X G mX49_infer (d + 1) none [] 7 [(0, .ref (l0)), (1, .ref (gW G 6)), (2, .int (l2)), (3, .int (l3))] [] h Q := by
  refine x_iload_n (pc' := 8) 3 (dX49_infer 5 rfl rfl) rfl rfl rfl ?_
  refine x_aload_n (pc' := 9) 0 (dX49_infer 6 rfl rfl) rfl rfl rfl ?_
  obtain ⟨k1, hf⟩ := hf
  obtain ⟨b2, e3, hf⟩ := hf
  refine x_getR (pc' := 12) (dX49_infer 7 rfl rfl) g348 q1875 (Or.inl rfl) rfl (hf_of 45 k1 rfl (by decide) m45_348) e3 ?_
  obtain ⟨k4, hf⟩ := hf
  refine x_getI (pc' := 15) (dX49_infer 8 rfl rfl) g78 q570 (Or.inl rfl) rfl (hf_of 5 k4 rfl (by decide) m5_78) ?_
  refine x_icmp_ge (pc' := 18) (tgt := 55) (dX49_infer 9 rfl rfl) (by decide) rfl (fun c5 => ?_) (fun c5 => ?_)
  · replace hf := hf.1 c5
    refine x_iconst (pc' := 56) (v := 0) (dX49_infer 26 rfl rfl) (by decide) rfl ?_
    refine x_istore_n (pc' := 57) (dX49_infer 27 rfl rfl) rfl (by decide) rfl rfl ?_
    exact X.sub [1, 2, 3, 0] rfl (by simp) hf
  · replace hf := hf.2 c5
    refine x_aload_n (pc' := 19) 0 (dX49_infer 10 rfl rfl) rfl rfl rfl ?_
    obtain ⟨b6, e7, hf⟩ := hf
    refine x_getR (pc' := 22) (dX49_infer 11 rfl rfl) g348 q1875 (Or.inl rfl) rfl (hf_of 45 k1 rfl (by decide) m45_348) e7 ?_
    refine x_iload_n (pc' := 23) 3 (dX49_infer 12 rfl rfl) rfl rfl rfl ?_
    obtain ⟨k10, hf⟩ := hf
    refine x_inv (pc' := 26) (ν := mX7_fun) (av := [_, _]) (st := []) rfl rfl (dX49_infer 13 rfl rfl) (Nat.le_of_ble_eq_true rfl) wX7_fun q221 (inv_V (k := 5) (dX49_infer 13 rfl rfl) q2187 q2188 q2189 wX7_fun (by decide) lX7_fun (by decide) k10) (exN (by decide)) rfl ?_
    refine C.mono hf (fun _ _ => KR.g (fun b11 h8 hf le9 => ?_))
    have k1 := leK le9 k1 (by decide)
    have k4 := leK le9 k4 (by decide)
    have k10 := leK le9 k10 (by decide)
    replace s2 := s2.le sc2 (le9)
    replace s6 := s6.le sc6 (le9)
    obtain ⟨k12, hf⟩ := hf
    obtain ⟨b13, e14, hf⟩ := hf
    refine x_getR (pc' := 29) (dX49_infer 14 rfl rfl) g346 q1858 (Or.inl rfl) rfl (hf_of 44 k12 rfl (by decide) m44_346) e14 ?_
    refine x_astore (pc' := 31) (dX49_infer 15 rfl rfl) (by decide) rfl rfl ?_
    refine x_aload (pc' := 33) 0 (dX49_infer 16 rfl rfl) rfl rfl ?_
    refine x_aload_n (pc' := 34) 2 (dX49_infer 17 rfl rfl) rfl rfl rfl ?_
    refine x_getR (pc' := 37) (dX49_infer 18 rfl rfl) g108 q813 (Or.inl rfl) rfl (hf_of 9 s6.1 rfl (by decide) m9_108) (s6.2 0 _ rfl rfl).1 ?_
    refine x_inv (pc' := 40) (ν := mX3_variable) (av := [_]) (st := [_]) rfl rfl (dX49_infer 19 rfl rfl) (Nat.le_of_ble_eq_true rfl) wX3_variable q213 (inv_V (k := 2) (dX49_infer 19 rfl rfl) q2420 q2341 q2342 wX3_variable (by decide) lX3_variable (by decide) s2.1) (exN (by decide)) rfl ?_
    refine C.mono hf (fun _ _ => KI.g (fun x17 h15 hf le16 => ?_))
    have k1 := leK le16 k1 (by decide)
    have k4 := leK le16 k4 (by decide)
    have k10 := leK le16 k10 (by decide)
    have k12 := leK le16 k12 (by decide)
    replace s2 := s2.le sc2 (le16)
    replace s6 := s6.le sc6 (le16)
    obtain ⟨k18, hf⟩ := hf
    refine x_putI (pc' := 43) (dX49_infer 20 rfl rfl) g127 q924 (Or.inl rfl) (Or.inl rfl) (Or.inl (by decide)) rfl (hf_of 12 k18 rfl (by decide) m12_127) (fun h19 e23 => ?_)
    replace hf := hf h19 e23
    replace k1 : hK h19 l0 = 46 := by rw [e23]; exact k1
    replace k4 : hK h19 b2 = 6 := by rw [e23]; exact k4
    replace k10 : hK h19 b6 = 6 := by rw [e23]; exact k10
    replace k12 : hK h19 b11 = 45 := by rw [e23]; exact k12
    replace k18 : hK h19 b13 = 13 := by rw [e23]; exact k18
    replace s2 : So 2 (gW G) h19 := by rw [e23]; exact s2.le sc2 (pI_le (Or.inl rfl))
    replace s6 : So 6 (gW G) h19 := by rw [e23]; exact s6.le sc6 (pI_le (Or.inl rfl))
    refine x_aload_n (pc' := 44) 2 (dX49_infer 21 rfl rfl) rfl rfl rfl ?_
    refine x_aload (pc' := 46) 0 (dX49_infer 22 rfl rfl) rfl rfl ?_
    refine x_inv (pc' := 49) (ν := mX11_push) (av := [_, _]) (st := []) rfl rfl (dX49_infer 23 rfl rfl) (Nat.le_of_ble_eq_true rfl) wX11_push q225 (inv_V (k := 9) (dX49_infer 23 rfl rfl) q2421 q2422 q2423 wX11_push (by decide) lX11_push (by decide) s6.1) (exN (by decide)) rfl ?_
    refine C.mono hf (fun _ _ => KV.g (fun h20 hf le21 => ?_))
    have k1 := leK le21 k1 (by decide)
    have k4 := leK le21 k4 (by decide)
    have k10 := leK le21 k10 (by decide)
    have k12 := leK le21 k12 (by decide)
    have k18 := leK le21 k18 (by decide)
    replace s2 := s2.le sc2 (le21)
    replace s6 := s6.le sc6 (le21)
    replace hf := hf _ rfl
    refine x_iinc (pc' := 52) 4 (dX49_infer 24 rfl rfl) rfl (by rfl) (by decide) rfl rfl ?_
    refine x_goto (tgt := 7) (dX49_infer 25 rfl rfl) (by decide) ?_
    exact X.sub [2, 3, 4, 0] rfl (by simp) hf
theorem bX49_infer_57 (G : Gh) (d : Nat) (h : AH) (Q : Outcome → AH → Prop) (l0 : Nat) (l2 : Int32) (l3 : Int32) (s6 : So 6 (gW G) h) (hf : hK h l0 = 46 ∧ (∃ b2, fR h l0 348 = some b2 ∧ (hK h b2 = 6 ∧ (((fI h b2 78) ≤ l3 → (C G mX11_declared d [.ref (gW G 6), .int (l2), .int (fI h l0 313), .int (1)] h (KV Q (fun h6 => Q (.returned none) h6)))) ∧ (¬ ((fI h b2 78) ≤ l3) → (∃ b8, fR h l0 348 = some b8 ∧ (hK h b8 = 6 ∧ (C G mX7_fun d [.ref (b8), .int (l3)] h (KR Q (fun b13 h10 => hK h10 b13 = 45 ∧ (∃ b15, fR h10 b13 345 = some b15 ∧ (hK h10 b15 = 6 ∧ (C G mX7_clause d [.ref (b15), .int (0)] h10 (KR Q (fun b20 h17 => hK h17 b20 = 29 ∧ (∃ b22, fR h17 b20 317 = some b22 ∧ (hK h17 b22 = 1008 ∧ (∀ x25 : Int32, x25 = Int32.ofNat (hL h17 b22) → ((¬ (x25 : Int32) < 0) ∧ (hc h17 + 1 ≤ MC) ∧ (hs h17 + (x25 : Int32).toNatClampNeg ≤ MS) ∧ ∀ q26, hK h17 q26 = 0 → ∀ h28, h28 = nA h17 q26 0 (x25 : Int32).toNatClampNeg → (X G mX49_infer (d + 1) none [] 102 [(0, .ref (l0)), (1, .ref (gW G 6)), (2, .int (l2)), (3, .int (l3)), (4, .ref (b13)), (5, .int (x25)), (6, .ref (q26)), (7, .int (0))] [] h28 Q)))))))))))))))))))) : X G mX49_infer (d + 1) none [] 57 [(0, .ref (l0)), (1, .ref (gW G 6)), (2, .int (l2)), (3, .int (l3))] [] h Q := by
  refine x_iload_n (pc' := 58) 3 (dX49_infer 28 rfl rfl) rfl rfl rfl ?_
  refine x_aload_n (pc' := 59) 0 (dX49_infer 29 rfl rfl) rfl rfl rfl ?_
  obtain ⟨k1, hf⟩ := hf
  obtain ⟨b2, e3, hf⟩ := hf
  refine x_getR (pc' := 62) (dX49_infer 30 rfl rfl) g348 q1875 (Or.inl rfl) rfl (hf_of 45 k1 rfl (by decide) m45_348) e3 ?_
  obtain ⟨k4, hf⟩ := hf
  refine x_getI (pc' := 65) (dX49_infer 31 rfl rfl) g78 q570 (Or.inl rfl) rfl (hf_of 5 k4 rfl (by decide) m5_78) ?_
  refine x_icmp_ge (pc' := 68) (tgt := 213) (dX49_infer 32 rfl rfl) (by decide) rfl (fun c5 => ?_) (fun c5 => ?_)
  · replace hf := hf.1 c5
    refine x_aload_n (pc' := 214) 1 (dX49_infer 100 rfl rfl) rfl rfl rfl ?_
    refine x_iload_n (pc' := 215) 2 (dX49_infer 101 rfl rfl) rfl rfl rfl ?_
    refine x_aload_n (pc' := 216) 0 (dX49_infer 102 rfl rfl) rfl rfl rfl ?_
    refine x_getI (pc' := 219) (dX49_infer 103 rfl rfl) g313 q1827 (Or.inr q1828) rfl (hf_of 45 k1 rfl (by decide) m45_313) ?_
    refine x_iconst (pc' := 220) (v := 1) (dX49_infer 104 rfl rfl) (by decide) rfl ?_
    refine x_inv (pc' := 223) (ν := mX11_declared) (av := [_, _, _, _]) (st := []) rfl rfl (dX49_infer 105 rfl rfl) (Nat.le_of_ble_eq_true rfl) wX11_declared q225 (inv_V (k := 9) (dX49_infer 105 rfl rfl) q2798 q2742 q2743 wX11_declared (by decide) lX11_declared (by decide) s6.1) (exN (by decide)) rfl ?_
    refine C.mono hf (fun _ _ => KV.g (fun h6 hf le7 => ?_))
    have k1 := leK le7 k1 (by decide)
    have k4 := leK le7 k4 (by decide)
    replace s6 := s6.le sc6 (le7)
    exact x_vret (dX49_infer 106 rfl rfl) rfl hf
  · replace hf := hf.2 c5
    refine x_aload_n (pc' := 69) 0 (dX49_infer 33 rfl rfl) rfl rfl rfl ?_
    obtain ⟨b8, e9, hf⟩ := hf
    refine x_getR (pc' := 72) (dX49_infer 34 rfl rfl) g348 q1875 (Or.inl rfl) rfl (hf_of 45 k1 rfl (by decide) m45_348) e9 ?_
    refine x_iload_n (pc' := 73) 3 (dX49_infer 35 rfl rfl) rfl rfl rfl ?_
    obtain ⟨k12, hf⟩ := hf
    refine x_inv (pc' := 76) (ν := mX7_fun) (av := [_, _]) (st := []) rfl rfl (dX49_infer 36 rfl rfl) (Nat.le_of_ble_eq_true rfl) wX7_fun q221 (inv_V (k := 5) (dX49_infer 36 rfl rfl) q2187 q2188 q2189 wX7_fun (by decide) lX7_fun (by decide) k12) (exN (by decide)) rfl ?_
    refine C.mono hf (fun _ _ => KR.g (fun b13 h10 hf le11 => ?_))
    have k1 := leK le11 k1 (by decide)
    have k4 := leK le11 k4 (by decide)
    have k12 := leK le11 k12 (by decide)
    replace s6 := s6.le sc6 (le11)
    refine x_astore (pc' := 78) (dX49_infer 37 rfl rfl) (by decide) rfl rfl ?_
    refine x_aload (pc' := 80) 0 (dX49_infer 38 rfl rfl) rfl rfl ?_
    obtain ⟨k14, hf⟩ := hf
    obtain ⟨b15, e16, hf⟩ := hf
    refine x_getR (pc' := 83) (dX49_infer 39 rfl rfl) g345 q1856 (Or.inl rfl) rfl (hf_of 44 k14 rfl (by decide) m44_345) e16 ?_
    refine x_iconst (pc' := 84) (v := 0) (dX49_infer 40 rfl rfl) (by decide) rfl ?_
    obtain ⟨k19, hf⟩ := hf
    refine x_inv (pc' := 87) (ν := mX7_clause) (av := [_, _]) (st := []) rfl rfl (dX49_infer 41 rfl rfl) (Nat.le_of_ble_eq_true rfl) wX7_clause q221 (inv_V (k := 5) (dX49_infer 41 rfl rfl) q2196 q2197 q2198 wX7_clause (by decide) lX7_clause (by decide) k19) (exN (by decide)) rfl ?_
    refine C.mono hf (fun _ _ => KR.g (fun b20 h17 hf le18 => ?_))
    have k1 := leK le18 k1 (by decide)
    have k4 := leK le18 k4 (by decide)
    have k12 := leK le18 k12 (by decide)
    have k14 := leK le18 k14 (by decide)
    have k19 := leK le18 k19 (by decide)
    replace s6 := s6.le sc6 (le18)
    obtain ⟨k21, hf⟩ := hf
    obtain ⟨b22, e23, hf⟩ := hf
    refine x_getR (pc' := 90) (dX49_infer 42 rfl rfl) g317 q1495 (Or.inl rfl) rfl (hf_of 28 k21 rfl (by decide) m28_317) e23 ?_
    obtain ⟨k24, hf⟩ := hf
    refine x_alen (pc' := 91) (t := 8) (ty := .object "LetMill$Pat") (dX49_infer 43 rfl rfl) rfl rfl k24 ?_
    replace hf := hf _ rfl
    refine x_istore (pc' := 93) (dX49_infer 44 rfl rfl) (by decide) rfl rfl ?_
    refine x_iload (pc' := 95) 0 (dX49_infer 45 rfl rfl) rfl rfl ?_
    obtain ⟨z30, n1, n2, hf⟩ := hf
    refine x_newa0 (pc' := 97) (dX49_infer 46 rfl rfl) rfl z30 (by decide) n1 n2 (fun q26 h28 k27 e29 => ?_)
    replace hf := hf q26 k27 h28 e29
    replace k1 : hK h28 l0 = 46 := by rw [e29]; exact kNA k1 (by decide) k27
    replace k4 : hK h28 b2 = 6 := by rw [e29]; exact kNA k4 (by decide) k27
    replace k12 : hK h28 b8 = 6 := by rw [e29]; exact kNA k12 (by decide) k27
    replace k14 : hK h28 b13 = 45 := by rw [e29]; exact kNA k14 (by decide) k27
    replace k19 : hK h28 b15 = 6 := by rw [e29]; exact kNA k19 (by decide) k27
    replace k21 : hK h28 b20 = 29 := by rw [e29]; exact kNA k21 (by decide) k27
    replace k24 : hK h28 b22 = 1008 := by rw [e29]; exact kNA k24 (by decide) k27
    replace s6 : So 6 (gW G) h28 := by rw [e29]; exact s6.le sc6 (nA_le k27)
    have k31 : hK h28 q26 = 1000 := by rw [e29]; exact kNAs
    refine x_astore (pc' := 99) (dX49_infer 47 rfl rfl) (by decide) rfl rfl ?_
    refine x_iconst (pc' := 100) (v := 0) (dX49_infer 48 rfl rfl) (by decide) rfl ?_
    refine x_istore (pc' := 102) (dX49_infer 49 rfl rfl) (by decide) rfl rfl ?_
    exact X.sub [4, 5, 6, 7, 3, 2, 1, 0] rfl (by simp) hf
theorem bX49_infer_102 (G : Gh) (d : Nat) (h : AH) (Q : Outcome → AH → Prop) (l0 : Nat) (l2 : Int32) (l3 : Int32) (l4 : Nat) (l5 : Int32) (l6 : Nat) (l7 : Int32) (s6 : So 6 (gW G) h) (hf : (l5 ≤ l7 → (hK h l4 = 45 ∧ (∃ b3, fR h l4 345 = some b3 ∧ (C G mX11_match d [.ref (gW G 6), .ref (b3), .ref (l6)] h (KI Q (fun x7 h5 => ∀ x8 : Int32, x8 = l5 - 1 → (X G mX49_infer (d + 1) none [] 140 [(0, .ref (l0)), (1, .ref (gW G 6)), (2, .int (l2)), (3, .int (l3)), (4, .ref (l4)), (6, .ref (l6)), (7, .int (x7)), (8, .int (x8))] [] h5 Q))))))) ∧ (¬ (l5 ≤ l7) → (hK h l6 = 1000 ∧ Ns (gW G) l6 ∧ vp_in l7 (hL h l6) ∧ ∀ h11, h11 = sI h l6 l7.toNatClampNeg ((-1)) → (∀ x14 : Int32, x14 = l7 + 1 → (X G mX49_infer (d + 1) none [] 102 [(0, .ref (l0)), (1, .ref (gW G 6)), (2, .int (l2)), (3, .int (l3)), (4, .ref (l4)), (5, .int (l5)), (6, .ref (l6)), (7, .int (x14))] [] h11 Q))))) : X G mX49_infer (d + 1) none [] 102 [(0, .ref (l0)), (1, .ref (gW G 6)), (2, .int (l2)), (3, .int (l3)), (4, .ref (l4)), (5, .int (l5)), (6, .ref (l6)), (7, .int (l7))] [] h Q := by
  refine x_iload (pc' := 104) 7 (dX49_infer 50 rfl rfl) rfl rfl ?_
  refine x_iload (pc' := 106) 5 (dX49_infer 51 rfl rfl) rfl rfl ?_
  refine x_icmp_ge (pc' := 109) (tgt := 121) (dX49_infer 52 rfl rfl) (by decide) rfl (fun c1 => ?_) (fun c1 => ?_)
  · replace hf := hf.1 c1
    refine x_aload_n (pc' := 122) 1 (dX49_infer 59 rfl rfl) rfl rfl rfl ?_
    refine x_aload (pc' := 124) 4 (dX49_infer 60 rfl rfl) rfl rfl ?_
    obtain ⟨k2, hf⟩ := hf
    obtain ⟨b3, e4, hf⟩ := hf
    refine x_getR (pc' := 127) (dX49_infer 61 rfl rfl) g345 q1856 (Or.inl rfl) rfl (hf_of 44 k2 rfl (by decide) m44_345) e4 ?_
    refine x_aload (pc' := 129) 6 (dX49_infer 62 rfl rfl) rfl rfl ?_
    refine x_inv (pc' := 132) (ν := mX11_match) (av := [_, _, _]) (st := []) rfl rfl (dX49_infer 63 rfl rfl) (Nat.le_of_ble_eq_true rfl) wX11_match q225 (inv_V (k := 9) (dX49_infer 63 rfl rfl) q2425 q2426 q2427 wX11_match (by decide) lX11_match (by decide) s6.1) (exN (by decide)) rfl ?_
    refine C.mono hf (fun _ _ => KI.g (fun x7 h5 hf le6 => ?_))
    have k2 := leK le6 k2 (by decide)
    replace s6 := s6.le sc6 (le6)
    refine x_istore (pc' := 134) (dX49_infer 64 rfl rfl) (by decide) rfl rfl ?_
    refine x_iload (pc' := 136) 6 (dX49_infer 65 rfl rfl) rfl rfl ?_
    refine x_iconst (pc' := 137) (v := 1) (dX49_infer 66 rfl rfl) (by decide) rfl ?_
    refine x_isub (pc' := 138) (dX49_infer 67 rfl rfl) rfl ?_
    replace hf := hf _ rfl
    refine x_istore (pc' := 140) (dX49_infer 68 rfl rfl) (by decide) rfl rfl ?_
    exact X.sub [2, 3, 4, 5, 6, 8, 1, 0] rfl (by simp) hf
  · replace hf := hf.2 c1
    refine x_aload (pc' := 111) 6 (dX49_infer 53 rfl rfl) rfl rfl ?_
    refine x_iload (pc' := 113) 7 (dX49_infer 54 rfl rfl) rfl rfl ?_
    refine x_iconst (pc' := 114) (v := -1) (dX49_infer 55 rfl rfl) (by decide) rfl ?_
    obtain ⟨k9, hf⟩ := hf
    obtain ⟨n13, hf⟩ := hf
    obtain ⟨i10, hf⟩ := hf
    refine x_iast (pc' := 115) (dX49_infer 56 rfl rfl) rfl k9 (Or.inr ⟨n13, by decide⟩) i10 (fun h11 e12 => ?_)
    replace hf := hf h11 e12
    replace k9 : hK h11 l6 = 1000 := by rw [e12]; exact k9
    replace s6 : So 6 (gW G) h11 := by rw [e12]; exact s6.le sc6 (sI_le )
    replace hf := hf _ rfl
    refine x_iinc (pc' := 118) 7 (dX49_infer 57 rfl rfl) rfl (by rfl) (by decide) rfl rfl ?_
    refine x_goto (tgt := 102) (dX49_infer 58 rfl rfl) (by decide) ?_
    exact X.sub [1, 2, 3, 4, 5, 6, 7, 0] rfl (by simp) hf
theorem bX49_infer_140 (G : Gh) (d : Nat) (h : AH) (Q : Outcome → AH → Prop) (l0 : Nat) (l2 : Int32) (l3 : Int32) (l4 : Nat) (l6 : Nat) (l7 : Int32) (l8 : Int32) (s2 : So 2 (gW G) h) (s5 : So 5 (gW G) h) (s6 : So 6 (gW G) h) (hf : (l8 < 0 → (hK h l4 = 45 ∧ (∃ b3, fR h l4 346 = some b3 ∧ (hK h b3 = 13 ∧ (C G mX11_same d [.ref (gW G 6), .int (fI h b3 127), .int (l7), .int (fI h l4 344)] h (KV Q (fun h6 => ∃ b8, fR h6 l4 345 = some b8 ∧ (C G mX10_check d [.ref (gW G 5), .ref (b8), .ref (gW G 1), .int (fI h6 l4 344)] h6 (KV Q (fun h10 => ∀ x12 : Int32, x12 = l3 + 1 → (X G mX49_infer (d + 1) none [] 57 [(0, .ref (l0)), (1, .ref (gW G 6)), (2, .int (l2)), (3, .int (x12))] [] h10 Q))))))))))) ∧ (¬ (l8 < 0) → (hK h l6 = 1000 ∧ vp_in l8 (hL h l6) ∧ (C G mX3_fun d [.ref (gW G 2), .int (aI h l6 l8.toNatClampNeg), .int (l7)] h (KI Q (fun x17 h15 => ∀ x18 : Int32, x18 = l8 + (-1) → (X G mX49_infer (d + 1) none [] 140 [(0, .ref (l0)), (1, .ref (gW G 6)), (2, .int (l2)), (3, .int (l3)), (4, .ref (l4)), (6, .ref (l6)), (7, .int (x17)), (8, .int (x18))] [] h15 Q))))))) : X G mX49_infer (d + 1) none [] 140 [(0, .ref (l0)), (1, .ref (gW G 6)), (2, .int (l2)), (3, .int (l3)), (4, .ref (l4)), (6, .ref (l6)), (7, .int (l7)), (8, .int (l8))] [] h Q := by
  refine x_iload (pc' := 142) 7 (dX49_infer 69 rfl rfl) rfl rfl ?_
  refine x_if_lt (pc' := 145) (tgt := 167) (dX49_infer 70 rfl rfl) (by decide) rfl (fun c1 => ?_) (fun c1 => ?_)
  · replace hf := hf.1 c1
    refine x_aload_n (pc' := 168) 1 (dX49_infer 81 rfl rfl) rfl rfl rfl ?_
    refine x_aload (pc' := 170) 4 (dX49_infer 82 rfl rfl) rfl rfl ?_
    obtain ⟨k2, hf⟩ := hf
    obtain ⟨b3, e4, hf⟩ := hf
    refine x_getR (pc' := 173) (dX49_infer 83 rfl rfl) g346 q1858 (Or.inl rfl) rfl (hf_of 44 k2 rfl (by decide) m44_346) e4 ?_
    obtain ⟨k5, hf⟩ := hf
    refine x_getI (pc' := 176) (dX49_infer 84 rfl rfl) g127 q924 (Or.inl rfl) rfl (hf_of 12 k5 rfl (by decide) m12_127) ?_
    refine x_iload (pc' := 178) 6 (dX49_infer 85 rfl rfl) rfl rfl ?_
    refine x_aload (pc' := 180) 4 (dX49_infer 86 rfl rfl) rfl rfl ?_
    refine x_getI (pc' := 183) (dX49_infer 87 rfl rfl) g344 q1854 (Or.inl rfl) rfl (hf_of 44 k2 rfl (by decide) m44_344) ?_
    refine x_inv (pc' := 186) (ν := mX11_same) (av := [_, _, _, _]) (st := []) rfl rfl (dX49_infer 88 rfl rfl) (Nat.le_of_ble_eq_true rfl) wX11_same q225 (inv_V (k := 9) (dX49_infer 88 rfl rfl) q2796 q2483 q2484 wX11_same (by decide) lX11_same (by decide) s6.1) (exN (by decide)) rfl ?_
    refine C.mono hf (fun _ _ => KV.g (fun h6 hf le7 => ?_))
    have k2 := leK le7 k2 (by decide)
    have k5 := leK le7 k5 (by decide)
    replace s2 := s2.le sc2 (le7)
    replace s5 := s5.le sc5 (le7)
    replace s6 := s6.le sc6 (le7)
    refine x_aload_n (pc' := 187) 1 (dX49_infer 89 rfl rfl) rfl rfl rfl ?_
    refine x_getR (pc' := 190) (dX49_infer 90 rfl rfl) g110 q830 (Or.inl rfl) rfl (hf_of 9 s6.1 rfl (by decide) m9_110) (s6.2 2 _ rfl rfl).1 ?_
    refine x_aload (pc' := 192) 4 (dX49_infer 91 rfl rfl) rfl rfl ?_
    obtain ⟨b8, e9, hf⟩ := hf
    refine x_getR (pc' := 195) (dX49_infer 92 rfl rfl) g345 q1856 (Or.inl rfl) rfl (hf_of 44 k2 rfl (by decide) m44_345) e9 ?_
    refine x_aload_n (pc' := 196) 1 (dX49_infer 93 rfl rfl) rfl rfl rfl ?_
    refine x_getR (pc' := 199) (dX49_infer 94 rfl rfl) g109 q824 (Or.inl rfl) rfl (hf_of 9 s6.1 rfl (by decide) m9_109) (s6.2 1 _ rfl rfl).1 ?_
    refine x_aload (pc' := 201) 4 (dX49_infer 95 rfl rfl) rfl rfl ?_
    refine x_getI (pc' := 204) (dX49_infer 96 rfl rfl) g344 q1854 (Or.inl rfl) rfl (hf_of 44 k2 rfl (by decide) m44_344) ?_
    refine x_inv (pc' := 207) (ν := mX10_check) (av := [_, _, _, _]) (st := []) rfl rfl (dX49_infer 97 rfl rfl) (Nat.le_of_ble_eq_true rfl) wX10_check q224 (inv_V (k := 8) (dX49_infer 97 rfl rfl) q2797 q2534 q2535 wX10_check (by decide) lX10_check (by decide) s5.1) (exN (by decide)) rfl ?_
    refine C.mono hf (fun _ _ => KV.g (fun h10 hf le11 => ?_))
    have k2 := leK le11 k2 (by decide)
    have k5 := leK le11 k5 (by decide)
    replace s2 := s2.le sc2 (le11)
    replace s5 := s5.le sc5 (le11)
    replace s6 := s6.le sc6 (le11)
    replace hf := hf _ rfl
    refine x_iinc (pc' := 210) 3 (dX49_infer 98 rfl rfl) rfl (by rfl) (by decide) rfl rfl ?_
    refine x_goto (tgt := 57) (dX49_infer 99 rfl rfl) (by decide) ?_
    exact X.sub [1, 2, 3, 0] rfl (by simp) hf
  · replace hf := hf.2 c1
    refine x_aload_n (pc' := 146) 1 (dX49_infer 71 rfl rfl) rfl rfl rfl ?_
    refine x_getR (pc' := 149) (dX49_infer 72 rfl rfl) g108 q813 (Or.inl rfl) rfl (hf_of 9 s6.1 rfl (by decide) m9_108) (s6.2 0 _ rfl rfl).1 ?_
    refine x_aload (pc' := 151) 5 (dX49_infer 73 rfl rfl) rfl rfl ?_
    refine x_iload (pc' := 153) 7 (dX49_infer 74 rfl rfl) rfl rfl ?_
    obtain ⟨k13, hf⟩ := hf
    obtain ⟨i14, hf⟩ := hf
    refine x_iald (pc' := 154) (dX49_infer 75 rfl rfl) rfl k13 i14 ?_
    refine x_iload (pc' := 156) 6 (dX49_infer 76 rfl rfl) rfl rfl ?_
    refine x_inv (pc' := 159) (ν := mX3_fun) (av := [_, _, _]) (st := []) rfl rfl (dX49_infer 77 rfl rfl) (Nat.le_of_ble_eq_true rfl) wX3_fun q213 (inv_V (k := 2) (dX49_infer 77 rfl rfl) q2795 q2374 q2375 wX3_fun (by decide) lX3_fun (by decide) s2.1) (exN (by decide)) rfl ?_
    refine C.mono hf (fun _ _ => KI.g (fun x17 h15 hf le16 => ?_))
    have k13 := leK le16 k13 (by decide)
    replace s2 := s2.le sc2 (le16)
    replace s5 := s5.le sc5 (le16)
    replace s6 := s6.le sc6 (le16)
    refine x_istore (pc' := 161) (dX49_infer 78 rfl rfl) (by decide) rfl rfl ?_
    replace hf := hf _ rfl
    refine x_iinc (pc' := 164) 7 (dX49_infer 79 rfl rfl) rfl (by rfl) (by decide) rfl rfl ?_
    refine x_goto (tgt := 140) (dX49_infer 80 rfl rfl) (by decide) ?_
    exact X.sub [2, 3, 4, 5, 6, 7, 1, 0] rfl (by simp) hf
theorem bX49_begin (G : Gh) (d : Nat) (h : AH) (Q : Outcome → AH → Prop) (a0 : Nat) (p2 : Int32) (hf : X G mX49_begin (d + 1) none [] 5 [(0, .ref (a0)), (1, .ref (gW G 3)), (3, .int (p2)), (4, .int (0))] [] h Q) : C G mX49_begin (d + 1) [.ref (a0), .ref (gW G 3), .int (p2)] h Q := by
  refine C.of_X (by decide +kernel) (Nat.le_of_ble_eq_true rfl) wX49_begin ?_
  show X G mX49_begin (d + 1) none [] 0 [(0, .ref (a0)), (1, .ref (gW G 3)), (2, .int (p2))] [] h Q
  refine x_iload_n (pc' := 1) 2 (dX49_begin 0 rfl rfl) rfl rfl rfl ?_
  refine x_istore_n (pc' := 2) (dX49_begin 1 rfl rfl) rfl (by decide) rfl rfl ?_
  refine x_iconst (pc' := 3) (v := 0) (dX49_begin 2 rfl rfl) (by decide) rfl ?_
  refine x_istore (pc' := 5) (dX49_begin 3 rfl rfl) (by decide) rfl rfl ?_
  exact X.sub [2, 3, 1, 0] rfl (by simp) hf
theorem bX49_begin_5 (G : Gh) (d : Nat) (h : AH) (Q : Outcome → AH → Prop) (l0 : Nat) (l3 : Int32) (l4 : Int32) (s3 : So 3 (gW G) h) (hf : hK h l0 = 46 ∧ (∃ b2, fR h l0 348 = some b2 ∧ (hK h b2 = 6 ∧ (((fI h b2 78) ≤ l4 → (C G mX6_isOver d [.ref (gW G 3)] h (KI Q (fun x8 h6 => (x8 = 0 → (∃ b10, fR h6 l0 348 = some b10 ∧ (hK h6 b10 = 6 ∧ (∀ x13 : Int32, x13 = (fI h6 b10 78) - 1 → (X G mX49_begin (d + 1) none [] 53 [(0, .ref (l0)), (1, .ref (gW G 3)), (3, .int (l3)), (4, .int (l3)), (5, .int (x13))] [] h6 Q))))) ∧ (¬ x8 = 0 → (Q (.returned (some (.int l3))) h6)))))) ∧ (¬ ((fI h b2 78) ≤ l4) → (C G mX6_bound d [.ref (gW G 3), .int (0), .int (l3)] h (KI Q (fun x16 h14 => ∀ x17 : Int32, x17 = l4 + 1 → (X G mX49_begin (d + 1) none [] 5 [(0, .ref (l0)), (1, .ref (gW G 3)), (3, .int (x16)), (4, .int (x17))] [] h14 Q))))))))) : X G mX49_begin (d + 1) none [] 5 [(0, .ref (l0)), (1, .ref (gW G 3)), (3, .int (l3)), (4, .int (l4))] [] h Q := by
  refine x_iload (pc' := 7) 3 (dX49_begin 4 rfl rfl) rfl rfl ?_
  refine x_aload_n (pc' := 8) 0 (dX49_begin 5 rfl rfl) rfl rfl rfl ?_
  obtain ⟨k1, hf⟩ := hf
  obtain ⟨b2, e3, hf⟩ := hf
  refine x_getR (pc' := 11) (dX49_begin 6 rfl rfl) g348 q1875 (Or.inl rfl) rfl (hf_of 45 k1 rfl (by decide) m45_348) e3 ?_
  obtain ⟨k4, hf⟩ := hf
  refine x_getI (pc' := 14) (dX49_begin 7 rfl rfl) g78 q570 (Or.inl rfl) rfl (hf_of 5 k4 rfl (by decide) m5_78) ?_
  refine x_icmp_ge (pc' := 17) (tgt := 30) (dX49_begin 8 rfl rfl) (by decide) rfl (fun c5 => ?_) (fun c5 => ?_)
  · replace hf := hf.1 c5
    refine x_aload_n (pc' := 31) 1 (dX49_begin 16 rfl rfl) rfl rfl rfl ?_
    refine x_inv (pc' := 34) (ν := mX6_isOver) (av := [_]) (st := []) rfl rfl (dX49_begin 17 rfl rfl) (Nat.le_of_ble_eq_true rfl) wX6_isOver q220 (inv_V (k := 4) (dX49_begin 17 rfl rfl) q3005 q2973 q2974 wX6_isOver (by decide) lX6_isOver (by decide) s3.1) (exN (by decide)) rfl ?_
    refine C.mono hf (fun _ _ => KI.g (fun x8 h6 hf le7 => ?_))
    have k1 := leK le7 k1 (by decide)
    have k4 := leK le7 k4 (by decide)
    replace s3 := s3.le sc3 (le7)
    refine x_if_eq (pc' := 37) (tgt := 39) (dX49_begin 18 rfl rfl) (by decide) rfl (fun c9 => ?_) (fun c9 => ?_)
    · replace hf := hf.1 c9
      refine x_iload_n (pc' := 40) 2 (dX49_begin 21 rfl rfl) rfl rfl rfl ?_
      refine x_istore (pc' := 42) (dX49_begin 22 rfl rfl) (by decide) rfl rfl ?_
      refine x_aload_n (pc' := 43) 1 (dX49_begin 23 rfl rfl) rfl rfl rfl ?_
      obtain ⟨b10, e11, hf⟩ := hf
      refine x_getR (pc' := 46) (dX49_begin 24 rfl rfl) g348 q1875 (Or.inl rfl) rfl (hf_of 45 k1 rfl (by decide) m45_348) e11 ?_
      obtain ⟨k12, hf⟩ := hf
      refine x_getI (pc' := 49) (dX49_begin 25 rfl rfl) g78 q570 (Or.inl rfl) rfl (hf_of 5 k12 rfl (by decide) m5_78) ?_
      refine x_iconst (pc' := 50) (v := 1) (dX49_begin 26 rfl rfl) (by decide) rfl ?_
      refine x_isub (pc' := 51) (dX49_begin 27 rfl rfl) rfl ?_
      replace hf := hf _ rfl
      refine x_istore (pc' := 53) (dX49_begin 28 rfl rfl) (by decide) rfl rfl ?_
      exact X.sub [2, 3, 4, 1, 0] rfl (by simp) hf
    · replace hf := hf.2 c9
      refine x_iload_n (pc' := 38) 2 (dX49_begin 19 rfl rfl) rfl rfl rfl ?_
      exact x_iret (dX49_begin 20 rfl rfl) rfl hf
  · replace hf := hf.2 c5
    refine x_aload_n (pc' := 18) 1 (dX49_begin 9 rfl rfl) rfl rfl rfl ?_
    refine x_iconst (pc' := 19) (v := 0) (dX49_begin 10 rfl rfl) (by decide) rfl ?_
    refine x_iload_n (pc' := 20) 2 (dX49_begin 11 rfl rfl) rfl rfl rfl ?_
    refine x_inv (pc' := 23) (ν := mX6_bound) (av := [_, _, _]) (st := []) rfl rfl (dX49_begin 12 rfl rfl) (Nat.le_of_ble_eq_true rfl) wX6_bound q220 (inv_V (k := 4) (dX49_begin 12 rfl rfl) q2996 q2997 q2998 wX6_bound (by decide) lX6_bound (by decide) s3.1) (exN (by decide)) rfl ?_
    refine C.mono hf (fun _ _ => KI.g (fun x16 h14 hf le15 => ?_))
    have k1 := leK le15 k1 (by decide)
    have k4 := leK le15 k4 (by decide)
    replace s3 := s3.le sc3 (le15)
    refine x_istore_n (pc' := 24) (dX49_begin 13 rfl rfl) rfl (by decide) rfl rfl ?_
    replace hf := hf _ rfl
    refine x_iinc (pc' := 27) 3 (dX49_begin 14 rfl rfl) rfl (by rfl) (by decide) rfl rfl ?_
    refine x_goto (tgt := 5) (dX49_begin 15 rfl rfl) (by decide) ?_
    exact X.sub [2, 3, 1, 0] rfl (by simp) hf
theorem bX49_begin_53 (G : Gh) (d : Nat) (h : AH) (Q : Outcome → AH → Prop) (l0 : Nat) (l3 : Int32) (l4 : Int32) (l5 : Int32) (s3 : So 3 (gW G) h) (hf : (l5 < 0 → (Q (.returned (some (.int l3))) h)) ∧ (¬ (l5 < 0) → (hK h l0 = 46 ∧ (∃ b3, fR h l0 348 = some b3 ∧ (hK h b3 = 6 ∧ (C G mX7_fun d [.ref (b3), .int (l5)] h (KR Q (fun b8 h5 => hK h5 b8 = 45 ∧ (((fI h5 b8 347) = 0 → (∃ b18, fR h5 b8 345 = some b18 ∧ (C G mX6_code d [.ref (gW G 3), .ref (b18)] h5 (KI Q (fun x22 h20 => ∀ h23, h23 = pI h20 b8 347 x22 → (C G mX6_closure d [.ref (gW G 3), .int (fI h23 b8 347), .int (l3), .int (0), .int (0)] h23 (KI Q (fun x26 h24 => C G mX6_rebound d [.ref (gW G 3), .int (l4), .int (x26)] h24 (KI Q (fun x29 h27 => ∀ x30 : Int32, x30 = l5 + (-1) → (X G mX49_begin (d + 1) none [] 53 [(0, .ref (l0)), (1, .ref (gW G 3)), (3, .int (l3)), (4, .int (x29)), (5, .int (x30))] [] h27 Q))))))))))) ∧ (¬ ((fI h5 b8 347) = 0) → (C G mX6_closure d [.ref (gW G 3), .int (fI h5 b8 347), .int (l3), .int (0), .int (0)] h5 (KI Q (fun x13 h11 => C G mX6_rebound d [.ref (gW G 3), .int (l4), .int (x13)] h11 (KI Q (fun x16 h14 => ∀ x17 : Int32, x17 = l5 + (-1) → (X G mX49_begin (d + 1) none [] 53 [(0, .ref (l0)), (1, .ref (gW G 3)), (3, .int (l3)), (4, .int (x16)), (5, .int (x17))] [] h14 Q)))))))))))))))) : X G mX49_begin (d + 1) none [] 53 [(0, .ref (l0)), (1, .ref (gW G 3)), (3, .int (l3)), (4, .int (l4)), (5, .int (l5))] [] h Q := by
  refine x_iload (pc' := 55) 4 (dX49_begin 29 rfl rfl) rfl rfl ?_
  refine x_if_lt (pc' := 58) (tgt := 117) (dX49_begin 30 rfl rfl) (by decide) rfl (fun c1 => ?_) (fun c1 => ?_)
  · replace hf := hf.1 c1
    refine x_iload_n (pc' := 118) 2 (dX49_begin 58 rfl rfl) rfl rfl rfl ?_
    exact x_iret (dX49_begin 59 rfl rfl) rfl hf
  · replace hf := hf.2 c1
    refine x_aload_n (pc' := 59) 0 (dX49_begin 31 rfl rfl) rfl rfl rfl ?_
    obtain ⟨k2, hf⟩ := hf
    obtain ⟨b3, e4, hf⟩ := hf
    refine x_getR (pc' := 62) (dX49_begin 32 rfl rfl) g348 q1875 (Or.inl rfl) rfl (hf_of 45 k2 rfl (by decide) m45_348) e4 ?_
    refine x_iload (pc' := 64) 4 (dX49_begin 33 rfl rfl) rfl rfl ?_
    obtain ⟨k7, hf⟩ := hf
    refine x_inv (pc' := 67) (ν := mX7_fun) (av := [_, _]) (st := []) rfl rfl (dX49_begin 34 rfl rfl) (Nat.le_of_ble_eq_true rfl) wX7_fun q221 (inv_V (k := 5) (dX49_begin 34 rfl rfl) q2187 q2188 q2189 wX7_fun (by decide) lX7_fun (by decide) k7) (exN (by decide)) rfl ?_
    refine C.mono hf (fun _ _ => KR.g (fun b8 h5 hf le6 => ?_))
    have k2 := leK le6 k2 (by decide)
    have k7 := leK le6 k7 (by decide)
    replace s3 := s3.le sc3 (le6)
    refine x_astore (pc' := 69) (dX49_begin 35 rfl rfl) (by decide) rfl rfl ?_
    refine x_aload (pc' := 71) 0 (dX49_begin 36 rfl rfl) rfl rfl ?_
    obtain ⟨k9, hf⟩ := hf
    refine x_getI (pc' := 74) (dX49_begin 37 rfl rfl) g347 q1859 (Or.inl rfl) rfl (hf_of 44 k9 rfl (by decide) m44_347) ?_
    refine x_if_ne (pc' := 77) (tgt := 91) (dX49_begin 38 rfl rfl) (by decide) rfl (fun c10 => ?_) (fun c10 => ?_)
    · replace hf := hf.2 c10
      refine x_aload_n (pc' := 92) 2 (dX49_begin 45 rfl rfl) rfl rfl rfl ?_
      refine x_iload (pc' := 94) 4 (dX49_begin 46 rfl rfl) rfl rfl ?_
      refine x_aload_n (pc' := 95) 2 (dX49_begin 47 rfl rfl) rfl rfl rfl ?_
      refine x_aload (pc' := 97) 0 (dX49_begin 48 rfl rfl) rfl rfl ?_
      refine x_getI (pc' := 100) (dX49_begin 49 rfl rfl) g347 q1859 (Or.inl rfl) rfl (hf_of 44 k9 rfl (by decide) m44_347) ?_
      refine x_iload_n (pc' := 101) 3 (dX49_begin 50 rfl rfl) rfl rfl rfl ?_
      refine x_iconst (pc' := 102) (v := 0) (dX49_begin 51 rfl rfl) (by decide) rfl ?_
      refine x_iconst (pc' := 103) (v := 0) (dX49_begin 52 rfl rfl) (by decide) rfl ?_
      refine x_inv (pc' := 106) (ν := mX6_closure) (av := [_, _, _, _, _]) (st := [_, _]) rfl rfl (dX49_begin 53 rfl rfl) (Nat.le_of_ble_eq_true rfl) wX6_closure q220 (inv_V (k := 4) (dX49_begin 53 rfl rfl) q3007 q2950 q2951 wX6_closure (by decide) lX6_closure (by decide) s3.1) (exN (by decide)) rfl ?_
      refine C.mono hf (fun _ _ => KI.g (fun x13 h11 hf le12 => ?_))
      have k2 := leK le12 k2 (by decide)
      have k7 := leK le12 k7 (by decide)
      have k9 := leK le12 k9 (by decide)
      replace s3 := s3.le sc3 (le12)
      refine x_inv (pc' := 109) (ν := mX6_rebound) (av := [_, _, _]) (st := []) rfl rfl (dX49_begin 54 rfl rfl) (Nat.le_of_ble_eq_true rfl) wX6_rebound q220 (inv_V (k := 4) (dX49_begin 54 rfl rfl) q3008 q3009 q3010 wX6_rebound (by decide) lX6_rebound (by decide) s3.1) (exN (by decide)) rfl ?_
      refine C.mono hf (fun _ _ => KI.g (fun x16 h14 hf le15 => ?_))
      have k2 := leK le15 k2 (by decide)
      have k7 := leK le15 k7 (by decide)
      have k9 := leK le15 k9 (by decide)
      replace s3 := s3.le sc3 (le15)
      refine x_istore (pc' := 111) (dX49_begin 55 rfl rfl) (by decide) rfl rfl ?_
      replace hf := hf _ rfl
      refine x_iinc (pc' := 114) 5 (dX49_begin 56 rfl rfl) rfl (by rfl) (by decide) rfl rfl ?_
      refine x_goto (tgt := 53) (dX49_begin 57 rfl rfl) (by decide) ?_
      exact X.sub [3, 4, 5, 1, 0] rfl (by simp) hf
    · replace hf := hf.1 (Classical.not_not.mp c10)
      replace c10 := Classical.not_not.mp c10
      refine x_aload (pc' := 79) 0 (dX49_begin 39 rfl rfl) rfl rfl ?_
      refine x_aload_n (pc' := 80) 2 (dX49_begin 40 rfl rfl) rfl rfl rfl ?_
      refine x_aload (pc' := 82) 0 (dX49_begin 41 rfl rfl) rfl rfl ?_
      obtain ⟨b18, e19, hf⟩ := hf
      refine x_getR (pc' := 85) (dX49_begin 42 rfl rfl) g345 q1856 (Or.inl rfl) rfl (hf_of 44 k9 rfl (by decide) m44_345) e19 ?_
      refine x_inv (pc' := 88) (ν := mX6_code) (av := [_, _]) (st := [_]) rfl rfl (dX49_begin 43 rfl rfl) (Nat.le_of_ble_eq_true rfl) wX6_code q220 (inv_V (k := 4) (dX49_begin 43 rfl rfl) q3006 q2946 q2947 wX6_code (by decide) lX6_code (by decide) s3.1) (exN (by decide)) rfl ?_
      refine C.mono hf (fun _ _ => KI.g (fun x22 h20 hf le21 => ?_))
      have k2 := leK le21 k2 (by decide)
      have k7 := leK le21 k7 (by decide)
      have k9 := leK le21 k9 (by decide)
      replace s3 := s3.le sc3 (le21)
      refine x_putI (pc' := 91) (dX49_begin 44 rfl rfl) g347 q1859 (Or.inl rfl) (Or.inl rfl) (Or.inl (by decide)) rfl (hf_of 44 k9 rfl (by decide) m44_347) (fun h23 e31 => ?_)
      replace hf := hf h23 e31
      replace k2 : hK h23 l0 = 46 := by rw [e31]; exact k2
      replace k7 : hK h23 b3 = 6 := by rw [e31]; exact k7
      replace k9 : hK h23 b8 = 45 := by rw [e31]; exact k9
      replace s3 : So 3 (gW G) h23 := by rw [e31]; exact s3.le sc3 (pI_le (Or.inl rfl))
      refine x_aload_n (pc' := 92) 2 (dX49_begin 45 rfl rfl) rfl rfl rfl ?_
      refine x_iload (pc' := 94) 4 (dX49_begin 46 rfl rfl) rfl rfl ?_
      refine x_aload_n (pc' := 95) 2 (dX49_begin 47 rfl rfl) rfl rfl rfl ?_
      refine x_aload (pc' := 97) 0 (dX49_begin 48 rfl rfl) rfl rfl ?_
      refine x_getI (pc' := 100) (dX49_begin 49 rfl rfl) g347 q1859 (Or.inl rfl) rfl (hf_of 44 k9 rfl (by decide) m44_347) ?_
      refine x_iload_n (pc' := 101) 3 (dX49_begin 50 rfl rfl) rfl rfl rfl ?_
      refine x_iconst (pc' := 102) (v := 0) (dX49_begin 51 rfl rfl) (by decide) rfl ?_
      refine x_iconst (pc' := 103) (v := 0) (dX49_begin 52 rfl rfl) (by decide) rfl ?_
      refine x_inv (pc' := 106) (ν := mX6_closure) (av := [_, _, _, _, _]) (st := [_, _]) rfl rfl (dX49_begin 53 rfl rfl) (Nat.le_of_ble_eq_true rfl) wX6_closure q220 (inv_V (k := 4) (dX49_begin 53 rfl rfl) q3007 q2950 q2951 wX6_closure (by decide) lX6_closure (by decide) s3.1) (exN (by decide)) rfl ?_
      refine C.mono hf (fun _ _ => KI.g (fun x26 h24 hf le25 => ?_))
      have k2 := leK le25 k2 (by decide)
      have k7 := leK le25 k7 (by decide)
      have k9 := leK le25 k9 (by decide)
      replace s3 := s3.le sc3 (le25)
      refine x_inv (pc' := 109) (ν := mX6_rebound) (av := [_, _, _]) (st := []) rfl rfl (dX49_begin 54 rfl rfl) (Nat.le_of_ble_eq_true rfl) wX6_rebound q220 (inv_V (k := 4) (dX49_begin 54 rfl rfl) q3008 q3009 q3010 wX6_rebound (by decide) lX6_rebound (by decide) s3.1) (exN (by decide)) rfl ?_
      refine C.mono hf (fun _ _ => KI.g (fun x29 h27 hf le28 => ?_))
      have k2 := leK le28 k2 (by decide)
      have k7 := leK le28 k7 (by decide)
      have k9 := leK le28 k9 (by decide)
      replace s3 := s3.le sc3 (le28)
      refine x_istore (pc' := 111) (dX49_begin 55 rfl rfl) (by decide) rfl rfl ?_
      replace hf := hf _ rfl
      refine x_iinc (pc' := 114) 5 (dX49_begin 56 rfl rfl) rfl (by rfl) (by decide) rfl rfl ?_
      refine x_goto (tgt := 53) (dX49_begin 57 rfl rfl) (by decide) ?_
      exact X.sub [3, 4, 5, 1, 0] rfl (by simp) hf
theorem bX50_init (G : Gh) (d : Nat) (h : AH) (Q : Outcome → AH → Prop) (a0 : Nat) (p1 : Int32) (p2 : Nat) (p3 : Int32) (hf : (hc h + 1 ≤ MC) ∧ (hs h + 2 ≤ MS) ∧ ∀ q1, hK h q1 = 0 → ∀ h3, h3 = nO h q1 5 → (C G mX7_init d [.ref (q1)] h3 (KV Q (fun h6 => hK h6 a0 = 47 ∧ (∀ h9, h9 = pR h6 a0 352 (some q1) → (∀ h10, h10 = pI h9 a0 349 p1 → (∀ h11, h11 = pR h10 a0 350 (some p2) → (∀ h12, h12 = pI h11 a0 351 p3 → (Q (.returned none) h12))))))))) : C G mX50_init (d + 1) [.ref (a0), .int (p1), .ref (p2), .int (p3)] h Q := by
  refine C.of_X (by decide +kernel) (Nat.le_of_ble_eq_true rfl) wX50_init ?_
  show X G mX50_init (d + 1) (some a0) [] 0 [(0, .ref (a0)), (1, .int (p1)), (2, .ref (p2)), (3, .int (p3))] [] h Q
  refine x_aload_n (pc' := 1) 0 (dX50_init 0 rfl rfl) rfl rfl rfl ?_
  refine x_objInit (pc' := 4) (dX50_init 1 rfl rfl) q1889 q288 q289 (by decide) (by omega) rfl ?_
  refine x_aload_n (pc' := 5) 0 (dX50_init 2 rfl rfl) rfl rfl rfl ?_
  obtain ⟨n1, n2, hf⟩ := hf
  refine x_new (pc' := 8) (k := 5) (dX50_init 3 rfl rfl) q1890 (by decide) rfl (by decide) n1 n2 (fun q1 h3 k2 e4 => ?_)
  replace hf := hf q1 k2 h3 e4
  have k5 : hK h3 q1 = 6 := by rw [e4]; exact kNOs
  refine x_dup (pc' := 9) (dX50_init 4 rfl rfl) rfl rfl ?_
  refine x_inv (pc' := 12) (ν := mX7_init) (av := [_]) (st := [_, _]) rfl rfl (dX50_init 5 rfl rfl) (Nat.le_of_ble_eq_true rfl) wX7_init q221 (inv_N (host := "LetMill") (dX50_init 5 rfl rfl) (by decide) q560 q561 rfl (by decide) lX7_init) (fun b hb => by exact Or.inl (by have e : some _ = some b := hb; cases e; simp)) rfl ?_
  refine C.mono hf (fun _ _ => KV.g (fun h6 hf le7 => ?_))
  have k5 := leK le7 k5 (by decide)
  obtain ⟨k8, hf⟩ := hf
  refine x_putR (pc' := 15) (dX50_init 6 rfl rfl) g352 q1900 (Or.inl rfl) (Or.inr ⟨rfl, rfl, rfl, rfl⟩) (Or.inr rfl) rfl (hf_of 46 k8 rfl (by decide) m46_352) (fun h9 e16 => ?_)
  replace hf := hf h9 e16
  replace k5 : hK h9 q1 = 6 := by rw [e16]; exact k5
  replace k8 : hK h9 a0 = 47 := by rw [e16]; exact k8
  refine x_aload_n (pc' := 16) 0 (dX50_init 7 rfl rfl) rfl rfl rfl ?_
  refine x_iload_n (pc' := 17) 1 (dX50_init 8 rfl rfl) rfl rfl rfl ?_
  refine x_putI (pc' := 20) (dX50_init 9 rfl rfl) g349 q1892 (Or.inl rfl) (Or.inr ⟨rfl, rfl, rfl, rfl⟩) (Or.inr rfl) rfl (hf_of 46 k8 rfl (by decide) m46_349) (fun h10 e15 => ?_)
  replace hf := hf h10 e15
  replace k5 : hK h10 q1 = 6 := by rw [e15]; exact k5
  replace k8 : hK h10 a0 = 47 := by rw [e15]; exact k8
  refine x_aload_n (pc' := 21) 0 (dX50_init 10 rfl rfl) rfl rfl rfl ?_
  refine x_aload_n (pc' := 22) 2 (dX50_init 11 rfl rfl) rfl rfl rfl ?_
  refine x_putR (pc' := 25) (dX50_init 12 rfl rfl) g350 q1894 (Or.inl rfl) (Or.inr ⟨rfl, rfl, rfl, rfl⟩) (Or.inr rfl) rfl (hf_of 46 k8 rfl (by decide) m46_350) (fun h11 e14 => ?_)
  replace hf := hf h11 e14
  replace k5 : hK h11 q1 = 6 := by rw [e14]; exact k5
  replace k8 : hK h11 a0 = 47 := by rw [e14]; exact k8
  refine x_aload_n (pc' := 26) 0 (dX50_init 13 rfl rfl) rfl rfl rfl ?_
  refine x_iload_n (pc' := 27) 3 (dX50_init 14 rfl rfl) rfl rfl rfl ?_
  refine x_putI (pc' := 30) (dX50_init 15 rfl rfl) g351 q1897 (Or.inl rfl) (Or.inl rfl) (Or.inr rfl) rfl (hf_of 46 k8 rfl (by decide) m46_351) (fun h12 e13 => ?_)
  replace hf := hf h12 e13
  replace k5 : hK h12 q1 = 6 := by rw [e13]; exact k5
  replace k8 : hK h12 a0 = 47 := by rw [e13]; exact k8
  exact x_vret (dX50_init 16 rfl rfl) rfl hf
theorem bX51_init (G : Gh) (d : Nat) (hd1 : 1 ≤ d) (h : AH) (Q : Outcome → AH → Prop) (a0 : Nat) (p1 : Int32) (hf : HF h a0 354 0 ∧ (∀ h2, h2 = pI h a0 354 p1 → (Q (.returned none) h2))) : C G mX51_init d [.ref (a0), .int (p1)] h Q := by
  refine C.of_X (by decide +kernel) (Nat.le_of_ble_eq_true rfl) wX51_init ?_
  show X G mX51_init d (some a0) [] 0 [(0, .ref (a0)), (1, .int (p1))] [] h Q
  refine x_aload_n (pc' := 1) 0 (dX51_init 0 rfl rfl) rfl rfl rfl ?_
  refine x_objInit (pc' := 4) (dX51_init 1 rfl rfl) q1940 q288 q289 (by decide) (by omega) rfl ?_
  refine x_aload_n (pc' := 5) 0 (dX51_init 2 rfl rfl) rfl rfl rfl ?_
  refine x_iload_n (pc' := 6) 1 (dX51_init 3 rfl rfl) rfl rfl rfl ?_
  obtain ⟨u1, hf⟩ := hf
  refine x_putI (pc' := 9) (dX51_init 4 rfl rfl) g354 q1943 (Or.inl rfl) (Or.inr ⟨rfl, rfl, rfl, rfl⟩) (Or.inr rfl) rfl u1 (fun h2 e3 => ?_)
  replace hf := hf h2 e3
  exact x_vret (dX51_init 5 rfl rfl) rfl hf
theorem bX52_init (G : Gh) (d : Nat) (h : AH) (Q : Outcome → AH → Prop) (a0 : Nat) (p1 : Int32) (p2 : Nat) (hf : C G mX51_init d [.ref (a0), .int (p1)] h (KV Q (fun h1 => hK h1 a0 = 48 ∧ (∀ h4, h4 = pR h1 a0 355 (some p2) → (Q (.returned none) h4))))) : C G mX52_init (d + 1) [.ref (a0), .int (p1), .ref (p2)] h Q := by
  refine C.of_X (by decide +kernel) (Nat.le_of_ble_eq_true rfl) wX52_init ?_
  show X G mX52_init (d + 1) (some a0) [] 0 [(0, .ref (a0)), (1, .int (p1)), (2, .ref (p2))] [] h Q
  refine x_aload_n (pc' := 1) 0 (dX52_init 0 rfl rfl) rfl rfl rfl ?_
  refine x_iload_n (pc' := 2) 1 (dX52_init 1 rfl rfl) rfl rfl rfl ?_
  refine x_inv (pc' := 5) (ν := mX51_init) (av := [_, _]) (st := []) rfl rfl (dX52_init 2 rfl rfl) (Nat.le_of_ble_eq_true rfl) wX51_init q272 (inv_I (dX52_init 2 rfl rfl) q1937 q1938 q1939 rfl (by decide) lX51_init) (fun b hb => by exact Or.inr (by rw [← hb]; rfl)) rfl ?_
  refine C.mono hf (fun _ _ => KV.g (fun h1 hf le2 => ?_))
  refine x_aload_n (pc' := 6) 0 (dX52_init 3 rfl rfl) rfl rfl rfl ?_
  refine x_aload_n (pc' := 7) 2 (dX52_init 4 rfl rfl) rfl rfl rfl ?_
  obtain ⟨k3, hf⟩ := hf
  refine x_putR (pc' := 10) (dX52_init 5 rfl rfl) g355 q1941 (Or.inl rfl) (Or.inr ⟨rfl, rfl, rfl, rfl⟩) (Or.inr rfl) rfl (hf_of 47 k3 rfl (by decide) m47_355) (fun h4 e5 => ?_)
  replace hf := hf h4 e5
  replace k3 : hK h4 a0 = 48 := by rw [e5]; exact k3
  exact x_vret (dX52_init 6 rfl rfl) rfl hf
theorem bX52_resolve (G : Gh) (d : Nat) (h : AH) (Q : Outcome → AH → Prop) (a0 : Nat) (p2 : Nat) (s4 : So 4 (gW G) h) (hf : hK h a0 = 48 ∧ (C G mX9_typeName d [.ref (gW G 4), .int (fI h a0 354)] h (KN Q (fun h2 => ∀ h5, h5 = pR h2 a0 356 none → (OC (fR h5 a0 356) (X G mX52_resolve (d + 1) none [] 47 [(0, .ref (a0)), (1, .ref (gW G 4)), (2, .ref (p2)), (3, .int (0))] [] h5 Q) (fun b6 => OC (fR h5 a0 356) (False) (fun b8 => hK h5 b8 = 4 ∧ (∃ b11, fR h5 a0 355 = some b11 ∧ (hK h5 b11 = 6 ∧ (((fI h5 b8 51) = (fI h5 b11 78) → (X G mX52_resolve (d + 1) none [] 47 [(0, .ref (a0)), (1, .ref (gW G 4)), (2, .ref (p2)), (3, .int (0))] [] h5 Q)) ∧ (¬ ((fI h5 b8 51) = (fI h5 b11 78)) → (C G mX9_found d [.ref (gW G 4), .int (4), .int (fI h5 a0 354)] h5 (KV Q (fun h15 => X G mX52_resolve (d + 1) none [] 47 [(0, .ref (a0)), (1, .ref (gW G 4)), (2, .ref (p2)), (3, .int (0))] [] h15 Q))))))))))) (fun b4 h2 => ∀ h18, h18 = pR h2 a0 356 (some b4) → (OC (fR h18 a0 356) (X G mX52_resolve (d + 1) none [] 47 [(0, .ref (a0)), (1, .ref (gW G 4)), (2, .ref (p2)), (3, .int (0))] [] h18 Q) (fun b19 => OC (fR h18 a0 356) (False) (fun b21 => hK h18 b21 = 4 ∧ (∃ b24, fR h18 a0 355 = some b24 ∧ (hK h18 b24 = 6 ∧ (((fI h18 b21 51) = (fI h18 b24 78) → (X G mX52_resolve (d + 1) none [] 47 [(0, .ref (a0)), (1, .ref (gW G 4)), (2, .ref (p2)), (3, .int (0))] [] h18 Q)) ∧ (¬ ((fI h18 b21 51) = (fI h18 b24 78)) → (C G mX9_found d [.ref (gW G 4), .int (4), .int (fI h18 a0 354)] h18 (KV Q (fun h28 => X G mX52_resolve (d + 1) none [] 47 [(0, .ref (a0)), (1, .ref (gW G 4)), (2, .ref (p2)), (3, .int (0))] [] h28 Q)))))))))))))) : C G mX52_resolve (d + 1) [.ref (a0), .ref (gW G 4), .ref (p2)] h Q := by
  refine C.of_X (by decide +kernel) (Nat.le_of_ble_eq_true rfl) wX52_resolve ?_
  show X G mX52_resolve (d + 1) none [] 0 [(0, .ref (a0)), (1, .ref (gW G 4)), (2, .ref (p2))] [] h Q
  refine x_aload_n (pc' := 1) 0 (dX52_resolve 0 rfl rfl) rfl rfl rfl ?_
  refine x_aload_n (pc' := 2) 1 (dX52_resolve 1 rfl rfl) rfl rfl rfl ?_
  refine x_aload_n (pc' := 3) 0 (dX52_resolve 2 rfl rfl) rfl rfl rfl ?_
  obtain ⟨k1, hf⟩ := hf
  refine x_getI (pc' := 6) (dX52_resolve 3 rfl rfl) g354 q1944 (Or.inr q1945) rfl (hf_of 47 k1 rfl (by decide) m47_354) ?_
  refine x_inv (pc' := 9) (ν := mX9_typeName) (av := [_, _]) (st := [_]) rfl rfl (dX52_resolve 4 rfl rfl) (Nat.le_of_ble_eq_true rfl) wX9_typeName q223 (inv_V (k := 7) (dX52_resolve 4 rfl rfl) q2101 q2102 q2103 wX9_typeName (by decide) lX9_typeName (by decide) s4.1) (exN (by decide)) rfl ?_
  refine C.mono hf (fun _ _ => KN.g (fun h2 hf le3 => ?_) (fun b4 h2 hf le3 => ?_))
  · have k1 := leK le3 k1 (by decide)
    replace s4 := s4.le sc4 (le3)
    refine x_putN (pc' := 12) (dX52_resolve 5 rfl rfl) g356 q1942 (Or.inl rfl) (Or.inl rfl) (Or.inl (by decide)) rfl (hf_of 47 k1 rfl (by decide) m47_356) (fun h5 e17 => ?_)
    replace hf := hf h5 e17
    replace k1 : hK h5 a0 = 48 := by rw [e17]; exact k1
    replace s4 : So 4 (gW G) h5 := by rw [e17]; exact s4.le sc4 (pR_le (Or.inl rfl))
    refine x_aload_n (pc' := 13) 0 (dX52_resolve 6 rfl rfl) rfl rfl rfl ?_
    obtain ⟨ho0, ho1⟩ := hf
    rcases hr : fR _ a0 356 with _ | b6
    · replace hf := ho0 hr
      refine x_getN (pc' := 16) (dX52_resolve 7 rfl rfl) g356 q1942 (Or.inl rfl) rfl (hf_of 47 k1 rfl (by decide) m47_356) hr ?_
      refine x_ifnullN (tgt := 45) (dX52_resolve 8 rfl rfl) (by decide) ?_
      refine x_iconst (pc' := 46) (v := 0) (dX52_resolve 21 rfl rfl) (by decide) rfl ?_
      refine x_istore_n (pc' := 47) (dX52_resolve 22 rfl rfl) rfl (by decide) rfl rfl ?_
      exact X.sub [1, 2, 3, 0] rfl (by simp) hf
    · replace hf := ho1 _ hr
      refine x_getR (pc' := 16) (dX52_resolve 7 rfl rfl) g356 q1942 (Or.inl rfl) rfl (hf_of 47 k1 rfl (by decide) m47_356) hr ?_
      refine x_ifnull (pc' := 19) (dX52_resolve 8 rfl rfl) rfl ?_
      refine x_aload_n (pc' := 20) 0 (dX52_resolve 9 rfl rfl) rfl rfl rfl ?_
      obtain ⟨ho0, ho1⟩ := hf
      rcases hr : fR _ a0 356 with _ | b8
      · replace hf := ho0 hr
        refine x_getN (pc' := 23) (dX52_resolve 10 rfl rfl) g356 q1942 (Or.inl rfl) rfl (hf_of 47 k1 rfl (by decide) m47_356) hr ?_
        exact hf.elim
      · replace hf := ho1 _ hr
        refine x_getR (pc' := 23) (dX52_resolve 10 rfl rfl) g356 q1942 (Or.inl rfl) rfl (hf_of 47 k1 rfl (by decide) m47_356) hr ?_
        obtain ⟨k10, hf⟩ := hf
        refine x_getI (pc' := 26) (dX52_resolve 11 rfl rfl) g51 q444 (Or.inl rfl) rfl (hf_of 3 k10 rfl (by decide) m3_51) ?_
        refine x_aload_n (pc' := 27) 0 (dX52_resolve 12 rfl rfl) rfl rfl rfl ?_
        obtain ⟨b11, e12, hf⟩ := hf
        refine x_getR (pc' := 30) (dX52_resolve 13 rfl rfl) g355 q1941 (Or.inl rfl) rfl (hf_of 47 k1 rfl (by decide) m47_355) e12 ?_
        obtain ⟨k13, hf⟩ := hf
        refine x_getI (pc' := 33) (dX52_resolve 14 rfl rfl) g78 q573 (Or.inl rfl) rfl (hf_of 5 k13 rfl (by decide) m5_78) ?_
        refine x_icmp_eq (pc' := 36) (tgt := 45) (dX52_resolve 15 rfl rfl) (by decide) rfl (fun c14 => ?_) (fun c14 => ?_)
        · replace hf := hf.1 c14
          refine x_iconst (pc' := 46) (v := 0) (dX52_resolve 21 rfl rfl) (by decide) rfl ?_
          refine x_istore_n (pc' := 47) (dX52_resolve 22 rfl rfl) rfl (by decide) rfl rfl ?_
          exact X.sub [1, 2, 3, 0] rfl (by simp) hf
        · replace hf := hf.2 c14
          refine x_aload_n (pc' := 37) 1 (dX52_resolve 16 rfl rfl) rfl rfl rfl ?_
          refine x_iconst (pc' := 38) (v := 4) (dX52_resolve 17 rfl rfl) (by decide) rfl ?_
          refine x_aload_n (pc' := 39) 0 (dX52_resolve 18 rfl rfl) rfl rfl rfl ?_
          refine x_getI (pc' := 42) (dX52_resolve 19 rfl rfl) g354 q1944 (Or.inr q1945) rfl (hf_of 47 k1 rfl (by decide) m47_354) ?_
          refine x_inv (pc' := 45) (ν := mX9_found) (av := [_, _, _]) (st := []) rfl rfl (dX52_resolve 20 rfl rfl) (Nat.le_of_ble_eq_true rfl) wX9_found q223 (inv_V (k := 7) (dX52_resolve 20 rfl rfl) q2111 q2061 q2062 wX9_found (by decide) lX9_found (by decide) s4.1) (exN (by decide)) rfl ?_
          refine C.mono hf (fun _ _ => KV.g (fun h15 hf le16 => ?_))
          have k1 := leK le16 k1 (by decide)
          have k10 := leK le16 k10 (by decide)
          have k13 := leK le16 k13 (by decide)
          replace s4 := s4.le sc4 (le16)
          refine x_iconst (pc' := 46) (v := 0) (dX52_resolve 21 rfl rfl) (by decide) rfl ?_
          refine x_istore_n (pc' := 47) (dX52_resolve 22 rfl rfl) rfl (by decide) rfl rfl ?_
          exact X.sub [1, 2, 3, 0] rfl (by simp) hf
  · have k1 := leK le3 k1 (by decide)
    replace s4 := s4.le sc4 (le3)
    refine x_putR (pc' := 12) (dX52_resolve 5 rfl rfl) g356 q1942 (Or.inl rfl) (Or.inl rfl) (Or.inl (by decide)) rfl (hf_of 47 k1 rfl (by decide) m47_356) (fun h18 e30 => ?_)
    replace hf := hf h18 e30
    replace k1 : hK h18 a0 = 48 := by rw [e30]; exact k1
    replace s4 : So 4 (gW G) h18 := by rw [e30]; exact s4.le sc4 (pR_le (Or.inl rfl))
    refine x_aload_n (pc' := 13) 0 (dX52_resolve 6 rfl rfl) rfl rfl rfl ?_
    obtain ⟨ho0, ho1⟩ := hf
    rcases hr : fR _ a0 356 with _ | b19
    · replace hf := ho0 hr
      refine x_getN (pc' := 16) (dX52_resolve 7 rfl rfl) g356 q1942 (Or.inl rfl) rfl (hf_of 47 k1 rfl (by decide) m47_356) hr ?_
      refine x_ifnullN (tgt := 45) (dX52_resolve 8 rfl rfl) (by decide) ?_
      refine x_iconst (pc' := 46) (v := 0) (dX52_resolve 21 rfl rfl) (by decide) rfl ?_
      refine x_istore_n (pc' := 47) (dX52_resolve 22 rfl rfl) rfl (by decide) rfl rfl ?_
      exact X.sub [1, 2, 3, 0] rfl (by simp) hf
    · replace hf := ho1 _ hr
      refine x_getR (pc' := 16) (dX52_resolve 7 rfl rfl) g356 q1942 (Or.inl rfl) rfl (hf_of 47 k1 rfl (by decide) m47_356) hr ?_
      refine x_ifnull (pc' := 19) (dX52_resolve 8 rfl rfl) rfl ?_
      refine x_aload_n (pc' := 20) 0 (dX52_resolve 9 rfl rfl) rfl rfl rfl ?_
      obtain ⟨ho0, ho1⟩ := hf
      rcases hr : fR _ a0 356 with _ | b21
      · replace hf := ho0 hr
        refine x_getN (pc' := 23) (dX52_resolve 10 rfl rfl) g356 q1942 (Or.inl rfl) rfl (hf_of 47 k1 rfl (by decide) m47_356) hr ?_
        exact hf.elim
      · replace hf := ho1 _ hr
        refine x_getR (pc' := 23) (dX52_resolve 10 rfl rfl) g356 q1942 (Or.inl rfl) rfl (hf_of 47 k1 rfl (by decide) m47_356) hr ?_
        obtain ⟨k23, hf⟩ := hf
        refine x_getI (pc' := 26) (dX52_resolve 11 rfl rfl) g51 q444 (Or.inl rfl) rfl (hf_of 3 k23 rfl (by decide) m3_51) ?_
        refine x_aload_n (pc' := 27) 0 (dX52_resolve 12 rfl rfl) rfl rfl rfl ?_
        obtain ⟨b24, e25, hf⟩ := hf
        refine x_getR (pc' := 30) (dX52_resolve 13 rfl rfl) g355 q1941 (Or.inl rfl) rfl (hf_of 47 k1 rfl (by decide) m47_355) e25 ?_
        obtain ⟨k26, hf⟩ := hf
        refine x_getI (pc' := 33) (dX52_resolve 14 rfl rfl) g78 q573 (Or.inl rfl) rfl (hf_of 5 k26 rfl (by decide) m5_78) ?_
        refine x_icmp_eq (pc' := 36) (tgt := 45) (dX52_resolve 15 rfl rfl) (by decide) rfl (fun c27 => ?_) (fun c27 => ?_)
        · replace hf := hf.1 c27
          refine x_iconst (pc' := 46) (v := 0) (dX52_resolve 21 rfl rfl) (by decide) rfl ?_
          refine x_istore_n (pc' := 47) (dX52_resolve 22 rfl rfl) rfl (by decide) rfl rfl ?_
          exact X.sub [1, 2, 3, 0] rfl (by simp) hf
        · replace hf := hf.2 c27
          refine x_aload_n (pc' := 37) 1 (dX52_resolve 16 rfl rfl) rfl rfl rfl ?_
          refine x_iconst (pc' := 38) (v := 4) (dX52_resolve 17 rfl rfl) (by decide) rfl ?_
          refine x_aload_n (pc' := 39) 0 (dX52_resolve 18 rfl rfl) rfl rfl rfl ?_
          refine x_getI (pc' := 42) (dX52_resolve 19 rfl rfl) g354 q1944 (Or.inr q1945) rfl (hf_of 47 k1 rfl (by decide) m47_354) ?_
          refine x_inv (pc' := 45) (ν := mX9_found) (av := [_, _, _]) (st := []) rfl rfl (dX52_resolve 20 rfl rfl) (Nat.le_of_ble_eq_true rfl) wX9_found q223 (inv_V (k := 7) (dX52_resolve 20 rfl rfl) q2111 q2061 q2062 wX9_found (by decide) lX9_found (by decide) s4.1) (exN (by decide)) rfl ?_
          refine C.mono hf (fun _ _ => KV.g (fun h28 hf le29 => ?_))
          have k1 := leK le29 k1 (by decide)
          have k23 := leK le29 k23 (by decide)
          have k26 := leK le29 k26 (by decide)
          replace s4 := s4.le sc4 (le29)
          refine x_iconst (pc' := 46) (v := 0) (dX52_resolve 21 rfl rfl) (by decide) rfl ?_
          refine x_istore_n (pc' := 47) (dX52_resolve 22 rfl rfl) rfl (by decide) rfl rfl ?_
          exact X.sub [1, 2, 3, 0] rfl (by simp) hf
theorem bX52_resolve_47 (G : Gh) (d : Nat) (h : AH) (Q : Outcome → AH → Prop) (l0 : Nat) (l2 : Nat) (l3 : Int32) (hf : hK h l0 = 48 ∧ (∃ b2, fR h l0 355 = some b2 ∧ (hK h b2 = 6 ∧ (((fI h b2 78) ≤ l3 → (Q (.returned none) h)) ∧ (¬ ((fI h b2 78) ≤ l3) → (∃ b6, fR h l0 355 = some b6 ∧ (hK h b6 = 6 ∧ (C G mX7_ty d [.ref (b6), .int (l3)] h (KR Q (fun b11 h8 => ∃ (k : Nat) (ν : Mu), VT ⟨"LetMill$Ty", "resolve", "(LLetMill$Scope;LLetMill$Data;)V"⟩ VMTy_resolve k ν ∧ hK h8 b11 = k + 1 ∧ C G ν d [.ref (b11), .ref (gW G 4), .ref (l2)] h8 (KV Q (fun h12 => ∀ x14 : Int32, x14 = l3 + 1 → (X G mX52_resolve (d + 1) none [] 47 [(0, .ref (l0)), (1, .ref (gW G 4)), (2, .ref (l2)), (3, .int (x14))] [] h12 Q))))))))))))) : X G mX52_resolve (d + 1) none [] 47 [(0, .ref (l0)), (1, .ref (gW G 4)), (2, .ref (l2)), (3, .int (l3))] [] h Q := by
  refine x_iload_n (pc' := 48) 3 (dX52_resolve 23 rfl rfl) rfl rfl rfl ?_
  refine x_aload_n (pc' := 49) 0 (dX52_resolve 24 rfl rfl) rfl rfl rfl ?_
  obtain ⟨k1, hf⟩ := hf
  obtain ⟨b2, e3, hf⟩ := hf
  refine x_getR (pc' := 52) (dX52_resolve 25 rfl rfl) g355 q1941 (Or.inl rfl) rfl (hf_of 47 k1 rfl (by decide) m47_355) e3 ?_
  obtain ⟨k4, hf⟩ := hf
  refine x_getI (pc' := 55) (dX52_resolve 26 rfl rfl) g78 q573 (Or.inl rfl) rfl (hf_of 5 k4 rfl (by decide) m5_78) ?_
  refine x_icmp_ge (pc' := 58) (tgt := 77) (dX52_resolve 27 rfl rfl) (by decide) rfl (fun c5 => ?_) (fun c5 => ?_)
  · replace hf := hf.1 c5
    exact x_vret (dX52_resolve 37 rfl rfl) rfl hf
  · replace hf := hf.2 c5
    refine x_aload_n (pc' := 59) 0 (dX52_resolve 28 rfl rfl) rfl rfl rfl ?_
    obtain ⟨b6, e7, hf⟩ := hf
    refine x_getR (pc' := 62) (dX52_resolve 29 rfl rfl) g355 q1941 (Or.inl rfl) rfl (hf_of 47 k1 rfl (by decide) m47_355) e7 ?_
    refine x_iload_n (pc' := 63) 3 (dX52_resolve 30 rfl rfl) rfl rfl rfl ?_
    obtain ⟨k10, hf⟩ := hf
    refine x_inv (pc' := 66) (ν := mX7_ty) (av := [_, _]) (st := []) rfl rfl (dX52_resolve 31 rfl rfl) (Nat.le_of_ble_eq_true rfl) wX7_ty q221 (inv_V (k := 5) (dX52_resolve 31 rfl rfl) q2112 q1928 q1929 wX7_ty (by decide) lX7_ty (by decide) k10) (exN (by decide)) rfl ?_
    refine C.mono hf (fun _ _ => KR.g (fun b11 h8 hf le9 => ?_))
    have k1 := leK le9 k1 (by decide)
    have k4 := leK le9 k4 (by decide)
    have k10 := leK le9 k10 (by decide)
    refine x_aload_n (pc' := 67) 1 (dX52_resolve 32 rfl rfl) rfl rfl rfl ?_
    refine x_aload_n (pc' := 68) 2 (dX52_resolve 33 rfl rfl) rfl rfl rfl ?_
    obtain ⟨k, ν, ⟨v0, v1, v2, v3, v4, v5, v6, v7⟩, k15, hf⟩ := hf
    refine x_inv (pc' := 71) (ν := ν) (st := []) rfl (sub_tr v7 rfl) (dX52_resolve 34 rfl rfl) (by have := v5; simp only [List.map, List.sum_cons, List.sum_nil, Value.category]; omega) v1 v2 (inv_U (k := k) (av := [_, _]) (dX52_resolve 34 rfl rfl) q2113 q2094 (by decide) v3 v4 (by decide) (show _ = some 2 by decide +kernel) v0 k15) (exN v6) rfl ?_
    refine C.mono hf (fun _ _ => KV.g (fun h12 hf le13 => ?_))
    replace le13 := Le.nx v6 le13
    have k1 := leK le13 k1 (by decide)
    have k4 := leK le13 k4 (by decide)
    have k10 := leK le13 k10 (by decide)
    replace hf := hf _ rfl
    refine x_iinc (pc' := 74) 3 (dX52_resolve 35 rfl rfl) rfl (by rfl) (by decide) rfl rfl ?_
    refine x_goto (tgt := 47) (dX52_resolve 36 rfl rfl) (by decide) ?_
    exact X.sub [1, 2, 3, 0] rfl (by simp) hf
theorem bX52_make (G : Gh) (d : Nat) (h : AH) (Q : Outcome → AH → Prop) (a0 : Nat) (hf : hK h a0 = 48 ∧ (∃ b2, fR h a0 355 = some b2 ∧ (hK h b2 = 6 ∧ ((¬ (fI h b2 78 : Int32) < 0) ∧ (hc h + 1 ≤ MC) ∧ (hs h + (fI h b2 78 : Int32).toNatClampNeg ≤ MS) ∧ ∀ q5, hK h q5 = 0 → ∀ h7, h7 = nA h q5 0 (fI h b2 78 : Int32).toNatClampNeg → (X G mX52_make (d + 1) none [] 12 [(0, .ref (a0)), (1, .ref (gW G 6)), (2, .ref (q5)), (3, .int (0))] [] h7 Q))))) : C G mX52_make (d + 1) [.ref (a0), .ref (gW G 6)] h Q := by
  refine C.of_X (by decide +kernel) (Nat.le_of_ble_eq_true rfl) wX52_make ?_
  show X G mX52_make (d + 1) none [] 0 [(0, .ref (a0)), (1, .ref (gW G 6))] [] h Q
  refine x_aload_n (pc' := 1) 0 (dX52_make 0 rfl rfl) rfl rfl rfl ?_
  obtain ⟨k1, hf⟩ := hf
  obtain ⟨b2, e3, hf⟩ := hf
  refine x_getR (pc' := 4) (dX52_make 1 rfl rfl) g355 q1941 (Or.inl rfl) rfl (hf_of 47 k1 rfl (by decide) m47_355) e3 ?_
  obtain ⟨k4, hf⟩ := hf
  refine x_getI (pc' := 7) (dX52_make 2 rfl rfl) g78 q573 (Or.inl rfl) rfl (hf_of 5 k4 rfl (by decide) m5_78) ?_
  obtain ⟨z9, n1, n2, hf⟩ := hf
  refine x_newa0 (pc' := 9) (dX52_make 3 rfl rfl) rfl z9 (by decide) n1 n2 (fun q5 h7 k6 e8 => ?_)
  replace hf := hf q5 k6 h7 e8
  replace k1 : hK h7 a0 = 48 := by rw [e8]; exact kNA k1 (by decide) k6
  replace k4 : hK h7 b2 = 6 := by rw [e8]; exact kNA k4 (by decide) k6
  have k10 : hK h7 q5 = 1000 := by rw [e8]; exact kNAs
  refine x_astore_n (pc' := 10) (dX52_make 4 rfl rfl) rfl (by decide) rfl rfl ?_
  refine x_iconst (pc' := 11) (v := 0) (dX52_make 5 rfl rfl) (by decide) rfl ?_
  refine x_istore_n (pc' := 12) (dX52_make 6 rfl rfl) rfl (by decide) rfl rfl ?_
  exact X.sub [2, 3, 1, 0] rfl (by simp) hf
theorem bX52_make_12 (G : Gh) (d : Nat) (h : AH) (Q : Outcome → AH → Prop) (l0 : Nat) (l2 : Nat) (l3 : Int32) (s2 : So 2 (gW G) h) (s6 : So 6 (gW G) h) (hf : hK h l0 = 48 ∧ (∃ b2, fR h l0 355 = some b2 ∧ (hK h b2 = 6 ∧ (((fI h b2 78) ≤ l3 → (OC (fR h l0 356) (False) (fun b6 => hK h b6 = 4 ∧ (hK h l2 = 1000 ∧ (C G mX3_built_2 d [.ref (gW G 2), .int (fI h b6 52), .ref (l2), .int (0), .int (Int32.ofNat (hL h l2))] h (KI Q (fun x12 h10 => Q (.returned (some (.int x12))) h10))))))) ∧ (¬ ((fI h b2 78) ≤ l3) → (∃ b13, fR h l0 355 = some b13 ∧ (hK h b13 = 6 ∧ (C G mX7_ty d [.ref (b13), .int (l3)] h (KR Q (fun b18 h15 => ∃ (k : Nat) (ν : Mu), VT ⟨"LetMill$Ty", "make", "(LLetMill$Typer;)I"⟩ VMTy_make k ν ∧ hK h15 b18 = k + 1 ∧ C G ν d [.ref (b18), .ref (gW G 6)] h15 (KI Q (fun x21 h19 => hK h19 l2 = 1000 ∧ Ns (gW G) l2 ∧ vp_in l3 (hL h19 l2) ∧ ∀ h24, h24 = sI h19 l2 l3.toNatClampNeg x21 → (∀ x27 : Int32, x27 = l3 + 1 → (X G mX52_make (d + 1) none [] 12 [(0, .ref (l0)), (1, .ref (gW G 6)), (2, .ref (l2)), (3, .int (x27))] [] h24 Q)))))))))))))) : X G mX52_make (d + 1) none [] 12 [(0, .ref (l0)), (1, .ref (gW G 6)), (2, .ref (l2)), (3, .int (l3))] [] h Q := by
  refine x_iload_n (pc' := 13) 3 (dX52_make 7 rfl rfl) rfl rfl rfl ?_
  refine x_aload_n (pc' := 14) 0 (dX52_make 8 rfl rfl) rfl rfl rfl ?_
  obtain ⟨k1, hf⟩ := hf
  obtain ⟨b2, e3, hf⟩ := hf
  refine x_getR (pc' := 17) (dX52_make 9 rfl rfl) g355 q1941 (Or.inl rfl) rfl (hf_of 47 k1 rfl (by decide) m47_355) e3 ?_
  obtain ⟨k4, hf⟩ := hf
  refine x_getI (pc' := 20) (dX52_make 10 rfl rfl) g78 q573 (Or.inl rfl) rfl (hf_of 5 k4 rfl (by decide) m5_78) ?_
  refine x_icmp_ge (pc' := 23) (tgt := 44) (dX52_make 11 rfl rfl) (by decide) rfl (fun c5 => ?_) (fun c5 => ?_)
  · replace hf := hf.1 c5
    refine x_aload_n (pc' := 45) 1 (dX52_make 23 rfl rfl) rfl rfl rfl ?_
    refine x_getR (pc' := 48) (dX52_make 24 rfl rfl) g108 q818 (Or.inl rfl) rfl (hf_of 9 s6.1 rfl (by decide) m9_108) (s6.2 0 _ rfl rfl).1 ?_
    refine x_aload_n (pc' := 49) 0 (dX52_make 25 rfl rfl) rfl rfl rfl ?_
    obtain ⟨ho0, ho1⟩ := hf
    rcases hr : fR _ l0 356 with _ | b6
    · replace hf := ho0 hr
      refine x_getN (pc' := 52) (dX52_make 26 rfl rfl) g356 q1942 (Or.inl rfl) rfl (hf_of 47 k1 rfl (by decide) m47_356) hr ?_
      exact hf.elim
    · replace hf := ho1 _ hr
      refine x_getR (pc' := 52) (dX52_make 26 rfl rfl) g356 q1942 (Or.inl rfl) rfl (hf_of 47 k1 rfl (by decide) m47_356) hr ?_
      obtain ⟨k8, hf⟩ := hf
      refine x_getI (pc' := 55) (dX52_make 27 rfl rfl) g52 q449 (Or.inl rfl) rfl (hf_of 3 k8 rfl (by decide) m3_52) ?_
      refine x_aload_n (pc' := 56) 2 (dX52_make 28 rfl rfl) rfl rfl rfl ?_
      refine x_iconst (pc' := 57) (v := 0) (dX52_make 29 rfl rfl) (by decide) rfl ?_
      refine x_aload_n (pc' := 58) 2 (dX52_make 30 rfl rfl) rfl rfl rfl ?_
      obtain ⟨k9, hf⟩ := hf
      refine x_alen (pc' := 59) (t := 0) (ty := .int) (dX52_make 31 rfl rfl) rfl rfl k9 ?_
      refine x_inv (pc' := 62) (ν := mX3_built_2) (av := [_, _, _, _, _]) (st := []) rfl rfl (dX52_make 32 rfl rfl) (Nat.le_of_ble_eq_true rfl) wX3_built_2 q213 (inv_V (k := 2) (dX52_make 32 rfl rfl) q2372 q2349 q2350 wX3_built_2 (by decide) lX3_built_2 (by decide) s2.1) (exN (by decide)) rfl ?_
      refine C.mono hf (fun _ _ => KI.g (fun x12 h10 hf le11 => ?_))
      have k1 := leK le11 k1 (by decide)
      have k4 := leK le11 k4 (by decide)
      have k8 := leK le11 k8 (by decide)
      have k9 := leK le11 k9 (by decide)
      replace s2 := s2.le sc2 (le11)
      replace s6 := s6.le sc6 (le11)
      exact x_iret (dX52_make 33 rfl rfl) rfl hf
  · replace hf := hf.2 c5
    refine x_aload_n (pc' := 24) 2 (dX52_make 12 rfl rfl) rfl rfl rfl ?_
    refine x_iload_n (pc' := 25) 3 (dX52_make 13 rfl rfl) rfl rfl rfl ?_
    refine x_aload_n (pc' := 26) 0 (dX52_make 14 rfl rfl) rfl rfl rfl ?_
    obtain ⟨b13, e14, hf⟩ := hf
    refine x_getR (pc' := 29) (dX52_make 15 rfl rfl) g355 q1941 (Or.inl rfl) rfl (hf_of 47 k1 rfl (by decide) m47_355) e14 ?_
    refine x_iload_n (pc' := 30) 3 (dX52_make 16 rfl rfl) rfl rfl rfl ?_
    obtain ⟨k17, hf⟩ := hf
    refine x_inv (pc' := 33) (ν := mX7_ty) (av := [_, _]) (st := [_, _]) rfl rfl (dX52_make 17 rfl rfl) (Nat.le_of_ble_eq_true rfl) wX7_ty q221 (inv_V (k := 5) (dX52_make 17 rfl rfl) q2112 q1928 q1929 wX7_ty (by decide) lX7_ty (by decide) k17) (exN (by decide)) rfl ?_
    refine C.mono hf (fun _ _ => KR.g (fun b18 h15 hf le16 => ?_))
    have k1 := leK le16 k1 (by decide)
    have k4 := leK le16 k4 (by decide)
    have k17 := leK le16 k17 (by decide)
    replace s2 := s2.le sc2 (le16)
    replace s6 := s6.le sc6 (le16)
    refine x_aload_n (pc' := 34) 1 (dX52_make 18 rfl rfl) rfl rfl rfl ?_
    obtain ⟨k, ν, ⟨v0, v1, v2, v3, v4, v5, v6, v7⟩, k28, hf⟩ := hf
    refine x_inv (pc' := 37) (ν := ν) (st := [_, _]) rfl (sub_tr v7 rfl) (dX52_make 19 rfl rfl) (by have := v5; simp only [List.map, List.sum_cons, List.sum_nil, Value.category]; omega) v1 v2 (inv_U (k := k) (av := [_]) (dX52_make 19 rfl rfl) q2361 q2354 (by decide) v3 v4 (by decide) (show _ = some 1 by decide +kernel) v0 k28) (exN v6) rfl ?_
    refine C.mono hf (fun _ _ => KI.g (fun x21 h19 hf le20 => ?_))
    replace le20 := Le.nx v6 le20
    have k1 := leK le20 k1 (by decide)
    have k4 := leK le20 k4 (by decide)
    have k17 := leK le20 k17 (by decide)
    replace s2 := s2.le sc2 (le20)
    replace s6 := s6.le sc6 (le20)
    obtain ⟨k22, hf⟩ := hf
    obtain ⟨n26, hf⟩ := hf
    obtain ⟨i23, hf⟩ := hf
    refine x_iast (pc' := 38) (dX52_make 20 rfl rfl) rfl k22 (Or.inr ⟨n26, by decide⟩) i23 (fun h24 e25 => ?_)
    replace hf := hf h24 e25
    replace k1 : hK h24 l0 = 48 := by rw [e25]; exact k1
    replace k4 : hK h24 b2 = 6 := by rw [e25]; exact k4
    replace k17 : hK h24 b13 = 6 := by rw [e25]; exact k17
    replace k22 : hK h24 l2 = 1000 := by rw [e25]; exact k22
    replace s2 : So 2 (gW G) h24 := by rw [e25]; exact s2.le sc2 (sI_le )
    replace s6 : So 6 (gW G) h24 := by rw [e25]; exact s6.le sc6 (sI_le )
    replace hf := hf _ rfl
    refine x_iinc (pc' := 41) 3 (dX52_make 21 rfl rfl) rfl (by rfl) (by decide) rfl rfl ?_
    refine x_goto (tgt := 12) (dX52_make 22 rfl rfl) (by decide) ?_
    exact X.sub [1, 2, 3, 0] rfl (by simp) hf
theorem bX53_init (G : Gh) (d : Nat) (h : AH) (Q : Outcome → AH → Prop) (a0 : Nat) (p1 : Int32) (hf : C G mX51_init d [.ref (a0), .int (p1)] h (KV Q (fun h1 => Q (.returned none) h1))) : C G mX53_init (d + 1) [.ref (a0), .int (p1)] h Q := by
  refine C.of_X (by decide +kernel) (Nat.le_of_ble_eq_true rfl) wX53_init ?_
  show X G mX53_init (d + 1) (some a0) [] 0 [(0, .ref (a0)), (1, .int (p1))] [] h Q
  refine x_aload_n (pc' := 1) 0 (dX53_init 0 rfl rfl) rfl rfl rfl ?_
  refine x_iload_n (pc' := 2) 1 (dX53_init 1 rfl rfl) rfl rfl rfl ?_
  refine x_inv (pc' := 5) (ν := mX51_init) (av := [_, _]) (st := []) rfl rfl (dX53_init 2 rfl rfl) (Nat.le_of_ble_eq_true rfl) wX51_init q272 (inv_I (dX53_init 2 rfl rfl) q1960 q1938 q1939 rfl (by decide) lX51_init) (fun b hb => by exact Or.inr (by rw [← hb]; rfl)) rfl ?_
  refine C.mono hf (fun _ _ => KV.g (fun h1 hf le2 => ?_))
  exact x_vret (dX53_init 3 rfl rfl) rfl hf
theorem bX53_resolve (G : Gh) (d : Nat) (h : AH) (Q : Outcome → AH → Prop) (a0 : Nat) (p2 : Nat) (hf : hK h a0 = 49 ∧ (∀ h2, h2 = pI h a0 357 0 → (X G mX53_resolve (d + 1) none [] 5 [(0, .ref (a0)), (1, .ref (gW G 4)), (2, .ref (p2))] [] h2 Q))) : C G mX53_resolve (d + 1) [.ref (a0), .ref (gW G 4), .ref (p2)] h Q := by
  refine C.of_X (by decide +kernel) (Nat.le_of_ble_eq_true rfl) wX53_resolve ?_
  show X G mX53_resolve (d + 1) none [] 0 [(0, .ref (a0)), (1, .ref (gW G 4)), (2, .ref (p2))] [] h Q
  refine x_aload_n (pc' := 1) 0 (dX53_resolve 0 rfl rfl) rfl rfl rfl ?_
  refine x_iconst (pc' := 2) (v := 0) (dX53_resolve 1 rfl rfl) (by decide) rfl ?_
  obtain ⟨k1, hf⟩ := hf
  refine x_putI (pc' := 5) (dX53_resolve 2 rfl rfl) g357 q1961 (Or.inl rfl) (Or.inl rfl) (Or.inl (by decide)) rfl (hf_of 48 k1 rfl (by decide) m48_357) (fun h2 e3 => ?_)
  replace hf := hf h2 e3
  replace k1 : hK h2 a0 = 49 := by rw [e3]; exact k1
  exact X.sub [0, 1, 2] rfl (by simp) hf
theorem bX53_resolve_5 (G : Gh) (d : Nat) (h : AH) (Q : Outcome → AH → Prop) (l0 : Nat) (l2 : Nat) (s4 : So 4 (gW G) h) (hf : hK h l0 = 49 ∧ (hK h l2 = 47 ∧ (((fI h l2 351) ≤ (fI h l0 357) → (C G mX9_found d [.ref (gW G 4), .int (2), .int (fI h l0 354)] h (KV Q (fun h4 => Q (.returned none) h4)))) ∧ (¬ ((fI h l2 351) ≤ (fI h l0 357)) → (∃ b6, fR h l2 350 = some b6 ∧ (hK h b6 = 1000 ∧ vp_in (fI h l0 357) (hL h b6) ∧ (C G mX9_isTwice d [.ref (gW G 4), .int (fI h l0 354), .int (aI h b6 (fI h l0 357).toNatClampNeg)] h (KI Q (fun x12 h10 => (x12 = 0 → (∀ h14, h14 = pI h10 l0 357 ((fI h10 l0 357) + 1) → (X G mX53_resolve (d + 1) none [] 5 [(0, .ref (l0)), (1, .ref (gW G 4)), (2, .ref (l2))] [] h14 Q))) ∧ (¬ x12 = 0 → (Q (.returned none) h10))))))))))) : X G mX53_resolve (d + 1) none [] 5 [(0, .ref (l0)), (1, .ref (gW G 4)), (2, .ref (l2))] [] h Q := by
  refine x_aload_n (pc' := 6) 0 (dX53_resolve 3 rfl rfl) rfl rfl rfl ?_
  obtain ⟨k1, hf⟩ := hf
  refine x_getI (pc' := 9) (dX53_resolve 4 rfl rfl) g357 q1961 (Or.inl rfl) rfl (hf_of 48 k1 rfl (by decide) m48_357) ?_
  refine x_aload_n (pc' := 10) 2 (dX53_resolve 5 rfl rfl) rfl rfl rfl ?_
  obtain ⟨k2, hf⟩ := hf
  refine x_getI (pc' := 13) (dX53_resolve 6 rfl rfl) g351 q1898 (Or.inl rfl) rfl (hf_of 46 k2 rfl (by decide) m46_351) ?_
  refine x_icmp_ge (pc' := 16) (tgt := 50) (dX53_resolve 7 rfl rfl) (by decide) rfl (fun c3 => ?_) (fun c3 => ?_)
  · replace hf := hf.1 c3
    refine x_aload_n (pc' := 51) 1 (dX53_resolve 26 rfl rfl) rfl rfl rfl ?_
    refine x_iconst (pc' := 52) (v := 2) (dX53_resolve 27 rfl rfl) (by decide) rfl ?_
    refine x_aload_n (pc' := 53) 0 (dX53_resolve 28 rfl rfl) rfl rfl rfl ?_
    refine x_getI (pc' := 56) (dX53_resolve 29 rfl rfl) g354 q1946 (Or.inr q1947) rfl (hf_of 48 k1 rfl (by decide) m48_354) ?_
    refine x_inv (pc' := 59) (ν := mX9_found) (av := [_, _, _]) (st := []) rfl rfl (dX53_resolve 30 rfl rfl) (Nat.le_of_ble_eq_true rfl) wX9_found q223 (inv_V (k := 7) (dX53_resolve 30 rfl rfl) q2121 q2061 q2062 wX9_found (by decide) lX9_found (by decide) s4.1) (exN (by decide)) rfl ?_
    refine C.mono hf (fun _ _ => KV.g (fun h4 hf le5 => ?_))
    have k1 := leK le5 k1 (by decide)
    have k2 := leK le5 k2 (by decide)
    replace s4 := s4.le sc4 (le5)
    exact x_vret (dX53_resolve 31 rfl rfl) rfl hf
  · replace hf := hf.2 c3
    refine x_aload_n (pc' := 17) 1 (dX53_resolve 8 rfl rfl) rfl rfl rfl ?_
    refine x_aload_n (pc' := 18) 0 (dX53_resolve 9 rfl rfl) rfl rfl rfl ?_
    refine x_getI (pc' := 21) (dX53_resolve 10 rfl rfl) g354 q1946 (Or.inr q1947) rfl (hf_of 48 k1 rfl (by decide) m48_354) ?_
    refine x_aload_n (pc' := 22) 2 (dX53_resolve 11 rfl rfl) rfl rfl rfl ?_
    obtain ⟨b6, e7, hf⟩ := hf
    refine x_getR (pc' := 25) (dX53_resolve 12 rfl rfl) g350 q1895 (Or.inl rfl) rfl (hf_of 46 k2 rfl (by decide) m46_350) e7 ?_
    refine x_aload_n (pc' := 26) 0 (dX53_resolve 13 rfl rfl) rfl rfl rfl ?_
    refine x_getI (pc' := 29) (dX53_resolve 14 rfl rfl) g357 q1961 (Or.inl rfl) rfl (hf_of 48 k1 rfl (by decide) m48_357) ?_
    obtain ⟨k8, hf⟩ := hf
    obtain ⟨i9, hf⟩ := hf
    refine x_iald (pc' := 30) (dX53_resolve 15 rfl rfl) rfl k8 i9 ?_
    refine x_inv (pc' := 33) (ν := mX9_isTwice) (av := [_, _, _]) (st := []) rfl rfl (dX53_resolve 16 rfl rfl) (Nat.le_of_ble_eq_true rfl) wX9_isTwice q223 (inv_V (k := 7) (dX53_resolve 16 rfl rfl) q2120 q2053 q2054 wX9_isTwice (by decide) lX9_isTwice (by decide) s4.1) (exN (by decide)) rfl ?_
    refine C.mono hf (fun _ _ => KI.g (fun x12 h10 hf le11 => ?_))
    have k1 := leK le11 k1 (by decide)
    have k2 := leK le11 k2 (by decide)
    have k8 := leK le11 k8 (by decide)
    replace s4 := s4.le sc4 (le11)
    refine x_if_eq (pc' := 36) (tgt := 37) (dX53_resolve 17 rfl rfl) (by decide) rfl (fun c13 => ?_) (fun c13 => ?_)
    · replace hf := hf.1 c13
      refine x_aload_n (pc' := 38) 0 (dX53_resolve 19 rfl rfl) rfl rfl rfl ?_
      refine x_dup (pc' := 39) (dX53_resolve 20 rfl rfl) rfl rfl ?_
      refine x_getI (pc' := 42) (dX53_resolve 21 rfl rfl) g357 q1961 (Or.inl rfl) rfl (hf_of 48 k1 rfl (by decide) m48_357) ?_
      refine x_iconst (pc' := 43) (v := 1) (dX53_resolve 22 rfl rfl) (by decide) rfl ?_
      refine x_iadd (pc' := 44) (dX53_resolve 23 rfl rfl) rfl ?_
      refine x_putI (pc' := 47) (dX53_resolve 24 rfl rfl) g357 q1961 (Or.inl rfl) (Or.inl rfl) (Or.inl (by decide)) rfl (hf_of 48 k1 rfl (by decide) m48_357) (fun h14 e15 => ?_)
      replace hf := hf h14 e15
      replace k1 : hK h14 l0 = 49 := by rw [e15]; exact k1
      replace k2 : hK h14 l2 = 47 := by rw [e15]; exact k2
      replace k8 : hK h14 b6 = 1000 := by rw [e15]; exact k8
      replace s4 : So 4 (gW G) h14 := by rw [e15]; exact s4.le sc4 (pI_le (Or.inl rfl))
      refine x_goto (tgt := 5) (dX53_resolve 25 rfl rfl) (by decide) ?_
      exact X.sub [0, 1, 2] rfl (by simp) hf
    · replace hf := hf.2 c13
      exact x_vret (dX53_resolve 18 rfl rfl) rfl hf
theorem bX53_make (G : Gh) (d : Nat) (h : AH) (Q : Outcome → AH → Prop) (a0 : Nat) (s6 : So 6 (gW G) h) (hf : hK h a0 = 49 ∧ (C G mX11_variable d [.ref (gW G 6), .int (fI h a0 357)] h (KI Q (fun x4 h2 => Q (.returned (some (.int x4))) h2)))) : C G mX53_make (d + 1) [.ref (a0), .ref (gW G 6)] h Q := by
  refine C.of_X (by decide +kernel) (Nat.le_of_ble_eq_true rfl) wX53_make ?_
  show X G mX53_make (d + 1) none [] 0 [(0, .ref (a0)), (1, .ref (gW G 6))] [] h Q
  refine x_aload_n (pc' := 1) 1 (dX53_make 0 rfl rfl) rfl rfl rfl ?_
  refine x_aload_n (pc' := 2) 0 (dX53_make 1 rfl rfl) rfl rfl rfl ?_
  obtain ⟨k1, hf⟩ := hf
  refine x_getI (pc' := 5) (dX53_make 2 rfl rfl) g357 q1961 (Or.inl rfl) rfl (hf_of 48 k1 rfl (by decide) m48_357) ?_
  refine x_inv (pc' := 8) (ν := mX11_variable) (av := [_, _]) (st := []) rfl rfl (dX53_make 3 rfl rfl) (Nat.le_of_ble_eq_true rfl) wX11_variable q225 (inv_V (k := 9) (dX53_make 3 rfl rfl) q2367 q2368 q2369 wX11_variable (by decide) lX11_variable (by decide) s6.1) (exN (by decide)) rfl ?_
  refine C.mono hf (fun _ _ => KI.g (fun x4 h2 hf le3 => ?_))
  have k1 := leK le3 k1 (by decide)
  replace s6 := s6.le sc6 (le3)
  exact x_iret (dX53_make 4 rfl rfl) rfl hf
theorem bX54_init (G : Gh) (d : Nat) (h : AH) (Q : Outcome → AH → Prop) (a0 : Nat) (p1 : Int32) (p2 : Nat) (hf : C G mX51_init d [.ref (a0), .int (p1)] h (KV Q (fun h1 => hK h1 a0 = 50 ∧ (∀ h4, h4 = pR h1 a0 358 (some p2) → (Q (.returned none) h4))))) : C G mX54_init (d + 1) [.ref (a0), .int (p1), .ref (p2)] h Q := by
  refine C.of_X (by decide +kernel) (Nat.le_of_ble_eq_true rfl) wX54_init ?_
  show X G mX54_init (d + 1) (some a0) [] 0 [(0, .ref (a0)), (1, .int (p1)), (2, .ref (p2))] [] h Q
  refine x_aload_n (pc' := 1) 0 (dX54_init 0 rfl rfl) rfl rfl rfl ?_
  refine x_iload_n (pc' := 2) 1 (dX54_init 1 rfl rfl) rfl rfl rfl ?_
  refine x_inv (pc' := 5) (ν := mX51_init) (av := [_, _]) (st := []) rfl rfl (dX54_init 2 rfl rfl) (Nat.le_of_ble_eq_true rfl) wX51_init q272 (inv_I (dX54_init 2 rfl rfl) q1971 q1938 q1939 rfl (by decide) lX51_init) (fun b hb => by exact Or.inr (by rw [← hb]; rfl)) rfl ?_
  refine C.mono hf (fun _ _ => KV.g (fun h1 hf le2 => ?_))
  refine x_aload_n (pc' := 6) 0 (dX54_init 3 rfl rfl) rfl rfl rfl ?_
  refine x_aload_n (pc' := 7) 2 (dX54_init 4 rfl rfl) rfl rfl rfl ?_
  obtain ⟨k3, hf⟩ := hf
  refine x_putR (pc' := 10) (dX54_init 5 rfl rfl) g358 q1972 (Or.inl rfl) (Or.inr ⟨rfl, rfl, rfl, rfl⟩) (Or.inr rfl) rfl (hf_of 49 k3 rfl (by decide) m49_358) (fun h4 e5 => ?_)
  replace hf := hf h4 e5
  replace k3 : hK h4 a0 = 50 := by rw [e5]; exact k3
  exact x_vret (dX54_init 6 rfl rfl) rfl hf
theorem bX54_resolve (G : Gh) (d : Nat) (h : AH) (Q : Outcome → AH → Prop) (a0 : Nat) (p2 : Nat) (hf : X G mX54_resolve (d + 1) none [] 2 [(0, .ref (a0)), (1, .ref (gW G 4)), (2, .ref (p2)), (3, .int (0))] [] h Q) : C G mX54_resolve (d + 1) [.ref (a0), .ref (gW G 4), .ref (p2)] h Q := by
  refine C.of_X (by decide +kernel) (Nat.le_of_ble_eq_true rfl) wX54_resolve ?_
  show X G mX54_resolve (d + 1) none [] 0 [(0, .ref (a0)), (1, .ref (gW G 4)), (2, .ref (p2))] [] h Q
  refine x_iconst (pc' := 1) (v := 0) (dX54_resolve 0 rfl rfl) (by decide) rfl ?_
  refine x_istore_n (pc' := 2) (dX54_resolve 1 rfl rfl) rfl (by decide) rfl rfl ?_
  exact X.sub [1, 2, 3, 0] rfl (by simp) hf
theorem bX54_resolve_2 (G : Gh) (d : Nat) (h : AH) (Q : Outcome → AH → Prop) (l0 : Nat) (l2 : Nat) (l3 : Int32) (hf : hK h l0 = 50 ∧ (∃ b2, fR h l0 358 = some b2 ∧ (hK h b2 = 6 ∧ (((fI h b2 78) ≤ l3 → (Q (.returned none) h)) ∧ (¬ ((fI h b2 78) ≤ l3) → (∃ b6, fR h l0 358 = some b6 ∧ (hK h b6 = 6 ∧ (C G mX7_ty d [.ref (b6), .int (l3)] h (KR Q (fun b11 h8 => ∃ (k : Nat) (ν : Mu), VT ⟨"LetMill$Ty", "resolve", "(LLetMill$Scope;LLetMill$Data;)V"⟩ VMTy_resolve k ν ∧ hK h8 b11 = k + 1 ∧ C G ν d [.ref (b11), .ref (gW G 4), .ref (l2)] h8 (KV Q (fun h12 => ∀ x14 : Int32, x14 = l3 + 1 → (X G mX54_resolve (d + 1) none [] 2 [(0, .ref (l0)), (1, .ref (gW G 4)), (2, .ref (l2)), (3, .int (x14))] [] h12 Q))))))))))))) : X G mX54_resolve (d + 1) none [] 2 [(0, .ref (l0)), (1, .ref (gW G 4)), (2, .ref (l2)), (3, .int (l3))] [] h Q := by
  refine x_iload_n (pc' := 3) 3 (dX54_resolve 2 rfl rfl) rfl rfl rfl ?_
  refine x_aload_n (pc' := 4) 0 (dX54_resolve 3 rfl rfl) rfl rfl rfl ?_
  obtain ⟨k1, hf⟩ := hf
  obtain ⟨b2, e3, hf⟩ := hf
  refine x_getR (pc' := 7) (dX54_resolve 4 rfl rfl) g358 q1972 (Or.inl rfl) rfl (hf_of 49 k1 rfl (by decide) m49_358) e3 ?_
  obtain ⟨k4, hf⟩ := hf
  refine x_getI (pc' := 10) (dX54_resolve 5 rfl rfl) g78 q568 (Or.inl rfl) rfl (hf_of 5 k4 rfl (by decide) m5_78) ?_
  refine x_icmp_ge (pc' := 13) (tgt := 32) (dX54_resolve 6 rfl rfl) (by decide) rfl (fun c5 => ?_) (fun c5 => ?_)
  · replace hf := hf.1 c5
    exact x_vret (dX54_resolve 16 rfl rfl) rfl hf
  · replace hf := hf.2 c5
    refine x_aload_n (pc' := 14) 0 (dX54_resolve 7 rfl rfl) rfl rfl rfl ?_
    obtain ⟨b6, e7, hf⟩ := hf
    refine x_getR (pc' := 17) (dX54_resolve 8 rfl rfl) g358 q1972 (Or.inl rfl) rfl (hf_of 49 k1 rfl (by decide) m49_358) e7 ?_
    refine x_iload_n (pc' := 18) 3 (dX54_resolve 9 rfl rfl) rfl rfl rfl ?_
    obtain ⟨k10, hf⟩ := hf
    refine x_inv (pc' := 21) (ν := mX7_ty) (av := [_, _]) (st := []) rfl rfl (dX54_resolve 10 rfl rfl) (Nat.le_of_ble_eq_true rfl) wX7_ty q221 (inv_V (k := 5) (dX54_resolve 10 rfl rfl) q2116 q1928 q1929 wX7_ty (by decide) lX7_ty (by decide) k10) (exN (by decide)) rfl ?_
    refine C.mono hf (fun _ _ => KR.g (fun b11 h8 hf le9 => ?_))
    have k1 := leK le9 k1 (by decide)
    have k4 := leK le9 k4 (by decide)
    have k10 := leK le9 k10 (by decide)
    refine x_aload_n (pc' := 22) 1 (dX54_resolve 11 rfl rfl) rfl rfl rfl ?_
    refine x_aload_n (pc' := 23) 2 (dX54_resolve 12 rfl rfl) rfl rfl rfl ?_
    obtain ⟨k, ν, ⟨v0, v1, v2, v3, v4, v5, v6, v7⟩, k15, hf⟩ := hf
    refine x_inv (pc' := 26) (ν := ν) (st := []) rfl (sub_tr v7 rfl) (dX54_resolve 13 rfl rfl) (by have := v5; simp only [List.map, List.sum_cons, List.sum_nil, Value.category]; omega) v1 v2 (inv_U (k := k) (av := [_, _]) (dX54_resolve 13 rfl rfl) q2117 q2094 (by decide) v3 v4 (by decide) (show _ = some 2 by decide +kernel) v0 k15) (exN v6) rfl ?_
    refine C.mono hf (fun _ _ => KV.g (fun h12 hf le13 => ?_))
    replace le13 := Le.nx v6 le13
    have k1 := leK le13 k1 (by decide)
    have k4 := leK le13 k4 (by decide)
    have k10 := leK le13 k10 (by decide)
    replace hf := hf _ rfl
    refine x_iinc (pc' := 29) 3 (dX54_resolve 14 rfl rfl) rfl (by rfl) (by decide) rfl rfl ?_
    refine x_goto (tgt := 2) (dX54_resolve 15 rfl rfl) (by decide) ?_
    exact X.sub [1, 2, 3, 0] rfl (by simp) hf
theorem bX54_make (G : Gh) (d : Nat) (h : AH) (Q : Outcome → AH → Prop) (a0 : Nat) (hf : hK h a0 = 50 ∧ (∃ b2, fR h a0 358 = some b2 ∧ (hK h b2 = 6 ∧ ((¬ (fI h b2 78 : Int32) < 0) ∧ (hc h + 1 ≤ MC) ∧ (hs h + (fI h b2 78 : Int32).toNatClampNeg ≤ MS) ∧ ∀ q5, hK h q5 = 0 → ∀ h7, h7 = nA h q5 0 (fI h b2 78 : Int32).toNatClampNeg → (X G mX54_make (d + 1) none [] 12 [(0, .ref (a0)), (1, .ref (gW G 6)), (2, .ref (q5)), (3, .int (0))] [] h7 Q))))) : C G mX54_make (d + 1) [.ref (a0), .ref (gW G 6)] h Q := by
  refine C.of_X (by decide +kernel) (Nat.le_of_ble_eq_true rfl) wX54_make ?_
  show X G mX54_make (d + 1) none [] 0 [(0, .ref (a0)), (1, .ref (gW G 6))] [] h Q
  refine x_aload_n (pc' := 1) 0 (dX54_make 0 rfl rfl) rfl rfl rfl ?_
  obtain ⟨k1, hf⟩ := hf
  obtain ⟨b2, e3, hf⟩ := hf
  refine x_getR (pc' := 4) (dX54_make 1 rfl rfl) g358 q1972 (Or.inl rfl) rfl (hf_of 49 k1 rfl (by decide) m49_358) e3 ?_
  obtain ⟨k4, hf⟩ := hf
  refine x_getI (pc' := 7) (dX54_make 2 rfl rfl) g78 q568 (Or.inl rfl) rfl (hf_of 5 k4 rfl (by decide) m5_78) ?_
  obtain ⟨z9, n1, n2, hf⟩ := hf
  refine x_newa0 (pc' := 9) (dX54_make 3 rfl rfl) rfl z9 (by decide) n1 n2 (fun q5 h7 k6 e8 => ?_)
  replace hf := hf q5 k6 h7 e8
  replace k1 : hK h7 a0 = 50 := by rw [e8]; exact kNA k1 (by decide) k6
  replace k4 : hK h7 b2 = 6 := by rw [e8]; exact kNA k4 (by decide) k6
  have k10 : hK h7 q5 = 1000 := by rw [e8]; exact kNAs
  refine x_astore_n (pc' := 10) (dX54_make 4 rfl rfl) rfl (by decide) rfl rfl ?_
  refine x_iconst (pc' := 11) (v := 0) (dX54_make 5 rfl rfl) (by decide) rfl ?_
  refine x_istore_n (pc' := 12) (dX54_make 6 rfl rfl) rfl (by decide) rfl rfl ?_
  exact X.sub [2, 3, 1, 0] rfl (by simp) hf
theorem bX54_make_12 (G : Gh) (d : Nat) (h : AH) (Q : Outcome → AH → Prop) (l0 : Nat) (l2 : Nat) (l3 : Int32) (s2 : So 2 (gW G) h) (s6 : So 6 (gW G) h) (hf : hK h l0 = 50 ∧ (∃ b2, fR h l0 358 = some b2 ∧ (hK h b2 = 6 ∧ (((fI h b2 78) ≤ l3 → (∃ b6, fR h l0 358 = some b6 ∧ (hK h b6 = 6 ∧ (hK h l2 = 1000 ∧ (C G mX3_built_2 d [.ref (gW G 2), .int (fI h b6 78), .ref (l2), .int (0), .int (Int32.ofNat (hL h l2))] h (KI Q (fun x12 h10 => Q (.returned (some (.int x12))) h10))))))) ∧ (¬ ((fI h b2 78) ≤ l3) → (∃ b13, fR h l0 358 = some b13 ∧ (hK h b13 = 6 ∧ (C G mX7_ty d [.ref (b13), .int (l3)] h (KR Q (fun b18 h15 => ∃ (k : Nat) (ν : Mu), VT ⟨"LetMill$Ty", "make", "(LLetMill$Typer;)I"⟩ VMTy_make k ν ∧ hK h15 b18 = k + 1 ∧ C G ν d [.ref (b18), .ref (gW G 6)] h15 (KI Q (fun x21 h19 => hK h19 l2 = 1000 ∧ Ns (gW G) l2 ∧ vp_in l3 (hL h19 l2) ∧ ∀ h24, h24 = sI h19 l2 l3.toNatClampNeg x21 → (∀ x27 : Int32, x27 = l3 + 1 → (X G mX54_make (d + 1) none [] 12 [(0, .ref (l0)), (1, .ref (gW G 6)), (2, .ref (l2)), (3, .int (x27))] [] h24 Q)))))))))))))) : X G mX54_make (d + 1) none [] 12 [(0, .ref (l0)), (1, .ref (gW G 6)), (2, .ref (l2)), (3, .int (l3))] [] h Q := by
  refine x_iload_n (pc' := 13) 3 (dX54_make 7 rfl rfl) rfl rfl rfl ?_
  refine x_aload_n (pc' := 14) 0 (dX54_make 8 rfl rfl) rfl rfl rfl ?_
  obtain ⟨k1, hf⟩ := hf
  obtain ⟨b2, e3, hf⟩ := hf
  refine x_getR (pc' := 17) (dX54_make 9 rfl rfl) g358 q1972 (Or.inl rfl) rfl (hf_of 49 k1 rfl (by decide) m49_358) e3 ?_
  obtain ⟨k4, hf⟩ := hf
  refine x_getI (pc' := 20) (dX54_make 10 rfl rfl) g78 q568 (Or.inl rfl) rfl (hf_of 5 k4 rfl (by decide) m5_78) ?_
  refine x_icmp_ge (pc' := 23) (tgt := 44) (dX54_make 11 rfl rfl) (by decide) rfl (fun c5 => ?_) (fun c5 => ?_)
  · replace hf := hf.1 c5
    refine x_aload_n (pc' := 45) 1 (dX54_make 23 rfl rfl) rfl rfl rfl ?_
    refine x_getR (pc' := 48) (dX54_make 24 rfl rfl) g108 q817 (Or.inl rfl) rfl (hf_of 9 s6.1 rfl (by decide) m9_108) (s6.2 0 _ rfl rfl).1 ?_
    refine x_aload_n (pc' := 49) 0 (dX54_make 25 rfl rfl) rfl rfl rfl ?_
    obtain ⟨b6, e7, hf⟩ := hf
    refine x_getR (pc' := 52) (dX54_make 26 rfl rfl) g358 q1972 (Or.inl rfl) rfl (hf_of 49 k1 rfl (by decide) m49_358) e7 ?_
    obtain ⟨k8, hf⟩ := hf
    refine x_getI (pc' := 55) (dX54_make 27 rfl rfl) g78 q568 (Or.inl rfl) rfl (hf_of 5 k8 rfl (by decide) m5_78) ?_
    refine x_aload_n (pc' := 56) 2 (dX54_make 28 rfl rfl) rfl rfl rfl ?_
    refine x_iconst (pc' := 57) (v := 0) (dX54_make 29 rfl rfl) (by decide) rfl ?_
    refine x_aload_n (pc' := 58) 2 (dX54_make 30 rfl rfl) rfl rfl rfl ?_
    obtain ⟨k9, hf⟩ := hf
    refine x_alen (pc' := 59) (t := 0) (ty := .int) (dX54_make 31 rfl rfl) rfl rfl k9 ?_
    refine x_inv (pc' := 62) (ν := mX3_built_2) (av := [_, _, _, _, _]) (st := []) rfl rfl (dX54_make 32 rfl rfl) (Nat.le_of_ble_eq_true rfl) wX3_built_2 q213 (inv_V (k := 2) (dX54_make 32 rfl rfl) q2371 q2349 q2350 wX3_built_2 (by decide) lX3_built_2 (by decide) s2.1) (exN (by decide)) rfl ?_
    refine C.mono hf (fun _ _ => KI.g (fun x12 h10 hf le11 => ?_))
    have k1 := leK le11 k1 (by decide)
    have k4 := leK le11 k4 (by decide)
    have k8 := leK le11 k8 (by decide)
    have k9 := leK le11 k9 (by decide)
    replace s2 := s2.le sc2 (le11)
    replace s6 := s6.le sc6 (le11)
    exact x_iret (dX54_make 33 rfl rfl) rfl hf
  · replace hf := hf.2 c5
    refine x_aload_n (pc' := 24) 2 (dX54_make 12 rfl rfl) rfl rfl rfl ?_
    refine x_iload_n (pc' := 25) 3 (dX54_make 13 rfl rfl) rfl rfl rfl ?_
    refine x_aload_n (pc' := 26) 0 (dX54_make 14 rfl rfl) rfl rfl rfl ?_
    obtain ⟨b13, e14, hf⟩ := hf
    refine x_getR (pc' := 29) (dX54_make 15 rfl rfl) g358 q1972 (Or.inl rfl) rfl (hf_of 49 k1 rfl (by decide) m49_358) e14 ?_
    refine x_iload_n (pc' := 30) 3 (dX54_make 16 rfl rfl) rfl rfl rfl ?_
    obtain ⟨k17, hf⟩ := hf
    refine x_inv (pc' := 33) (ν := mX7_ty) (av := [_, _]) (st := [_, _]) rfl rfl (dX54_make 17 rfl rfl) (Nat.le_of_ble_eq_true rfl) wX7_ty q221 (inv_V (k := 5) (dX54_make 17 rfl rfl) q2116 q1928 q1929 wX7_ty (by decide) lX7_ty (by decide) k17) (exN (by decide)) rfl ?_
    refine C.mono hf (fun _ _ => KR.g (fun b18 h15 hf le16 => ?_))
    have k1 := leK le16 k1 (by decide)
    have k4 := leK le16 k4 (by decide)
    have k17 := leK le16 k17 (by decide)
    replace s2 := s2.le sc2 (le16)
    replace s6 := s6.le sc6 (le16)
    refine x_aload_n (pc' := 34) 1 (dX54_make 18 rfl rfl) rfl rfl rfl ?_
    obtain ⟨k, ν, ⟨v0, v1, v2, v3, v4, v5, v6, v7⟩, k28, hf⟩ := hf
    refine x_inv (pc' := 37) (ν := ν) (st := [_, _]) rfl (sub_tr v7 rfl) (dX54_make 19 rfl rfl) (by have := v5; simp only [List.map, List.sum_cons, List.sum_nil, Value.category]; omega) v1 v2 (inv_U (k := k) (av := [_]) (dX54_make 19 rfl rfl) q2364 q2354 (by decide) v3 v4 (by decide) (show _ = some 1 by decide +kernel) v0 k28) (exN v6) rfl ?_
    refine C.mono hf (fun _ _ => KI.g (fun x21 h19 hf le20 => ?_))
    replace le20 := Le.nx v6 le20
    have k1 := leK le20 k1 (by decide)
    have k4 := leK le20 k4 (by decide)
    have k17 := leK le20 k17 (by decide)
    replace s2 := s2.le sc2 (le20)
    replace s6 := s6.le sc6 (le20)
    obtain ⟨k22, hf⟩ := hf
    obtain ⟨n26, hf⟩ := hf
    obtain ⟨i23, hf⟩ := hf
    refine x_iast (pc' := 38) (dX54_make 20 rfl rfl) rfl k22 (Or.inr ⟨n26, by decide⟩) i23 (fun h24 e25 => ?_)
    replace hf := hf h24 e25
    replace k1 : hK h24 l0 = 50 := by rw [e25]; exact k1
    replace k4 : hK h24 b2 = 6 := by rw [e25]; exact k4
    replace k17 : hK h24 b13 = 6 := by rw [e25]; exact k17
    replace k22 : hK h24 l2 = 1000 := by rw [e25]; exact k22
    replace s2 : So 2 (gW G) h24 := by rw [e25]; exact s2.le sc2 (sI_le )
    replace s6 : So 6 (gW G) h24 := by rw [e25]; exact s6.le sc6 (sI_le )
    replace hf := hf _ rfl
    refine x_iinc (pc' := 41) 3 (dX54_make 21 rfl rfl) rfl (by rfl) (by decide) rfl rfl ?_
    refine x_goto (tgt := 12) (dX54_make 22 rfl rfl) (by decide) ?_
    exact X.sub [1, 2, 3, 0] rfl (by simp) hf
theorem bX55_init (G : Gh) (d : Nat) (h : AH) (Q : Outcome → AH → Prop) (a0 : Nat) (p1 : Int32) (p2 : Nat) (p3 : Nat) (hf : C G mX51_init d [.ref (a0), .int (p1)] h (KV Q (fun h1 => hK h1 a0 = 51 ∧ (∀ h4, h4 = pR h1 a0 359 (some p2) → (∀ h5, h5 = pR h4 a0 360 (some p3) → (Q (.returned none) h5)))))) : C G mX55_init (d + 1) [.ref (a0), .int (p1), .ref (p2), .ref (p3)] h Q := by
  refine C.of_X (by decide +kernel) (Nat.le_of_ble_eq_true rfl) wX55_init ?_
  show X G mX55_init (d + 1) (some a0) [] 0 [(0, .ref (a0)), (1, .int (p1)), (2, .ref (p2)), (3, .ref (p3))] [] h Q
  refine x_aload_n (pc' := 1) 0 (dX55_init 0 rfl rfl) rfl rfl rfl ?_
  refine x_iload_n (pc' := 2) 1 (dX55_init 1 rfl rfl) rfl rfl rfl ?_
  refine x_inv (pc' := 5) (ν := mX51_init) (av := [_, _]) (st := []) rfl rfl (dX55_init 2 rfl rfl) (Nat.le_of_ble_eq_true rfl) wX51_init q272 (inv_I (dX55_init 2 rfl rfl) q1982 q1938 q1939 rfl (by decide) lX51_init) (fun b hb => by exact Or.inr (by rw [← hb]; rfl)) rfl ?_
  refine C.mono hf (fun _ _ => KV.g (fun h1 hf le2 => ?_))
  refine x_aload_n (pc' := 6) 0 (dX55_init 3 rfl rfl) rfl rfl rfl ?_
  refine x_aload_n (pc' := 7) 2 (dX55_init 4 rfl rfl) rfl rfl rfl ?_
  obtain ⟨k3, hf⟩ := hf
  refine x_putR (pc' := 10) (dX55_init 5 rfl rfl) g359 q1983 (Or.inl rfl) (Or.inr ⟨rfl, rfl, rfl, rfl⟩) (Or.inr rfl) rfl (hf_of 50 k3 rfl (by decide) m50_359) (fun h4 e7 => ?_)
  replace hf := hf h4 e7
  replace k3 : hK h4 a0 = 51 := by rw [e7]; exact k3
  refine x_aload_n (pc' := 11) 0 (dX55_init 6 rfl rfl) rfl rfl rfl ?_
  refine x_aload_n (pc' := 12) 3 (dX55_init 7 rfl rfl) rfl rfl rfl ?_
  refine x_putR (pc' := 15) (dX55_init 8 rfl rfl) g360 q1984 (Or.inl rfl) (Or.inr ⟨rfl, rfl, rfl, rfl⟩) (Or.inr rfl) rfl (hf_of 50 k3 rfl (by decide) m50_360) (fun h5 e6 => ?_)
  replace hf := hf h5 e6
  replace k3 : hK h5 a0 = 51 := by rw [e6]; exact k3
  exact x_vret (dX55_init 9 rfl rfl) rfl hf
theorem bX55_resolve (G : Gh) (d : Nat) (h : AH) (Q : Outcome → AH → Prop) (a0 : Nat) (p2 : Nat) (hf : hK h a0 = 51 ∧ (∃ b2, fR h a0 359 = some b2 ∧ (∃ (k : Nat) (ν : Mu), VT ⟨"LetMill$Ty", "resolve", "(LLetMill$Scope;LLetMill$Data;)V"⟩ VMTy_resolve k ν ∧ hK h b2 = k + 1 ∧ C G ν d [.ref (b2), .ref (gW G 4), .ref (p2)] h (KV Q (fun h4 => ∃ b6, fR h4 a0 360 = some b6 ∧ (∃ (k : Nat) (ν : Mu), VT ⟨"LetMill$Ty", "resolve", "(LLetMill$Scope;LLetMill$Data;)V"⟩ VMTy_resolve k ν ∧ hK h4 b6 = k + 1 ∧ C G ν d [.ref (b6), .ref (gW G 4), .ref (p2)] h4 (KV Q (fun h8 => Q (.returned none) h8)))))))) : C G mX55_resolve (d + 1) [.ref (a0), .ref (gW G 4), .ref (p2)] h Q := by
  refine C.of_X (by decide +kernel) (Nat.le_of_ble_eq_true rfl) wX55_resolve ?_
  show X G mX55_resolve (d + 1) none [] 0 [(0, .ref (a0)), (1, .ref (gW G 4)), (2, .ref (p2))] [] h Q
  refine x_aload_n (pc' := 1) 0 (dX55_resolve 0 rfl rfl) rfl rfl rfl ?_
  obtain ⟨k1, hf⟩ := hf
  obtain ⟨b2, e3, hf⟩ := hf
  refine x_getR (pc' := 4) (dX55_resolve 1 rfl rfl) g359 q1983 (Or.inl rfl) rfl (hf_of 50 k1 rfl (by decide) m50_359) e3 ?_
  refine x_aload_n (pc' := 5) 1 (dX55_resolve 2 rfl rfl) rfl rfl rfl ?_
  refine x_aload_n (pc' := 6) 2 (dX55_resolve 3 rfl rfl) rfl rfl rfl ?_
  obtain ⟨k, ν, ⟨v0, v1, v2, v3, v4, v5, v6, v7⟩, k13, hf⟩ := hf
  refine x_inv (pc' := 9) (ν := ν) (st := []) rfl (sub_tr v7 rfl) (dX55_resolve 4 rfl rfl) (by have := v5; simp only [List.map, List.sum_cons, List.sum_nil, Value.category]; omega) v1 v2 (inv_U (k := k) (av := [_, _]) (dX55_resolve 4 rfl rfl) q2098 q2094 (by decide) v3 v4 (by decide) (show _ = some 2 by decide +kernel) v0 k13) (exN v6) rfl ?_
  refine C.mono hf (fun _ _ => KV.g (fun h4 hf le5 => ?_))
  replace le5 := Le.nx v6 le5
  have k1 := leK le5 k1 (by decide)
  refine x_aload_n (pc' := 10) 0 (dX55_resolve 5 rfl rfl) rfl rfl rfl ?_
  obtain ⟨b6, e7, hf⟩ := hf
  refine x_getR (pc' := 13) (dX55_resolve 6 rfl rfl) g360 q1984 (Or.inl rfl) rfl (hf_of 50 k1 rfl (by decide) m50_360) e7 ?_
  refine x_aload_n (pc' := 14) 1 (dX55_resolve 7 rfl rfl) rfl rfl rfl ?_
  refine x_aload_n (pc' := 15) 2 (dX55_resolve 8 rfl rfl) rfl rfl rfl ?_
  obtain ⟨k, ν, ⟨v0, v1, v2, v3, v4, v5, v6, v7⟩, k10, hf⟩ := hf
  refine x_inv (pc' := 18) (ν := ν) (st := []) rfl (sub_tr v7 rfl) (dX55_resolve 9 rfl rfl) (by have := v5; simp only [List.map, List.sum_cons, List.sum_nil, Value.category]; omega) v1 v2 (inv_U (k := k) (av := [_, _]) (dX55_resolve 9 rfl rfl) q2098 q2094 (by decide) v3 v4 (by decide) (show _ = some 2 by decide +kernel) v0 k10) (exN v6) rfl ?_
  refine C.mono hf (fun _ _ => KV.g (fun h8 hf le9 => ?_))
  replace le9 := Le.nx v6 le9
  have k1 := leK le9 k1 (by decide)
  exact x_vret (dX55_resolve 10 rfl rfl) rfl hf
theorem bX55_make (G : Gh) (d : Nat) (h : AH) (Q : Outcome → AH → Prop) (a0 : Nat) (s2 : So 2 (gW G) h) (s6 : So 6 (gW G) h) (hf : hK h a0 = 51 ∧ (∃ b2, fR h a0 359 = some b2 ∧ (∃ (k : Nat) (ν : Mu), VT ⟨"LetMill$Ty", "make", "(LLetMill$Typer;)I"⟩ VMTy_make k ν ∧ hK h b2 = k + 1 ∧ C G ν d [.ref (b2), .ref (gW G 6)] h (KI Q (fun x6 h4 => ∃ b7, fR h4 a0 360 = some b7 ∧ (∃ (k : Nat) (ν : Mu), VT ⟨"LetMill$Ty", "make", "(LLetMill$Typer;)I"⟩ VMTy_make k ν ∧ hK h4 b7 = k + 1 ∧ C G ν d [.ref (b7), .ref (gW G 6)] h4 (KI Q (fun x11 h9 => C G mX3_fun d [.ref (gW G 2), .int (x6), .int (x11)] h9 (KI Q (fun x14 h12 => Q (.returned (some (.int x14))) h12)))))))))) : C G mX55_make (d + 1) [.ref (a0), .ref (gW G 6)] h Q := by
  refine C.of_X (by decide +kernel) (Nat.le_of_ble_eq_true rfl) wX55_make ?_
  show X G mX55_make (d + 1) none [] 0 [(0, .ref (a0)), (1, .ref (gW G 6))] [] h Q
  refine x_aload_n (pc' := 1) 0 (dX55_make 0 rfl rfl) rfl rfl rfl ?_
  obtain ⟨k1, hf⟩ := hf
  obtain ⟨b2, e3, hf⟩ := hf
  refine x_getR (pc' := 4) (dX55_make 1 rfl rfl) g359 q1983 (Or.inl rfl) rfl (hf_of 50 k1 rfl (by decide) m50_359) e3 ?_
  refine x_aload_n (pc' := 5) 1 (dX55_make 2 rfl rfl) rfl rfl rfl ?_
  obtain ⟨k, ν, ⟨v0, v1, v2, v3, v4, v5, v6, v7⟩, k18, hf⟩ := hf
  refine x_inv (pc' := 8) (ν := ν) (st := []) rfl (sub_tr v7 rfl) (dX55_make 3 rfl rfl) (by have := v5; simp only [List.map, List.sum_cons, List.sum_nil, Value.category]; omega) v1 v2 (inv_U (k := k) (av := [_]) (dX55_make 3 rfl rfl) q2358 q2354 (by decide) v3 v4 (by decide) (show _ = some 1 by decide +kernel) v0 k18) (exN v6) rfl ?_
  refine C.mono hf (fun _ _ => KI.g (fun x6 h4 hf le5 => ?_))
  replace le5 := Le.nx v6 le5
  have k1 := leK le5 k1 (by decide)
  replace s2 := s2.le sc2 (le5)
  replace s6 := s6.le sc6 (le5)
  refine x_istore_n (pc' := 9) (dX55_make 4 rfl rfl) rfl (by decide) rfl rfl ?_
  refine x_aload_n (pc' := 10) 2 (dX55_make 5 rfl rfl) rfl rfl rfl ?_
  refine x_getR (pc' := 13) (dX55_make 6 rfl rfl) g108 q808 (Or.inl rfl) rfl (hf_of 9 s6.1 rfl (by decide) m9_108) (s6.2 0 _ rfl rfl).1 ?_
  refine x_iload_n (pc' := 14) 0 (dX55_make 7 rfl rfl) rfl rfl rfl ?_
  refine x_aload_n (pc' := 15) 1 (dX55_make 8 rfl rfl) rfl rfl rfl ?_
  obtain ⟨b7, e8, hf⟩ := hf
  refine x_getR (pc' := 18) (dX55_make 9 rfl rfl) g360 q1984 (Or.inl rfl) rfl (hf_of 50 k1 rfl (by decide) m50_360) e8 ?_
  refine x_aload_n (pc' := 19) 2 (dX55_make 10 rfl rfl) rfl rfl rfl ?_
  obtain ⟨k, ν, ⟨v0, v1, v2, v3, v4, v5, v6, v7⟩, k15, hf⟩ := hf
  refine x_inv (pc' := 22) (ν := ν) (st := [_, _]) rfl (sub_tr v7 rfl) (dX55_make 11 rfl rfl) (by have := v5; simp only [List.map, List.sum_cons, List.sum_nil, Value.category]; omega) v1 v2 (inv_U (k := k) (av := [_]) (dX55_make 11 rfl rfl) q2358 q2354 (by decide) v3 v4 (by decide) (show _ = some 1 by decide +kernel) v0 k15) (exN v6) rfl ?_
  refine C.mono hf (fun _ _ => KI.g (fun x11 h9 hf le10 => ?_))
  replace le10 := Le.nx v6 le10
  have k1 := leK le10 k1 (by decide)
  replace s2 := s2.le sc2 (le10)
  replace s6 := s6.le sc6 (le10)
  refine x_inv (pc' := 25) (ν := mX3_fun) (av := [_, _, _]) (st := []) rfl rfl (dX55_make 12 rfl rfl) (Nat.le_of_ble_eq_true rfl) wX3_fun q213 (inv_V (k := 2) (dX55_make 12 rfl rfl) q2373 q2374 q2375 wX3_fun (by decide) lX3_fun (by decide) s2.1) (exN (by decide)) rfl ?_
  refine C.mono hf (fun _ _ => KI.g (fun x14 h12 hf le13 => ?_))
  have k1 := leK le13 k1 (by decide)
  replace s2 := s2.le sc2 (le13)
  replace s6 := s6.le sc6 (le13)
  exact x_iret (dX55_make 13 rfl rfl) rfl hf
theorem bX56_init (G : Gh) (d : Nat) (hd1 : 1 ≤ d) (h : AH) (Q : Outcome → AH → Prop) (a0 : Nat) (p1 : Int32) (p2 : Option Nat) (hf : OC p2 (hK h a0 = 52 ∧ (∀ h2, h2 = pI h a0 361 p1 → (∀ h3, h3 = pR h2 a0 362 none → (Q (.returned none) h3)))) (fun p2v => hK h a0 = 52 ∧ (∀ h7, h7 = pI h a0 361 p1 → (∀ h8, h8 = pR h7 a0 362 (some p2v) → (Q (.returned none) h8))))) : C G mX56_init d [.ref (a0), .int (p1), va_rf p2] h Q := by
  refine C.of_X (by decide) (by cases p2 <;> exact Nat.le_of_ble_eq_true rfl) wX56_init ?_
  show X G mX56_init d (some a0) [] 0 [(0, .ref (a0)), (1, .int (p1)), (2, va_rf p2)] [] h Q
  rcases p2 with _ | p2v
  · replace hf := hf.1 rfl
    refine x_aload_n (pc' := 1) 0 (dX56_init 0 rfl rfl) rfl rfl rfl ?_
    refine x_objInit (pc' := 4) (dX56_init 1 rfl rfl) q1996 q288 q289 (by decide) (by omega) rfl ?_
    refine x_aload_n (pc' := 5) 0 (dX56_init 2 rfl rfl) rfl rfl rfl ?_
    refine x_iload_n (pc' := 6) 1 (dX56_init 3 rfl rfl) rfl rfl rfl ?_
    obtain ⟨k1, hf⟩ := hf
    refine x_putI (pc' := 9) (dX56_init 4 rfl rfl) g361 q1997 (Or.inl rfl) (Or.inr ⟨rfl, rfl, rfl, rfl⟩) (Or.inr rfl) rfl (hf_of 51 k1 rfl (by decide) m51_361) (fun h2 e5 => ?_)
    replace hf := hf h2 e5
    replace k1 : hK h2 a0 = 52 := by rw [e5]; exact k1
    refine x_aload_n (pc' := 10) 0 (dX56_init 5 rfl rfl) rfl rfl rfl ?_
    refine x_aload_nN (pc' := 11) 2 (dX56_init 6 rfl rfl) rfl rfl rfl ?_
    refine x_putN (pc' := 14) (dX56_init 7 rfl rfl) g362 q1999 (Or.inl rfl) (Or.inr ⟨rfl, rfl, rfl, rfl⟩) (Or.inr rfl) rfl (hf_of 51 k1 rfl (by decide) m51_362) (fun h3 e4 => ?_)
    replace hf := hf h3 e4
    replace k1 : hK h3 a0 = 52 := by rw [e4]; exact k1
    exact x_vret (dX56_init 8 rfl rfl) rfl hf
  · replace hf := hf.2 _ rfl
    refine x_aload_n (pc' := 1) 0 (dX56_init 0 rfl rfl) rfl rfl rfl ?_
    refine x_objInit (pc' := 4) (dX56_init 1 rfl rfl) q1996 q288 q289 (by decide) (by omega) rfl ?_
    refine x_aload_n (pc' := 5) 0 (dX56_init 2 rfl rfl) rfl rfl rfl ?_
    refine x_iload_n (pc' := 6) 1 (dX56_init 3 rfl rfl) rfl rfl rfl ?_
    obtain ⟨k6, hf⟩ := hf
    refine x_putI (pc' := 9) (dX56_init 4 rfl rfl) g361 q1997 (Or.inl rfl) (Or.inr ⟨rfl, rfl, rfl, rfl⟩) (Or.inr rfl) rfl (hf_of 51 k6 rfl (by decide) m51_361) (fun h7 e10 => ?_)
    replace hf := hf h7 e10
    replace k6 : hK h7 a0 = 52 := by rw [e10]; exact k6
    refine x_aload_n (pc' := 10) 0 (dX56_init 5 rfl rfl) rfl rfl rfl ?_
    refine x_aload_n (pc' := 11) 2 (dX56_init 6 rfl rfl) rfl rfl rfl ?_
    refine x_putR (pc' := 14) (dX56_init 7 rfl rfl) g362 q1999 (Or.inl rfl) (Or.inr ⟨rfl, rfl, rfl, rfl⟩) (Or.inr rfl) rfl (hf_of 51 k6 rfl (by decide) m51_362) (fun h8 e9 => ?_)
    replace hf := hf h8 e9
    replace k6 : hK h8 a0 = 52 := by rw [e9]; exact k6
    exact x_vret (dX56_init 8 rfl rfl) rfl hf
theorem bX57_init (G : Gh) (d : Nat) (h : AH) (Q : Outcome → AH → Prop) (a0 : Nat) (p1 : Int32) (p2 : Nat) (hf : C G mX29_init d [.ref (a0), .int (p1)] h (KV Q (fun h1 => hK h1 a0 = 53 ∧ (∀ h4, h4 = pR h1 a0 364 (some p2) → (Q (.returned none) h4))))) : C G mX57_init (d + 1) [.ref (a0), .int (p1), .ref (p2)] h Q := by
  refine C.of_X (by decide +kernel) (Nat.le_of_ble_eq_true rfl) wX57_init ?_
  show X G mX57_init (d + 1) (some a0) [] 0 [(0, .ref (a0)), (1, .int (p1)), (2, .ref (p2))] [] h Q
  refine x_aload_n (pc' := 1) 0 (dX57_init 0 rfl rfl) rfl rfl rfl ?_
  refine x_iload_n (pc' := 2) 1 (dX57_init 1 rfl rfl) rfl rfl rfl ?_
  refine x_inv (pc' := 5) (ν := mX29_init) (av := [_, _]) (st := []) rfl rfl (dX57_init 2 rfl rfl) (Nat.le_of_ble_eq_true rfl) wX29_init q250 (inv_I (dX57_init 2 rfl rfl) q2014 q1820 q1821 rfl (by decide) lX29_init) (fun b hb => by exact Or.inr (by rw [← hb]; rfl)) rfl ?_
  refine C.mono hf (fun _ _ => KV.g (fun h1 hf le2 => ?_))
  refine x_aload_n (pc' := 6) 0 (dX57_init 3 rfl rfl) rfl rfl rfl ?_
  refine x_aload_n (pc' := 7) 2 (dX57_init 4 rfl rfl) rfl rfl rfl ?_
  obtain ⟨k3, hf⟩ := hf
  refine x_putR (pc' := 10) (dX57_init 5 rfl rfl) g364 q2015 (Or.inl rfl) (Or.inr ⟨rfl, rfl, rfl, rfl⟩) (Or.inr rfl) rfl (hf_of 52 k3 rfl (by decide) m52_364) (fun h4 e5 => ?_)
  replace hf := hf h4 e5
  replace k3 : hK h4 a0 = 53 := by rw [e5]; exact k3
  exact x_vret (dX57_init 6 rfl rfl) rfl hf
theorem bX57_resolve (G : Gh) (d : Nat) (h : AH) (Q : Outcome → AH → Prop) (a0 : Nat) (hf : X G mX57_resolve (d + 1) none [] 2 [(0, .ref (a0)), (1, .ref (gW G 4)), (2, .int (0))] [] h Q) : C G mX57_resolve (d + 1) [.ref (a0), .ref (gW G 4)] h Q := by
  refine C.of_X (by decide +kernel) (Nat.le_of_ble_eq_true rfl) wX57_resolve ?_
  show X G mX57_resolve (d + 1) none [] 0 [(0, .ref (a0)), (1, .ref (gW G 4))] [] h Q
  refine x_iconst (pc' := 1) (v := 0) (dX57_resolve 0 rfl rfl) (by decide) rfl ?_
  refine x_istore_n (pc' := 2) (dX57_resolve 1 rfl rfl) rfl (by decide) rfl rfl ?_
  exact X.sub [1, 2, 0] rfl (by simp) hf
theorem bX57_resolve_2 (G : Gh) (d : Nat) (h : AH) (Q : Outcome → AH → Prop) (l0 : Nat) (l2 : Int32) (hf : hK h l0 = 53 ∧ (∃ b2, fR h l0 364 = some b2 ∧ (hK h b2 = 6 ∧ (((fI h b2 78) ≤ l2 → (X G mX57_resolve (d + 1) none [] 191 [(0, .ref (l0)), (1, .ref (gW G 4)), (2, .int (0))] [] h Q)) ∧ (¬ ((fI h b2 78) ≤ l2) → (∃ b6, fR h l0 364 = some b6 ∧ (hK h b6 = 6 ∧ (C G mX7_data d [.ref (b6), .int (l2)] h (KR Q (fun b11 h8 => X G mX57_resolve (d + 1) none [] 25 [(0, .ref (l0)), (1, .ref (gW G 4)), (2, .int (l2)), (3, .ref (b11)), (4, .int (0))] [] h8 Q)))))))))) : X G mX57_resolve (d + 1) none [] 2 [(0, .ref (l0)), (1, .ref (gW G 4)), (2, .int (l2))] [] h Q := by
  refine x_iload_n (pc' := 3) 2 (dX57_resolve 2 rfl rfl) rfl rfl rfl ?_
  refine x_aload_n (pc' := 4) 0 (dX57_resolve 3 rfl rfl) rfl rfl rfl ?_
  obtain ⟨k1, hf⟩ := hf
  obtain ⟨b2, e3, hf⟩ := hf
  refine x_getR (pc' := 7) (dX57_resolve 4 rfl rfl) g364 q2015 (Or.inl rfl) rfl (hf_of 52 k1 rfl (by decide) m52_364) e3 ?_
  obtain ⟨k4, hf⟩ := hf
  refine x_getI (pc' := 10) (dX57_resolve 5 rfl rfl) g78 q567 (Or.inl rfl) rfl (hf_of 5 k4 rfl (by decide) m5_78) ?_
  refine x_icmp_ge (pc' := 13) (tgt := 189) (dX57_resolve 6 rfl rfl) (by decide) rfl (fun c5 => ?_) (fun c5 => ?_)
  · replace hf := hf.1 c5
    refine x_iconst (pc' := 190) (v := 0) (dX57_resolve 92 rfl rfl) (by decide) rfl ?_
    refine x_istore_n (pc' := 191) (dX57_resolve 93 rfl rfl) rfl (by decide) rfl rfl ?_
    exact X.sub [1, 2, 0] rfl (by simp) hf
  · replace hf := hf.2 c5
    refine x_aload_n (pc' := 14) 0 (dX57_resolve 7 rfl rfl) rfl rfl rfl ?_
    obtain ⟨b6, e7, hf⟩ := hf
    refine x_getR (pc' := 17) (dX57_resolve 8 rfl rfl) g364 q2015 (Or.inl rfl) rfl (hf_of 52 k1 rfl (by decide) m52_364) e7 ?_
    refine x_iload_n (pc' := 18) 2 (dX57_resolve 9 rfl rfl) rfl rfl rfl ?_
    obtain ⟨k10, hf⟩ := hf
    refine x_inv (pc' := 21) (ν := mX7_data) (av := [_, _]) (st := []) rfl rfl (dX57_resolve 10 rfl rfl) (Nat.le_of_ble_eq_true rfl) wX7_data q221 (inv_V (k := 5) (dX57_resolve 10 rfl rfl) q2047 q2048 q2049 wX7_data (by decide) lX7_data (by decide) k10) (exN (by decide)) rfl ?_
    refine C.mono hf (fun _ _ => KR.g (fun b11 h8 hf le9 => ?_))
    have k1 := leK le9 k1 (by decide)
    have k4 := leK le9 k4 (by decide)
    have k10 := leK le9 k10 (by decide)
    refine x_astore_n (pc' := 22) (dX57_resolve 11 rfl rfl) rfl (by decide) rfl rfl ?_
    refine x_iconst (pc' := 23) (v := 0) (dX57_resolve 12 rfl rfl) (by decide) rfl ?_
    refine x_istore (pc' := 25) (dX57_resolve 13 rfl rfl) (by decide) rfl rfl ?_
    exact X.sub [2, 3, 4, 1, 0] rfl (by simp) hf
theorem bX57_resolve_25 (G : Gh) (d : Nat) (h : AH) (Q : Outcome → AH → Prop) (l0 : Nat) (l2 : Int32) (l3 : Nat) (l4 : Int32) (s4 : So 4 (gW G) h) (hf : (l2 ≤ l4 → (X G mX57_resolve (d + 1) none [] 72 [(0, .ref (l0)), (1, .ref (gW G 4)), (2, .int (l2)), (3, .ref (l3)), (4, .int (0))] [] h Q)) ∧ (¬ (l2 ≤ l4) → (hK h l3 = 47 ∧ (hK h l0 = 53 ∧ (∃ b4, fR h l0 364 = some b4 ∧ (hK h b4 = 6 ∧ (C G mX7_data d [.ref (b4), .int (l4)] h (KR Q (fun b9 h6 => hK h6 b9 = 47 ∧ (C G mX9_isTwice d [.ref (gW G 4), .int (fI h l3 349), .int (fI h6 b9 349)] h6 (KI Q (fun x13 h11 => (x13 = 0 → (∀ x15 : Int32, x15 = l4 + 1 → (X G mX57_resolve (d + 1) none [] 25 [(0, .ref (l0)), (1, .ref (gW G 4)), (2, .int (l2)), (3, .ref (l3)), (4, .int (x15))] [] h11 Q))) ∧ (¬ x13 = 0 → (C G mX9_found d [.ref (gW G 4), .int (3), .int (fI h11 l3 349)] h11 (KV Q (fun h16 => ∀ x18 : Int32, x18 = l4 + 1 → (X G mX57_resolve (d + 1) none [] 25 [(0, .ref (l0)), (1, .ref (gW G 4)), (2, .int (l2)), (3, .ref (l3)), (4, .int (x18))] [] h16 Q))))))))))))))))) : X G mX57_resolve (d + 1) none [] 25 [(0, .ref (l0)), (1, .ref (gW G 4)), (2, .int (l2)), (3, .ref (l3)), (4, .int (l4))] [] h Q := by
  refine x_iload (pc' := 27) 4 (dX57_resolve 14 rfl rfl) rfl rfl ?_
  refine x_iload_n (pc' := 28) 2 (dX57_resolve 15 rfl rfl) rfl rfl rfl ?_
  refine x_icmp_ge (pc' := 31) (tgt := 69) (dX57_resolve 16 rfl rfl) (by decide) rfl (fun c1 => ?_) (fun c1 => ?_)
  · replace hf := hf.1 c1
    refine x_iconst (pc' := 70) (v := 0) (dX57_resolve 34 rfl rfl) (by decide) rfl ?_
    refine x_istore (pc' := 72) (dX57_resolve 35 rfl rfl) (by decide) rfl rfl ?_
    exact X.sub [1, 2, 3, 4, 0] rfl (by simp) hf
  · replace hf := hf.2 c1
    refine x_aload_n (pc' := 32) 1 (dX57_resolve 17 rfl rfl) rfl rfl rfl ?_
    refine x_aload_n (pc' := 33) 3 (dX57_resolve 18 rfl rfl) rfl rfl rfl ?_
    obtain ⟨k2, hf⟩ := hf
    refine x_getI (pc' := 36) (dX57_resolve 19 rfl rfl) g349 q1893 (Or.inl rfl) rfl (hf_of 46 k2 rfl (by decide) m46_349) ?_
    refine x_aload_n (pc' := 37) 0 (dX57_resolve 20 rfl rfl) rfl rfl rfl ?_
    obtain ⟨k3, hf⟩ := hf
    obtain ⟨b4, e5, hf⟩ := hf
    refine x_getR (pc' := 40) (dX57_resolve 21 rfl rfl) g364 q2015 (Or.inl rfl) rfl (hf_of 52 k3 rfl (by decide) m52_364) e5 ?_
    refine x_iload (pc' := 42) 4 (dX57_resolve 22 rfl rfl) rfl rfl ?_
    obtain ⟨k8, hf⟩ := hf
    refine x_inv (pc' := 45) (ν := mX7_data) (av := [_, _]) (st := [_, _]) rfl rfl (dX57_resolve 23 rfl rfl) (Nat.le_of_ble_eq_true rfl) wX7_data q221 (inv_V (k := 5) (dX57_resolve 23 rfl rfl) q2047 q2048 q2049 wX7_data (by decide) lX7_data (by decide) k8) (exN (by decide)) rfl ?_
    refine C.mono hf (fun _ _ => KR.g (fun b9 h6 hf le7 => ?_))
    have k2 := leK le7 k2 (by decide)
    have k3 := leK le7 k3 (by decide)
    have k8 := leK le7 k8 (by decide)
    replace s4 := s4.le sc4 (le7)
    obtain ⟨k10, hf⟩ := hf
    refine x_getI (pc' := 48) (dX57_resolve 24 rfl rfl) g349 q1893 (Or.inl rfl) rfl (hf_of 46 k10 rfl (by decide) m46_349) ?_
    refine x_inv (pc' := 51) (ν := mX9_isTwice) (av := [_, _, _]) (st := []) rfl rfl (dX57_resolve 25 rfl rfl) (Nat.le_of_ble_eq_true rfl) wX9_isTwice q223 (inv_V (k := 7) (dX57_resolve 25 rfl rfl) q2052 q2053 q2054 wX9_isTwice (by decide) lX9_isTwice (by decide) s4.1) (exN (by decide)) rfl ?_
    refine C.mono hf (fun _ _ => KI.g (fun x13 h11 hf le12 => ?_))
    have k2 := leK le12 k2 (by decide)
    have k3 := leK le12 k3 (by decide)
    have k8 := leK le12 k8 (by decide)
    have k10 := leK le12 k10 (by decide)
    replace s4 := s4.le sc4 (le12)
    refine x_if_eq (pc' := 54) (tgt := 63) (dX57_resolve 26 rfl rfl) (by decide) rfl (fun c14 => ?_) (fun c14 => ?_)
    · replace hf := hf.1 c14
      replace hf := hf _ rfl
      refine x_iinc (pc' := 66) 4 (dX57_resolve 32 rfl rfl) rfl (by rfl) (by decide) rfl rfl ?_
      refine x_goto (tgt := 25) (dX57_resolve 33 rfl rfl) (by decide) ?_
      exact X.sub [1, 2, 3, 4, 0] rfl (by simp) hf
    · replace hf := hf.2 c14
      refine x_aload_n (pc' := 55) 1 (dX57_resolve 27 rfl rfl) rfl rfl rfl ?_
      refine x_iconst (pc' := 56) (v := 3) (dX57_resolve 28 rfl rfl) (by decide) rfl ?_
      refine x_aload_n (pc' := 57) 3 (dX57_resolve 29 rfl rfl) rfl rfl rfl ?_
      refine x_getI (pc' := 60) (dX57_resolve 30 rfl rfl) g349 q1893 (Or.inl rfl) rfl (hf_of 46 k2 rfl (by decide) m46_349) ?_
      refine x_inv (pc' := 63) (ν := mX9_found) (av := [_, _, _]) (st := []) rfl rfl (dX57_resolve 31 rfl rfl) (Nat.le_of_ble_eq_true rfl) wX9_found q223 (inv_V (k := 7) (dX57_resolve 31 rfl rfl) q2060 q2061 q2062 wX9_found (by decide) lX9_found (by decide) s4.1) (exN (by decide)) rfl ?_
      refine C.mono hf (fun _ _ => KV.g (fun h16 hf le17 => ?_))
      have k2 := leK le17 k2 (by decide)
      have k3 := leK le17 k3 (by decide)
      have k8 := leK le17 k8 (by decide)
      have k10 := leK le17 k10 (by decide)
      replace s4 := s4.le sc4 (le17)
      replace hf := hf _ rfl
      refine x_iinc (pc' := 66) 4 (dX57_resolve 32 rfl rfl) rfl (by rfl) (by decide) rfl rfl ?_
      refine x_goto (tgt := 25) (dX57_resolve 33 rfl rfl) (by decide) ?_
      exact X.sub [1, 2, 3, 4, 0] rfl (by simp) hf
theorem bX57_resolve_72 (G : Gh) (d : Nat) (h : AH) (Q : Outcome → AH → Prop) (l0 : Nat) (l2 : Int32) (l3 : Nat) (l4 : Int32) (s4 : So 4 (gW G) h) (hf : hK h l3 = 47 ∧ (((fI h l3 351) ≤ l4 → (C G mX9_declare d [.ref (gW G 4), .int (fI h l3 349), .int (fI h l3 351)] h (KR Q (fun b5 h3 => ∀ h6, h6 = pR h3 l3 353 (some b5) → (hK h6 l0 = 53 ∧ (((fI h6 l0 365) = 0 → (C G mX9_isFull d [.ref (gW G 4)] h6 (KI Q (fun x18 h16 => (x18 = 0 → (∀ h20, h20 = pI h16 l0 365 0 → (∃ b21, fR h20 l3 353 = some b21 ∧ (C G mX9_addName d [.ref (gW G 4), .ref (b21)] h20 (KV Q (fun h23 => ∀ x25 : Int32, x25 = l2 + 1 → (X G mX57_resolve (d + 1) none [] 2 [(0, .ref (l0)), (1, .ref (gW G 4)), (2, .int (x25))] [] h23 Q))))))) ∧ (¬ x18 = 0 → (∀ h27, h27 = pI h16 l0 365 1 → (∃ b28, fR h27 l3 353 = some b28 ∧ (C G mX9_addName d [.ref (gW G 4), .ref (b28)] h27 (KV Q (fun h30 => ∀ x32 : Int32, x32 = l2 + 1 → (X G mX57_resolve (d + 1) none [] 2 [(0, .ref (l0)), (1, .ref (gW G 4)), (2, .int (x32))] [] h30 Q))))))))))) ∧ (¬ ((fI h6 l0 365) = 0) → (∀ h9, h9 = pI h6 l0 365 1 → (∃ b10, fR h9 l3 353 = some b10 ∧ (C G mX9_addName d [.ref (gW G 4), .ref (b10)] h9 (KV Q (fun h12 => ∀ x14 : Int32, x14 = l2 + 1 → (X G mX57_resolve (d + 1) none [] 2 [(0, .ref (l0)), (1, .ref (gW G 4)), (2, .int (x14))] [] h12 Q))))))))))))) ∧ (¬ ((fI h l3 351) ≤ l4) → (X G mX57_resolve (d + 1) none [] 84 [(0, .ref (l0)), (1, .ref (gW G 4)), (2, .int (l2)), (3, .ref (l3)), (4, .int (l4)), (5, .int (0))] [] h Q)))) : X G mX57_resolve (d + 1) none [] 72 [(0, .ref (l0)), (1, .ref (gW G 4)), (2, .int (l2)), (3, .ref (l3)), (4, .int (l4))] [] h Q := by
  refine x_iload (pc' := 74) 4 (dX57_resolve 36 rfl rfl) rfl rfl ?_
  refine x_aload_n (pc' := 75) 3 (dX57_resolve 37 rfl rfl) rfl rfl rfl ?_
  obtain ⟨k1, hf⟩ := hf
  refine x_getI (pc' := 78) (dX57_resolve 38 rfl rfl) g351 q1899 (Or.inl rfl) rfl (hf_of 46 k1 rfl (by decide) m46_351) ?_
  refine x_icmp_ge (pc' := 81) (tgt := 136) (dX57_resolve 39 rfl rfl) (by decide) rfl (fun c2 => ?_) (fun c2 => ?_)
  · replace hf := hf.1 c2
    refine x_aload_n (pc' := 137) 3 (dX57_resolve 67 rfl rfl) rfl rfl rfl ?_
    refine x_aload_n (pc' := 138) 1 (dX57_resolve 68 rfl rfl) rfl rfl rfl ?_
    refine x_aload_n (pc' := 139) 3 (dX57_resolve 69 rfl rfl) rfl rfl rfl ?_
    refine x_getI (pc' := 142) (dX57_resolve 70 rfl rfl) g349 q1893 (Or.inl rfl) rfl (hf_of 46 k1 rfl (by decide) m46_349) ?_
    refine x_aload_n (pc' := 143) 3 (dX57_resolve 71 rfl rfl) rfl rfl rfl ?_
    refine x_getI (pc' := 146) (dX57_resolve 72 rfl rfl) g351 q1899 (Or.inl rfl) rfl (hf_of 46 k1 rfl (by decide) m46_351) ?_
    refine x_inv (pc' := 149) (ν := mX9_declare) (av := [_, _, _]) (st := [_]) rfl rfl (dX57_resolve 73 rfl rfl) (Nat.le_of_ble_eq_true rfl) wX9_declare q223 (inv_V (k := 7) (dX57_resolve 73 rfl rfl) q2064 q2065 q2066 wX9_declare (by decide) lX9_declare (by decide) s4.1) (exN (by decide)) rfl ?_
    refine C.mono hf (fun _ _ => KR.g (fun b5 h3 hf le4 => ?_))
    have k1 := leK le4 k1 (by decide)
    replace s4 := s4.le sc4 (le4)
    refine x_putR (pc' := 152) (dX57_resolve 74 rfl rfl) g353 q1903 (Or.inl rfl) (Or.inl rfl) (Or.inl (by decide)) rfl (hf_of 46 k1 rfl (by decide) m46_353) (fun h6 e34 => ?_)
    replace hf := hf h6 e34
    replace k1 : hK h6 l3 = 47 := by rw [e34]; exact k1
    replace s4 : So 4 (gW G) h6 := by rw [e34]; exact s4.le sc4 (pR_le (Or.inl rfl))
    refine x_aload_n (pc' := 153) 0 (dX57_resolve 75 rfl rfl) rfl rfl rfl ?_
    refine x_aload_n (pc' := 154) 0 (dX57_resolve 76 rfl rfl) rfl rfl rfl ?_
    obtain ⟨k7, hf⟩ := hf
    refine x_getZ (pc' := 157) (dX57_resolve 77 rfl rfl) g365 q2016 (Or.inl rfl) rfl (hf_of 52 k7 rfl (by decide) m52_365) ?_
    refine x_if_ne (pc' := 160) (tgt := 167) (dX57_resolve 78 rfl rfl) (by decide) rfl (fun c8 => ?_) (fun c8 => ?_)
    · replace hf := hf.2 c8
      refine x_iconst (pc' := 168) (v := 1) (dX57_resolve 82 rfl rfl) (by decide) rfl ?_
      refine x_goto (tgt := 172) (dX57_resolve 83 rfl rfl) (by decide) ?_
      refine x_putZ (pc' := 175) (dX57_resolve 85 rfl rfl) g365 q2016 (Or.inl rfl) (Or.inl rfl) (Or.inl (by decide)) rfl (hf_of 52 k7 rfl (by decide) m52_365) (by decide) (fun h9 e15 => ?_)
      replace hf := hf h9 e15
      replace k1 : hK h9 l3 = 47 := by rw [e15]; exact k1
      replace k7 : hK h9 l0 = 53 := by rw [e15]; exact k7
      replace s4 : So 4 (gW G) h9 := by rw [e15]; exact s4.le sc4 (pI_le (Or.inl rfl))
      refine x_aload_n (pc' := 176) 1 (dX57_resolve 86 rfl rfl) rfl rfl rfl ?_
      refine x_aload_n (pc' := 177) 3 (dX57_resolve 87 rfl rfl) rfl rfl rfl ?_
      obtain ⟨b10, e11, hf⟩ := hf
      refine x_getR (pc' := 180) (dX57_resolve 88 rfl rfl) g353 q1903 (Or.inl rfl) rfl (hf_of 46 k1 rfl (by decide) m46_353) e11 ?_
      refine x_inv (pc' := 183) (ν := mX9_addName) (av := [_, _]) (st := []) rfl rfl (dX57_resolve 89 rfl rfl) (Nat.le_of_ble_eq_true rfl) wX9_addName q223 (inv_V (k := 7) (dX57_resolve 89 rfl rfl) q2079 q2080 q2081 wX9_addName (by decide) lX9_addName (by decide) s4.1) (exN (by decide)) rfl ?_
      refine C.mono hf (fun _ _ => KV.g (fun h12 hf le13 => ?_))
      have k1 := leK le13 k1 (by decide)
      have k7 := leK le13 k7 (by decide)
      replace s4 := s4.le sc4 (le13)
      replace hf := hf _ rfl
      refine x_iinc (pc' := 186) 2 (dX57_resolve 90 rfl rfl) rfl (by rfl) (by decide) rfl rfl ?_
      refine x_goto (tgt := 2) (dX57_resolve 91 rfl rfl) (by decide) ?_
      exact X.sub [1, 2, 0] rfl (by simp) hf
    · replace hf := hf.1 (Classical.not_not.mp c8)
      replace c8 := Classical.not_not.mp c8
      refine x_aload_n (pc' := 161) 1 (dX57_resolve 79 rfl rfl) rfl rfl rfl ?_
      refine x_inv (pc' := 164) (ν := mX9_isFull) (av := [_]) (st := [_]) rfl rfl (dX57_resolve 80 rfl rfl) (Nat.le_of_ble_eq_true rfl) wX9_isFull q223 (inv_V (k := 7) (dX57_resolve 80 rfl rfl) q2075 q2076 q2077 wX9_isFull (by decide) lX9_isFull (by decide) s4.1) (exN (by decide)) rfl ?_
      refine C.mono hf (fun _ _ => KI.g (fun x18 h16 hf le17 => ?_))
      have k1 := leK le17 k1 (by decide)
      have k7 := leK le17 k7 (by decide)
      replace s4 := s4.le sc4 (le17)
      refine x_if_eq (pc' := 167) (tgt := 171) (dX57_resolve 81 rfl rfl) (by decide) rfl (fun c19 => ?_) (fun c19 => ?_)
      · replace hf := hf.1 c19
        refine x_iconst (pc' := 172) (v := 0) (dX57_resolve 84 rfl rfl) (by decide) rfl ?_
        refine x_putZ (pc' := 175) (dX57_resolve 85 rfl rfl) g365 q2016 (Or.inl rfl) (Or.inl rfl) (Or.inl (by decide)) rfl (hf_of 52 k7 rfl (by decide) m52_365) (by decide) (fun h20 e26 => ?_)
        replace hf := hf h20 e26
        replace k1 : hK h20 l3 = 47 := by rw [e26]; exact k1
        replace k7 : hK h20 l0 = 53 := by rw [e26]; exact k7
        replace s4 : So 4 (gW G) h20 := by rw [e26]; exact s4.le sc4 (pI_le (Or.inl rfl))
        refine x_aload_n (pc' := 176) 1 (dX57_resolve 86 rfl rfl) rfl rfl rfl ?_
        refine x_aload_n (pc' := 177) 3 (dX57_resolve 87 rfl rfl) rfl rfl rfl ?_
        obtain ⟨b21, e22, hf⟩ := hf
        refine x_getR (pc' := 180) (dX57_resolve 88 rfl rfl) g353 q1903 (Or.inl rfl) rfl (hf_of 46 k1 rfl (by decide) m46_353) e22 ?_
        refine x_inv (pc' := 183) (ν := mX9_addName) (av := [_, _]) (st := []) rfl rfl (dX57_resolve 89 rfl rfl) (Nat.le_of_ble_eq_true rfl) wX9_addName q223 (inv_V (k := 7) (dX57_resolve 89 rfl rfl) q2079 q2080 q2081 wX9_addName (by decide) lX9_addName (by decide) s4.1) (exN (by decide)) rfl ?_
        refine C.mono hf (fun _ _ => KV.g (fun h23 hf le24 => ?_))
        have k1 := leK le24 k1 (by decide)
        have k7 := leK le24 k7 (by decide)
        replace s4 := s4.le sc4 (le24)
        replace hf := hf _ rfl
        refine x_iinc (pc' := 186) 2 (dX57_resolve 90 rfl rfl) rfl (by rfl) (by decide) rfl rfl ?_
        refine x_goto (tgt := 2) (dX57_resolve 91 rfl rfl) (by decide) ?_
        exact X.sub [1, 2, 0] rfl (by simp) hf
      · replace hf := hf.2 c19
        refine x_iconst (pc' := 168) (v := 1) (dX57_resolve 82 rfl rfl) (by decide) rfl ?_
        refine x_goto (tgt := 172) (dX57_resolve 83 rfl rfl) (by decide) ?_
        refine x_putZ (pc' := 175) (dX57_resolve 85 rfl rfl) g365 q2016 (Or.inl rfl) (Or.inl rfl) (Or.inl (by decide)) rfl (hf_of 52 k7 rfl (by decide) m52_365) (by decide) (fun h27 e33 => ?_)
        replace hf := hf h27 e33
        replace k1 : hK h27 l3 = 47 := by rw [e33]; exact k1
        replace k7 : hK h27 l0 = 53 := by rw [e33]; exact k7
        replace s4 : So 4 (gW G) h27 := by rw [e33]; exact s4.le sc4 (pI_le (Or.inl rfl))
        refine x_aload_n (pc' := 176) 1 (dX57_resolve 86 rfl rfl) rfl rfl rfl ?_
        refine x_aload_n (pc' := 177) 3 (dX57_resolve 87 rfl rfl) rfl rfl rfl ?_
        obtain ⟨b28, e29, hf⟩ := hf
        refine x_getR (pc' := 180) (dX57_resolve 88 rfl rfl) g353 q1903 (Or.inl rfl) rfl (hf_of 46 k1 rfl (by decide) m46_353) e29 ?_
        refine x_inv (pc' := 183) (ν := mX9_addName) (av := [_, _]) (st := []) rfl rfl (dX57_resolve 89 rfl rfl) (Nat.le_of_ble_eq_true rfl) wX9_addName q223 (inv_V (k := 7) (dX57_resolve 89 rfl rfl) q2079 q2080 q2081 wX9_addName (by decide) lX9_addName (by decide) s4.1) (exN (by decide)) rfl ?_
        refine C.mono hf (fun _ _ => KV.g (fun h30 hf le31 => ?_))
        have k1 := leK le31 k1 (by decide)
        have k7 := leK le31 k7 (by decide)
        replace s4 := s4.le sc4 (le31)
        replace hf := hf _ rfl
        refine x_iinc (pc' := 186) 2 (dX57_resolve 90 rfl rfl) rfl (by rfl) (by decide) rfl rfl ?_
        refine x_goto (tgt := 2) (dX57_resolve 91 rfl rfl) (by decide) ?_
        exact X.sub [1, 2, 0] rfl (by simp) hf
  · replace hf := hf.2 c2
    refine x_iconst (pc' := 82) (v := 0) (dX57_resolve 40 rfl rfl) (by decide) rfl ?_
    refine x_istore (pc' := 84) (dX57_resolve 41 rfl rfl) (by decide) rfl rfl ?_
    exact X.sub [1, 2, 3, 4, 5, 0] rfl (by simp) hf
theorem bX57_resolve_84 (G : Gh) (d : Nat) (h : AH) (Q : Outcome → AH → Prop) (l0 : Nat) (l2 : Int32) (l3 : Nat) (l4 : Int32) (l5 : Int32) (s4 : So 4 (gW G) h) (hf : (l4 ≤ l5 → (∀ x2 : Int32, x2 = l4 + 1 → (X G mX57_resolve (d + 1) none [] 72 [(0, .ref (l0)), (1, .ref (gW G 4)), (2, .int (l2)), (3, .ref (l3)), (4, .int (x2))] [] h Q))) ∧ (¬ (l4 ≤ l5) → (hK h l3 = 47 ∧ (∃ b4, fR h l3 350 = some b4 ∧ (hK h b4 = 1000 ∧ vp_in l4 (hL h b4) ∧ (∃ b8, fR h l3 350 = some b8 ∧ (hK h b8 = 1000 ∧ vp_in l5 (hL h b8) ∧ (C G mX9_isTwice d [.ref (gW G 4), .int (aI h b4 l4.toNatClampNeg), .int (aI h b8 l5.toNatClampNeg)] h (KI Q (fun x14 h12 => (x14 = 0 → (∀ x16 : Int32, x16 = l5 + 1 → (X G mX57_resolve (d + 1) none [] 84 [(0, .ref (l0)), (1, .ref (gW G 4)), (2, .int (l2)), (3, .ref (l3)), (4, .int (l4)), (5, .int (x16))] [] h12 Q))) ∧ (¬ x14 = 0 → (∃ b17, fR h12 l3 350 = some b17 ∧ (hK h12 b17 = 1000 ∧ vp_in l4 (hL h12 b17) ∧ (C G mX9_found d [.ref (gW G 4), .int (3), .int (aI h12 b17 l4.toNatClampNeg)] h12 (KV Q (fun h21 => ∀ x23 : Int32, x23 = l5 + 1 → (X G mX57_resolve (d + 1) none [] 84 [(0, .ref (l0)), (1, .ref (gW G 4)), (2, .int (l2)), (3, .ref (l3)), (4, .int (l4)), (5, .int (x23))] [] h21 Q))))))))))))))))) : X G mX57_resolve (d + 1) none [] 84 [(0, .ref (l0)), (1, .ref (gW G 4)), (2, .int (l2)), (3, .ref (l3)), (4, .int (l4)), (5, .int (l5))] [] h Q := by
  refine x_iload (pc' := 86) 5 (dX57_resolve 42 rfl rfl) rfl rfl ?_
  refine x_iload (pc' := 88) 4 (dX57_resolve 43 rfl rfl) rfl rfl ?_
  refine x_icmp_ge (pc' := 91) (tgt := 130) (dX57_resolve 44 rfl rfl) (by decide) rfl (fun c1 => ?_) (fun c1 => ?_)
  · replace hf := hf.1 c1
    replace hf := hf _ rfl
    refine x_iinc (pc' := 133) 4 (dX57_resolve 65 rfl rfl) rfl (by rfl) (by decide) rfl rfl ?_
    refine x_goto (tgt := 72) (dX57_resolve 66 rfl rfl) (by decide) ?_
    exact X.sub [1, 2, 3, 4, 0] rfl (by simp) hf
  · replace hf := hf.2 c1
    refine x_aload_n (pc' := 92) 1 (dX57_resolve 45 rfl rfl) rfl rfl rfl ?_
    refine x_aload_n (pc' := 93) 3 (dX57_resolve 46 rfl rfl) rfl rfl rfl ?_
    obtain ⟨k3, hf⟩ := hf
    obtain ⟨b4, e5, hf⟩ := hf
    refine x_getR (pc' := 96) (dX57_resolve 47 rfl rfl) g350 q1896 (Or.inl rfl) rfl (hf_of 46 k3 rfl (by decide) m46_350) e5 ?_
    refine x_iload (pc' := 98) 4 (dX57_resolve 48 rfl rfl) rfl rfl ?_
    obtain ⟨k6, hf⟩ := hf
    obtain ⟨i7, hf⟩ := hf
    refine x_iald (pc' := 99) (dX57_resolve 49 rfl rfl) rfl k6 i7 ?_
    refine x_aload_n (pc' := 100) 3 (dX57_resolve 50 rfl rfl) rfl rfl rfl ?_
    obtain ⟨b8, e9, hf⟩ := hf
    refine x_getR (pc' := 103) (dX57_resolve 51 rfl rfl) g350 q1896 (Or.inl rfl) rfl (hf_of 46 k3 rfl (by decide) m46_350) e9 ?_
    refine x_iload (pc' := 105) 5 (dX57_resolve 52 rfl rfl) rfl rfl ?_
    obtain ⟨k10, hf⟩ := hf
    obtain ⟨i11, hf⟩ := hf
    refine x_iald (pc' := 106) (dX57_resolve 53 rfl rfl) rfl k10 i11 ?_
    refine x_inv (pc' := 109) (ν := mX9_isTwice) (av := [_, _, _]) (st := []) rfl rfl (dX57_resolve 54 rfl rfl) (Nat.le_of_ble_eq_true rfl) wX9_isTwice q223 (inv_V (k := 7) (dX57_resolve 54 rfl rfl) q2052 q2053 q2054 wX9_isTwice (by decide) lX9_isTwice (by decide) s4.1) (exN (by decide)) rfl ?_
    refine C.mono hf (fun _ _ => KI.g (fun x14 h12 hf le13 => ?_))
    have k3 := leK le13 k3 (by decide)
    have k6 := leK le13 k6 (by decide)
    have k10 := leK le13 k10 (by decide)
    replace s4 := s4.le sc4 (le13)
    refine x_if_eq (pc' := 112) (tgt := 124) (dX57_resolve 55 rfl rfl) (by decide) rfl (fun c15 => ?_) (fun c15 => ?_)
    · replace hf := hf.1 c15
      replace hf := hf _ rfl
      refine x_iinc (pc' := 127) 5 (dX57_resolve 63 rfl rfl) rfl (by rfl) (by decide) rfl rfl ?_
      refine x_goto (tgt := 84) (dX57_resolve 64 rfl rfl) (by decide) ?_
      exact X.sub [1, 2, 3, 4, 5, 0] rfl (by simp) hf
    · replace hf := hf.2 c15
      refine x_aload_n (pc' := 113) 1 (dX57_resolve 56 rfl rfl) rfl rfl rfl ?_
      refine x_iconst (pc' := 114) (v := 3) (dX57_resolve 57 rfl rfl) (by decide) rfl ?_
      refine x_aload_n (pc' := 115) 3 (dX57_resolve 58 rfl rfl) rfl rfl rfl ?_
      obtain ⟨b17, e18, hf⟩ := hf
      refine x_getR (pc' := 118) (dX57_resolve 59 rfl rfl) g350 q1896 (Or.inl rfl) rfl (hf_of 46 k3 rfl (by decide) m46_350) e18 ?_
      refine x_iload (pc' := 120) 4 (dX57_resolve 60 rfl rfl) rfl rfl ?_
      obtain ⟨k19, hf⟩ := hf
      obtain ⟨i20, hf⟩ := hf
      refine x_iald (pc' := 121) (dX57_resolve 61 rfl rfl) rfl k19 i20 ?_
      refine x_inv (pc' := 124) (ν := mX9_found) (av := [_, _, _]) (st := []) rfl rfl (dX57_resolve 62 rfl rfl) (Nat.le_of_ble_eq_true rfl) wX9_found q223 (inv_V (k := 7) (dX57_resolve 62 rfl rfl) q2060 q2061 q2062 wX9_found (by decide) lX9_found (by decide) s4.1) (exN (by decide)) rfl ?_
      refine C.mono hf (fun _ _ => KV.g (fun h21 hf le22 => ?_))
      have k3 := leK le22 k3 (by decide)
      have k6 := leK le22 k6 (by decide)
      have k10 := leK le22 k10 (by decide)
      have k19 := leK le22 k19 (by decide)
      replace s4 := s4.le sc4 (le22)
      replace hf := hf _ rfl
      refine x_iinc (pc' := 127) 5 (dX57_resolve 63 rfl rfl) rfl (by rfl) (by decide) rfl rfl ?_
      refine x_goto (tgt := 84) (dX57_resolve 64 rfl rfl) (by decide) ?_
      exact X.sub [1, 2, 3, 4, 5, 0] rfl (by simp) hf
theorem bX57_resolve_191 (G : Gh) (d : Nat) (h : AH) (Q : Outcome → AH → Prop) (l0 : Nat) (l2 : Int32) (hf : hK h l0 = 53 ∧ (∃ b2, fR h l0 364 = some b2 ∧ (hK h b2 = 6 ∧ (((fI h b2 78) ≤ l2 → (X G mX57_resolve (d + 1) none [] 295 [(0, .ref (l0)), (1, .ref (gW G 4)), (2, .int (0))] [] h Q)) ∧ (¬ ((fI h b2 78) ≤ l2) → (∃ b6, fR h l0 364 = some b6 ∧ (hK h b6 = 6 ∧ (C G mX7_data d [.ref (b6), .int (l2)] h (KR Q (fun b11 h8 => X G mX57_resolve (d + 1) none [] 214 [(0, .ref (l0)), (1, .ref (gW G 4)), (2, .int (l2)), (3, .ref (b11)), (4, .int (0))] [] h8 Q)))))))))) : X G mX57_resolve (d + 1) none [] 191 [(0, .ref (l0)), (1, .ref (gW G 4)), (2, .int (l2))] [] h Q := by
  refine x_iload_n (pc' := 192) 2 (dX57_resolve 94 rfl rfl) rfl rfl rfl ?_
  refine x_aload_n (pc' := 193) 0 (dX57_resolve 95 rfl rfl) rfl rfl rfl ?_
  obtain ⟨k1, hf⟩ := hf
  obtain ⟨b2, e3, hf⟩ := hf
  refine x_getR (pc' := 196) (dX57_resolve 96 rfl rfl) g364 q2015 (Or.inl rfl) rfl (hf_of 52 k1 rfl (by decide) m52_364) e3 ?_
  obtain ⟨k4, hf⟩ := hf
  refine x_getI (pc' := 199) (dX57_resolve 97 rfl rfl) g78 q567 (Or.inl rfl) rfl (hf_of 5 k4 rfl (by decide) m5_78) ?_
  refine x_icmp_ge (pc' := 202) (tgt := 293) (dX57_resolve 98 rfl rfl) (by decide) rfl (fun c5 => ?_) (fun c5 => ?_)
  · replace hf := hf.1 c5
    refine x_iconst (pc' := 294) (v := 0) (dX57_resolve 141 rfl rfl) (by decide) rfl ?_
    refine x_istore_n (pc' := 295) (dX57_resolve 142 rfl rfl) rfl (by decide) rfl rfl ?_
    exact X.sub [1, 2, 0] rfl (by simp) hf
  · replace hf := hf.2 c5
    refine x_aload_n (pc' := 203) 0 (dX57_resolve 99 rfl rfl) rfl rfl rfl ?_
    obtain ⟨b6, e7, hf⟩ := hf
    refine x_getR (pc' := 206) (dX57_resolve 100 rfl rfl) g364 q2015 (Or.inl rfl) rfl (hf_of 52 k1 rfl (by decide) m52_364) e7 ?_
    refine x_iload_n (pc' := 207) 2 (dX57_resolve 101 rfl rfl) rfl rfl rfl ?_
    obtain ⟨k10, hf⟩ := hf
    refine x_inv (pc' := 210) (ν := mX7_data) (av := [_, _]) (st := []) rfl rfl (dX57_resolve 102 rfl rfl) (Nat.le_of_ble_eq_true rfl) wX7_data q221 (inv_V (k := 5) (dX57_resolve 102 rfl rfl) q2047 q2048 q2049 wX7_data (by decide) lX7_data (by decide) k10) (exN (by decide)) rfl ?_
    refine C.mono hf (fun _ _ => KR.g (fun b11 h8 hf le9 => ?_))
    have k1 := leK le9 k1 (by decide)
    have k4 := leK le9 k4 (by decide)
    have k10 := leK le9 k10 (by decide)
    refine x_astore_n (pc' := 211) (dX57_resolve 103 rfl rfl) rfl (by decide) rfl rfl ?_
    refine x_iconst (pc' := 212) (v := 0) (dX57_resolve 104 rfl rfl) (by decide) rfl ?_
    refine x_istore (pc' := 214) (dX57_resolve 105 rfl rfl) (by decide) rfl rfl ?_
    exact X.sub [2, 3, 4, 1, 0] rfl (by simp) hf
theorem bX57_resolve_214 (G : Gh) (d : Nat) (h : AH) (Q : Outcome → AH → Prop) (l0 : Nat) (l2 : Int32) (l3 : Nat) (l4 : Int32) (s4 : So 4 (gW G) h) (hf : hK h l3 = 47 ∧ (∃ b2, fR h l3 352 = some b2 ∧ (hK h b2 = 6 ∧ (((fI h b2 78) ≤ l4 → (∀ x6 : Int32, x6 = l2 + 1 → (X G mX57_resolve (d + 1) none [] 191 [(0, .ref (l0)), (1, .ref (gW G 4)), (2, .int (x6))] [] h Q))) ∧ (¬ ((fI h b2 78) ≤ l4) → (∃ b7, fR h l3 352 = some b7 ∧ (hK h b7 = 6 ∧ (C G mX7_con d [.ref (b7), .int (l4)] h (KR Q (fun b12 h9 => hK h9 b12 = 52 ∧ (hK h9 l0 = 53 ∧ (C G mX57_isThere d [.ref (l0), .ref (gW G 4), .int (l2), .int (l4), .int (fI h9 b12 361)] h9 (KI Q (fun x17 h14 => (x17 = 0 → (OC (fR h14 b12 362) (∀ x21 : Int32, x21 = l4 + 1 → (X G mX57_resolve (d + 1) none [] 214 [(0, .ref (l0)), (1, .ref (gW G 4)), (2, .int (l2)), (3, .ref (l3)), (4, .int (x21))] [] h14 Q)) (fun b19 => OC (fR h14 b12 362) (False) (fun b22 => ∃ (k : Nat) (ν : Mu), VT ⟨"LetMill$Ty", "resolve", "(LLetMill$Scope;LLetMill$Data;)V"⟩ VMTy_resolve k ν ∧ hK h14 b22 = k + 1 ∧ C G ν d [.ref (b22), .ref (gW G 4), .ref (l3)] h14 (KV Q (fun h24 => ∀ x26 : Int32, x26 = l4 + 1 → (X G mX57_resolve (d + 1) none [] 214 [(0, .ref (l0)), (1, .ref (gW G 4)), (2, .int (l2)), (3, .ref (l3)), (4, .int (x26))] [] h24 Q))))))) ∧ (¬ x17 = 0 → (C G mX9_found d [.ref (gW G 4), .int (3), .int (fI h14 b12 361)] h14 (KV Q (fun h30 => OC (fR h30 b12 362) (∀ x34 : Int32, x34 = l4 + 1 → (X G mX57_resolve (d + 1) none [] 214 [(0, .ref (l0)), (1, .ref (gW G 4)), (2, .int (l2)), (3, .ref (l3)), (4, .int (x34))] [] h30 Q)) (fun b32 => OC (fR h30 b12 362) (False) (fun b35 => ∃ (k : Nat) (ν : Mu), VT ⟨"LetMill$Ty", "resolve", "(LLetMill$Scope;LLetMill$Data;)V"⟩ VMTy_resolve k ν ∧ hK h30 b35 = k + 1 ∧ C G ν d [.ref (b35), .ref (gW G 4), .ref (l3)] h30 (KV Q (fun h37 => ∀ x39 : Int32, x39 = l4 + 1 → (X G mX57_resolve (d + 1) none [] 214 [(0, .ref (l0)), (1, .ref (gW G 4)), (2, .int (l2)), (3, .ref (l3)), (4, .int (x39))] [] h37 Q))))))))))))))))))))))) : X G mX57_resolve (d + 1) none [] 214 [(0, .ref (l0)), (1, .ref (gW G 4)), (2, .int (l2)), (3, .ref (l3)), (4, .int (l4))] [] h Q := by
  refine x_iload (pc' := 216) 4 (dX57_resolve 106 rfl rfl) rfl rfl ?_
  refine x_aload_n (pc' := 217) 3 (dX57_resolve 107 rfl rfl) rfl rfl rfl ?_
  obtain ⟨k1, hf⟩ := hf
  obtain ⟨b2, e3, hf⟩ := hf
  refine x_getR (pc' := 220) (dX57_resolve 108 rfl rfl) g352 q1901 (Or.inl rfl) rfl (hf_of 46 k1 rfl (by decide) m46_352) e3 ?_
  obtain ⟨k4, hf⟩ := hf
  refine x_getI (pc' := 223) (dX57_resolve 109 rfl rfl) g78 q567 (Or.inl rfl) rfl (hf_of 5 k4 rfl (by decide) m5_78) ?_
  refine x_icmp_ge (pc' := 226) (tgt := 287) (dX57_resolve 110 rfl rfl) (by decide) rfl (fun c5 => ?_) (fun c5 => ?_)
  · replace hf := hf.1 c5
    replace hf := hf _ rfl
    refine x_iinc (pc' := 290) 2 (dX57_resolve 139 rfl rfl) rfl (by rfl) (by decide) rfl rfl ?_
    refine x_goto (tgt := 191) (dX57_resolve 140 rfl rfl) (by decide) ?_
    exact X.sub [1, 2, 0] rfl (by simp) hf
  · replace hf := hf.2 c5
    refine x_aload_n (pc' := 227) 3 (dX57_resolve 111 rfl rfl) rfl rfl rfl ?_
    obtain ⟨b7, e8, hf⟩ := hf
    refine x_getR (pc' := 230) (dX57_resolve 112 rfl rfl) g352 q1901 (Or.inl rfl) rfl (hf_of 46 k1 rfl (by decide) m46_352) e8 ?_
    refine x_iload (pc' := 232) 4 (dX57_resolve 113 rfl rfl) rfl rfl ?_
    obtain ⟨k11, hf⟩ := hf
    refine x_inv (pc' := 235) (ν := mX7_con) (av := [_, _]) (st := []) rfl rfl (dX57_resolve 114 rfl rfl) (Nat.le_of_ble_eq_true rfl) wX7_con q221 (inv_V (k := 5) (dX57_resolve 114 rfl rfl) q2083 q2084 q2085 wX7_con (by decide) lX7_con (by decide) k11) (exN (by decide)) rfl ?_
    refine C.mono hf (fun _ _ => KR.g (fun b12 h9 hf le10 => ?_))
    have k1 := leK le10 k1 (by decide)
    have k4 := leK le10 k4 (by decide)
    have k11 := leK le10 k11 (by decide)
    replace s4 := s4.le sc4 (le10)
    refine x_astore (pc' := 237) (dX57_resolve 115 rfl rfl) (by decide) rfl rfl ?_
    refine x_aload_n (pc' := 238) 1 (dX57_resolve 116 rfl rfl) rfl rfl rfl ?_
    refine x_aload_n (pc' := 239) 2 (dX57_resolve 117 rfl rfl) rfl rfl rfl ?_
    refine x_iload_n (pc' := 240) 3 (dX57_resolve 118 rfl rfl) rfl rfl rfl ?_
    refine x_iload (pc' := 242) 5 (dX57_resolve 119 rfl rfl) rfl rfl ?_
    refine x_aload (pc' := 244) 0 (dX57_resolve 120 rfl rfl) rfl rfl ?_
    obtain ⟨k13, hf⟩ := hf
    refine x_getI (pc' := 247) (dX57_resolve 121 rfl rfl) g361 q1998 (Or.inl rfl) rfl (hf_of 51 k13 rfl (by decide) m51_361) ?_
    obtain ⟨k16, hf⟩ := hf
    refine x_inv (pc' := 250) (ν := mX57_isThere) (av := [_, _, _, _, _]) (st := []) rfl rfl (dX57_resolve 122 rfl rfl) (Nat.le_of_ble_eq_true rfl) wX57_isThere q278 (inv_V (k := 52) (dX57_resolve 122 rfl rfl) q2088 q2090 qs37 wX57_isThere (by decide) lX57_isThere (by decide) k16) (exN (by decide)) rfl ?_
    refine C.mono hf (fun _ _ => KI.g (fun x17 h14 hf le15 => ?_))
    have k1 := leK le15 k1 (by decide)
    have k4 := leK le15 k4 (by decide)
    have k11 := leK le15 k11 (by decide)
    have k13 := leK le15 k13 (by decide)
    have k16 := leK le15 k16 (by decide)
    replace s4 := s4.le sc4 (le15)
    refine x_if_eq (pc' := 253) (tgt := 263) (dX57_resolve 123 rfl rfl) (by decide) rfl (fun c18 => ?_) (fun c18 => ?_)
    · replace hf := hf.1 c18
      refine x_aload (pc' := 265) 0 (dX57_resolve 129 rfl rfl) rfl rfl ?_
      obtain ⟨ho0, ho1⟩ := hf
      rcases hr : fR _ b12 362 with _ | b19
      · replace hf := ho0 hr
        refine x_getN (pc' := 268) (dX57_resolve 130 rfl rfl) g362 q2000 (Or.inl rfl) rfl (hf_of 51 k13 rfl (by decide) m51_362) hr ?_
        refine x_ifnullN (tgt := 281) (dX57_resolve 131 rfl rfl) (by decide) ?_
        replace hf := hf _ rfl
        refine x_iinc (pc' := 284) 5 (dX57_resolve 137 rfl rfl) rfl (by rfl) (by decide) rfl rfl ?_
        refine x_goto (tgt := 214) (dX57_resolve 138 rfl rfl) (by decide) ?_
        exact X.sub [2, 3, 4, 5, 0] rfl (by simp) hf
      · replace hf := ho1 _ hr
        refine x_getR (pc' := 268) (dX57_resolve 130 rfl rfl) g362 q2000 (Or.inl rfl) rfl (hf_of 51 k13 rfl (by decide) m51_362) hr ?_
        refine x_ifnull (pc' := 271) (dX57_resolve 131 rfl rfl) rfl ?_
        refine x_aload (pc' := 273) 0 (dX57_resolve 132 rfl rfl) rfl rfl ?_
        obtain ⟨ho0, ho1⟩ := hf
        rcases hr : fR _ b12 362 with _ | b22
        · replace hf := ho0 hr
          refine x_getN (pc' := 276) (dX57_resolve 133 rfl rfl) g362 q2000 (Or.inl rfl) rfl (hf_of 51 k13 rfl (by decide) m51_362) hr ?_
          refine x_aload_n (pc' := 277) 2 (dX57_resolve 134 rfl rfl) rfl rfl rfl ?_
          refine x_aload_n (pc' := 278) 4 (dX57_resolve 135 rfl rfl) rfl rfl rfl ?_
          exact hf.elim
        · replace hf := ho1 _ hr
          refine x_getR (pc' := 276) (dX57_resolve 133 rfl rfl) g362 q2000 (Or.inl rfl) rfl (hf_of 51 k13 rfl (by decide) m51_362) hr ?_
          refine x_aload_n (pc' := 277) 2 (dX57_resolve 134 rfl rfl) rfl rfl rfl ?_
          refine x_aload_n (pc' := 278) 4 (dX57_resolve 135 rfl rfl) rfl rfl rfl ?_
          obtain ⟨k, ν, ⟨v0, v1, v2, v3, v4, v5, v6, v7⟩, k27, hf⟩ := hf
          refine x_inv (pc' := 281) (ν := ν) (st := []) rfl (sub_tr v7 rfl) (dX57_resolve 136 rfl rfl) (by have := v5; simp only [List.map, List.sum_cons, List.sum_nil, Value.category]; omega) v1 v2 (inv_U (k := k) (av := [_, _]) (dX57_resolve 136 rfl rfl) q2092 q2094 (by decide) v3 v4 (by decide) (show _ = some 2 by decide +kernel) v0 k27) (exN v6) rfl ?_
          refine C.mono hf (fun _ _ => KV.g (fun h24 hf le25 => ?_))
          replace le25 := Le.nx v6 le25
          have k1 := leK le25 k1 (by decide)
          have k4 := leK le25 k4 (by decide)
          have k11 := leK le25 k11 (by decide)
          have k13 := leK le25 k13 (by decide)
          have k16 := leK le25 k16 (by decide)
          replace s4 := s4.le sc4 (le25)
          replace hf := hf _ rfl
          refine x_iinc (pc' := 284) 5 (dX57_resolve 137 rfl rfl) rfl (by rfl) (by decide) rfl rfl ?_
          refine x_goto (tgt := 214) (dX57_resolve 138 rfl rfl) (by decide) ?_
          exact X.sub [2, 3, 4, 5, 0] rfl (by simp) hf
    · replace hf := hf.2 c18
      refine x_aload_n (pc' := 254) 2 (dX57_resolve 124 rfl rfl) rfl rfl rfl ?_
      refine x_iconst (pc' := 255) (v := 3) (dX57_resolve 125 rfl rfl) (by decide) rfl ?_
      refine x_aload (pc' := 257) 0 (dX57_resolve 126 rfl rfl) rfl rfl ?_
      refine x_getI (pc' := 260) (dX57_resolve 127 rfl rfl) g361 q1998 (Or.inl rfl) rfl (hf_of 51 k13 rfl (by decide) m51_361) ?_
      refine x_inv (pc' := 263) (ν := mX9_found) (av := [_, _, _]) (st := []) rfl rfl (dX57_resolve 128 rfl rfl) (Nat.le_of_ble_eq_true rfl) wX9_found q223 (inv_V (k := 7) (dX57_resolve 128 rfl rfl) q2060 q2061 q2062 wX9_found (by decide) lX9_found (by decide) s4.1) (exN (by decide)) rfl ?_
      refine C.mono hf (fun _ _ => KV.g (fun h30 hf le31 => ?_))
      have k1 := leK le31 k1 (by decide)
      have k4 := leK le31 k4 (by decide)
      have k11 := leK le31 k11 (by decide)
      have k13 := leK le31 k13 (by decide)
      have k16 := leK le31 k16 (by decide)
      replace s4 := s4.le sc4 (le31)
      refine x_aload (pc' := 265) 0 (dX57_resolve 129 rfl rfl) rfl rfl ?_
      obtain ⟨ho0, ho1⟩ := hf
      rcases hr : fR _ b12 362 with _ | b32
      · replace hf := ho0 hr
        refine x_getN (pc' := 268) (dX57_resolve 130 rfl rfl) g362 q2000 (Or.inl rfl) rfl (hf_of 51 k13 rfl (by decide) m51_362) hr ?_
        refine x_ifnullN (tgt := 281) (dX57_resolve 131 rfl rfl) (by decide) ?_
        replace hf := hf _ rfl
        refine x_iinc (pc' := 284) 5 (dX57_resolve 137 rfl rfl) rfl (by rfl) (by decide) rfl rfl ?_
        refine x_goto (tgt := 214) (dX57_resolve 138 rfl rfl) (by decide) ?_
        exact X.sub [2, 3, 4, 5, 0] rfl (by simp) hf
      · replace hf := ho1 _ hr
        refine x_getR (pc' := 268) (dX57_resolve 130 rfl rfl) g362 q2000 (Or.inl rfl) rfl (hf_of 51 k13 rfl (by decide) m51_362) hr ?_
        refine x_ifnull (pc' := 271) (dX57_resolve 131 rfl rfl) rfl ?_
        refine x_aload (pc' := 273) 0 (dX57_resolve 132 rfl rfl) rfl rfl ?_
        obtain ⟨ho0, ho1⟩ := hf
        rcases hr : fR _ b12 362 with _ | b35
        · replace hf := ho0 hr
          refine x_getN (pc' := 276) (dX57_resolve 133 rfl rfl) g362 q2000 (Or.inl rfl) rfl (hf_of 51 k13 rfl (by decide) m51_362) hr ?_
          refine x_aload_n (pc' := 277) 2 (dX57_resolve 134 rfl rfl) rfl rfl rfl ?_
          refine x_aload_n (pc' := 278) 4 (dX57_resolve 135 rfl rfl) rfl rfl rfl ?_
          exact hf.elim
        · replace hf := ho1 _ hr
          refine x_getR (pc' := 276) (dX57_resolve 133 rfl rfl) g362 q2000 (Or.inl rfl) rfl (hf_of 51 k13 rfl (by decide) m51_362) hr ?_
          refine x_aload_n (pc' := 277) 2 (dX57_resolve 134 rfl rfl) rfl rfl rfl ?_
          refine x_aload_n (pc' := 278) 4 (dX57_resolve 135 rfl rfl) rfl rfl rfl ?_
          obtain ⟨k, ν, ⟨v0, v1, v2, v3, v4, v5, v6, v7⟩, k40, hf⟩ := hf
          refine x_inv (pc' := 281) (ν := ν) (st := []) rfl (sub_tr v7 rfl) (dX57_resolve 136 rfl rfl) (by have := v5; simp only [List.map, List.sum_cons, List.sum_nil, Value.category]; omega) v1 v2 (inv_U (k := k) (av := [_, _]) (dX57_resolve 136 rfl rfl) q2092 q2094 (by decide) v3 v4 (by decide) (show _ = some 2 by decide +kernel) v0 k40) (exN v6) rfl ?_
          refine C.mono hf (fun _ _ => KV.g (fun h37 hf le38 => ?_))
          replace le38 := Le.nx v6 le38
          have k1 := leK le38 k1 (by decide)
          have k4 := leK le38 k4 (by decide)
          have k11 := leK le38 k11 (by decide)
          have k13 := leK le38 k13 (by decide)
          have k16 := leK le38 k16 (by decide)
          replace s4 := s4.le sc4 (le38)
          replace hf := hf _ rfl
          refine x_iinc (pc' := 284) 5 (dX57_resolve 137 rfl rfl) rfl (by rfl) (by decide) rfl rfl ?_
          refine x_goto (tgt := 214) (dX57_resolve 138 rfl rfl) (by decide) ?_
          exact X.sub [2, 3, 4, 5, 0] rfl (by simp) hf
theorem bX57_resolve_295 (G : Gh) (d : Nat) (h : AH) (Q : Outcome → AH → Prop) (l0 : Nat) (l2 : Int32) (hf : hK h l0 = 53 ∧ (∃ b2, fR h l0 364 = some b2 ∧ (hK h b2 = 6 ∧ (((fI h b2 78) ≤ l2 → (Q (.returned none) h)) ∧ (¬ ((fI h b2 78) ≤ l2) → (∃ b6, fR h l0 364 = some b6 ∧ (hK h b6 = 6 ∧ (C G mX7_data d [.ref (b6), .int (l2)] h (KR Q (fun b11 h8 => hK h8 b11 = 47 ∧ (∃ b13, fR h8 b11 353 = some b13 ∧ (∃ b15, fR h8 b11 352 = some b15 ∧ (hK h8 b15 = 6 ∧ (hK h8 b13 = 4 ∧ (∀ h19, h19 = pI h8 b13 54 (fI h8 b15 78) → (X G mX57_resolve (d + 1) none [] 332 [(0, .ref (l0)), (1, .ref (gW G 4)), (2, .int (l2)), (3, .ref (b11)), (4, .int (0))] [] h19 Q)))))))))))))))) : X G mX57_resolve (d + 1) none [] 295 [(0, .ref (l0)), (1, .ref (gW G 4)), (2, .int (l2))] [] h Q := by
  refine x_iload_n (pc' := 296) 2 (dX57_resolve 143 rfl rfl) rfl rfl rfl ?_
  refine x_aload_n (pc' := 297) 0 (dX57_resolve 144 rfl rfl) rfl rfl rfl ?_
  obtain ⟨k1, hf⟩ := hf
  obtain ⟨b2, e3, hf⟩ := hf
  refine x_getR (pc' := 300) (dX57_resolve 145 rfl rfl) g364 q2015 (Or.inl rfl) rfl (hf_of 52 k1 rfl (by decide) m52_364) e3 ?_
  obtain ⟨k4, hf⟩ := hf
  refine x_getI (pc' := 303) (dX57_resolve 146 rfl rfl) g78 q567 (Or.inl rfl) rfl (hf_of 5 k4 rfl (by decide) m5_78) ?_
  refine x_icmp_ge (pc' := 306) (tgt := 444) (dX57_resolve 147 rfl rfl) (by decide) rfl (fun c5 => ?_) (fun c5 => ?_)
  · replace hf := hf.1 c5
    exact x_vret (dX57_resolve 210 rfl rfl) rfl hf
  · replace hf := hf.2 c5
    refine x_aload_n (pc' := 307) 0 (dX57_resolve 148 rfl rfl) rfl rfl rfl ?_
    obtain ⟨b6, e7, hf⟩ := hf
    refine x_getR (pc' := 310) (dX57_resolve 149 rfl rfl) g364 q2015 (Or.inl rfl) rfl (hf_of 52 k1 rfl (by decide) m52_364) e7 ?_
    refine x_iload_n (pc' := 311) 2 (dX57_resolve 150 rfl rfl) rfl rfl rfl ?_
    obtain ⟨k10, hf⟩ := hf
    refine x_inv (pc' := 314) (ν := mX7_data) (av := [_, _]) (st := []) rfl rfl (dX57_resolve 151 rfl rfl) (Nat.le_of_ble_eq_true rfl) wX7_data q221 (inv_V (k := 5) (dX57_resolve 151 rfl rfl) q2047 q2048 q2049 wX7_data (by decide) lX7_data (by decide) k10) (exN (by decide)) rfl ?_
    refine C.mono hf (fun _ _ => KR.g (fun b11 h8 hf le9 => ?_))
    have k1 := leK le9 k1 (by decide)
    have k4 := leK le9 k4 (by decide)
    have k10 := leK le9 k10 (by decide)
    refine x_astore_n (pc' := 315) (dX57_resolve 152 rfl rfl) rfl (by decide) rfl rfl ?_
    refine x_aload_n (pc' := 316) 0 (dX57_resolve 153 rfl rfl) rfl rfl rfl ?_
    obtain ⟨k12, hf⟩ := hf
    obtain ⟨b13, e14, hf⟩ := hf
    refine x_getR (pc' := 319) (dX57_resolve 154 rfl rfl) g353 q1903 (Or.inl rfl) rfl (hf_of 46 k12 rfl (by decide) m46_353) e14 ?_
    refine x_aload_n (pc' := 320) 0 (dX57_resolve 155 rfl rfl) rfl rfl rfl ?_
    obtain ⟨b15, e16, hf⟩ := hf
    refine x_getR (pc' := 323) (dX57_resolve 156 rfl rfl) g352 q1901 (Or.inl rfl) rfl (hf_of 46 k12 rfl (by decide) m46_352) e16 ?_
    obtain ⟨k17, hf⟩ := hf
    refine x_getI (pc' := 326) (dX57_resolve 157 rfl rfl) g78 q567 (Or.inl rfl) rfl (hf_of 5 k17 rfl (by decide) m5_78) ?_
    obtain ⟨k18, hf⟩ := hf
    refine x_putI (pc' := 329) (dX57_resolve 158 rfl rfl) g54 q451 (Or.inl rfl) (Or.inl rfl) (Or.inl (by decide)) rfl (hf_of 3 k18 rfl (by decide) m3_54) (fun h19 e20 => ?_)
    replace hf := hf h19 e20
    replace k1 : hK h19 l0 = 53 := by rw [e20]; exact k1
    replace k4 : hK h19 b2 = 6 := by rw [e20]; exact k4
    replace k10 : hK h19 b6 = 6 := by rw [e20]; exact k10
    replace k12 : hK h19 b11 = 47 := by rw [e20]; exact k12
    replace k17 : hK h19 b15 = 6 := by rw [e20]; exact k17
    replace k18 : hK h19 b13 = 4 := by rw [e20]; exact k18
    refine x_iconst (pc' := 330) (v := 0) (dX57_resolve 159 rfl rfl) (by decide) rfl ?_
    refine x_istore (pc' := 332) (dX57_resolve 160 rfl rfl) (by decide) rfl rfl ?_
    exact X.sub [2, 3, 4, 1, 0] rfl (by simp) hf
theorem bX57_resolve_332 (G : Gh) (d : Nat) (h : AH) (Q : Outcome → AH → Prop) (l0 : Nat) (l2 : Int32) (l3 : Nat) (l4 : Int32) (s4 : So 4 (gW G) h) (hf : hK h l3 = 47 ∧ (∃ b2, fR h l3 352 = some b2 ∧ (hK h b2 = 6 ∧ (((fI h b2 78) ≤ l4 → (∀ x6 : Int32, x6 = l2 + 1 → (X G mX57_resolve (d + 1) none [] 295 [(0, .ref (l0)), (1, .ref (gW G 4)), (2, .int (x6))] [] h Q))) ∧ (¬ ((fI h b2 78) ≤ l4) → (∃ b7, fR h l3 352 = some b7 ∧ (hK h b7 = 6 ∧ (C G mX7_con d [.ref (b7), .int (l4)] h (KR Q (fun b12 h9 => (hc h9 + 1 ≤ MC) ∧ (hs h9 + 9 ≤ MS) ∧ ∀ q13, hK h9 q13 = 0 → ∀ h15, h15 = nO h9 q13 53 → (hK h15 b12 = 52 ∧ (C G mX9_part d [.ref (gW G 4), .int (fI h15 b12 361), .int (0)] h15 (KJ Q (fun y21 h19 => C G mX9_part d [.ref (gW G 4), .int (fI h19 b12 361), .int (1)] h19 (KJ Q (fun y24 h22 => ∃ b25, fR h22 l3 353 = some b25 ∧ (C G mX58_init d [.ref (q13), .long (y21), .long (y24), .ref (b25), .int (l4)] h22 (KV Q (fun h27 => ∀ h29, h29 = pR h27 b12 363 (some q13) → (∃ b30, fR h29 b12 363 = some b30 ∧ (OC (fR h29 b12 362) (hK h29 b30 = 54 ∧ (∀ h35, h35 = pI h29 b30 371 0 → (∃ b36, fR h35 b12 363 = some b36 ∧ (C G mX9_number d [.ref (gW G 4), .ref (b36)] h35 (KV Q (fun h38 => ∃ b40, fR h38 b12 363 = some b40 ∧ (C G mX9_addCon d [.ref (gW G 4), .ref (b40)] h38 (KV Q (fun h42 => ∀ x44 : Int32, x44 = l4 + 1 → (X G mX57_resolve (d + 1) none [] 332 [(0, .ref (l0)), (1, .ref (gW G 4)), (2, .int (l2)), (3, .ref (l3)), (4, .int (x44))] [] h42 Q)))))))))) (fun b32 => hK h29 b30 = 54 ∧ (∀ h47, h47 = pI h29 b30 371 1 → (∃ b48, fR h47 b12 363 = some b48 ∧ (C G mX9_number d [.ref (gW G 4), .ref (b48)] h47 (KV Q (fun h50 => ∃ b52, fR h50 b12 363 = some b52 ∧ (C G mX9_addCon d [.ref (gW G 4), .ref (b52)] h50 (KV Q (fun h54 => ∀ x56 : Int32, x56 = l4 + 1 → (X G mX57_resolve (d + 1) none [] 332 [(0, .ref (l0)), (1, .ref (gW G 4)), (2, .int (l2)), (3, .ref (l3)), (4, .int (x56))] [] h54 Q))))))))))))))))))))))))))))))) : X G mX57_resolve (d + 1) none [] 332 [(0, .ref (l0)), (1, .ref (gW G 4)), (2, .int (l2)), (3, .ref (l3)), (4, .int (l4))] [] h Q := by
  refine x_iload (pc' := 334) 4 (dX57_resolve 161 rfl rfl) rfl rfl ?_
  refine x_aload_n (pc' := 335) 3 (dX57_resolve 162 rfl rfl) rfl rfl rfl ?_
  obtain ⟨k1, hf⟩ := hf
  obtain ⟨b2, e3, hf⟩ := hf
  refine x_getR (pc' := 338) (dX57_resolve 163 rfl rfl) g352 q1901 (Or.inl rfl) rfl (hf_of 46 k1 rfl (by decide) m46_352) e3 ?_
  obtain ⟨k4, hf⟩ := hf
  refine x_getI (pc' := 341) (dX57_resolve 164 rfl rfl) g78 q567 (Or.inl rfl) rfl (hf_of 5 k4 rfl (by decide) m5_78) ?_
  refine x_icmp_ge (pc' := 344) (tgt := 438) (dX57_resolve 165 rfl rfl) (by decide) rfl (fun c5 => ?_) (fun c5 => ?_)
  · replace hf := hf.1 c5
    replace hf := hf _ rfl
    refine x_iinc (pc' := 441) 2 (dX57_resolve 208 rfl rfl) rfl (by rfl) (by decide) rfl rfl ?_
    refine x_goto (tgt := 295) (dX57_resolve 209 rfl rfl) (by decide) ?_
    exact X.sub [1, 2, 0] rfl (by simp) hf
  · replace hf := hf.2 c5
    refine x_aload_n (pc' := 345) 3 (dX57_resolve 166 rfl rfl) rfl rfl rfl ?_
    obtain ⟨b7, e8, hf⟩ := hf
    refine x_getR (pc' := 348) (dX57_resolve 167 rfl rfl) g352 q1901 (Or.inl rfl) rfl (hf_of 46 k1 rfl (by decide) m46_352) e8 ?_
    refine x_iload (pc' := 350) 4 (dX57_resolve 168 rfl rfl) rfl rfl ?_
    obtain ⟨k11, hf⟩ := hf
    refine x_inv (pc' := 353) (ν := mX7_con) (av := [_, _]) (st := []) rfl rfl (dX57_resolve 169 rfl rfl) (Nat.le_of_ble_eq_true rfl) wX7_con q221 (inv_V (k := 5) (dX57_resolve 169 rfl rfl) q2083 q2084 q2085 wX7_con (by decide) lX7_con (by decide) k11) (exN (by decide)) rfl ?_
    refine C.mono hf (fun _ _ => KR.g (fun b12 h9 hf le10 => ?_))
    have k1 := leK le10 k1 (by decide)
    have k4 := leK le10 k4 (by decide)
    have k11 := leK le10 k11 (by decide)
    replace s4 := s4.le sc4 (le10)
    refine x_astore (pc' := 355) (dX57_resolve 170 rfl rfl) (by decide) rfl rfl ?_
    refine x_aload (pc' := 357) 0 (dX57_resolve 171 rfl rfl) rfl rfl ?_
    obtain ⟨n1, n2, hf⟩ := hf
    refine x_new (pc' := 360) (k := 53) (dX57_resolve 172 rfl rfl) q2125 (by decide) rfl (by decide) n1 n2 (fun q13 h15 k14 e16 => ?_)
    replace hf := hf q13 k14 h15 e16
    replace k1 : hK h15 l3 = 47 := by rw [e16]; exact kNO k1 (by decide) k14
    replace k4 : hK h15 b2 = 6 := by rw [e16]; exact kNO k4 (by decide) k14
    replace k11 : hK h15 b7 = 6 := by rw [e16]; exact kNO k11 (by decide) k14
    replace s4 : So 4 (gW G) h15 := by rw [e16]; exact s4.le sc4 (nO_le k14)
    have k17 : hK h15 q13 = 54 := by rw [e16]; exact kNOs
    refine x_dup (pc' := 361) (dX57_resolve 173 rfl rfl) rfl rfl ?_
    refine x_aload_n (pc' := 362) 2 (dX57_resolve 174 rfl rfl) rfl rfl rfl ?_
    refine x_aload (pc' := 364) 0 (dX57_resolve 175 rfl rfl) rfl rfl ?_
    obtain ⟨k18, hf⟩ := hf
    refine x_getI (pc' := 367) (dX57_resolve 176 rfl rfl) g361 q1998 (Or.inl rfl) rfl (hf_of 51 k18 rfl (by decide) m51_361) ?_
    refine x_iconst (pc' := 368) (v := 0) (dX57_resolve 177 rfl rfl) (by decide) rfl ?_
    refine x_inv (pc' := 371) (ν := mX9_part) (av := [_, _, _]) (st := [_, _, _]) rfl rfl (dX57_resolve 178 rfl rfl) (Nat.le_of_ble_eq_true rfl) wX9_part q223 (inv_V (k := 7) (dX57_resolve 178 rfl rfl) q2127 q2128 q2129 wX9_part (by decide) lX9_part (by decide) s4.1) (exN (by decide)) rfl ?_
    refine C.mono hf (fun _ _ => KJ.g (fun y21 h19 hf le20 => ?_))
    have k1 := leK le20 k1 (by decide)
    have k4 := leK le20 k4 (by decide)
    have k11 := leK le20 k11 (by decide)
    have k17 := leK le20 k17 (by decide)
    have k18 := leK le20 k18 (by decide)
    replace s4 := s4.le sc4 (le20)
    refine x_aload_n (pc' := 372) 2 (dX57_resolve 179 rfl rfl) rfl rfl rfl ?_
    refine x_aload (pc' := 374) 0 (dX57_resolve 180 rfl rfl) rfl rfl ?_
    refine x_getI (pc' := 377) (dX57_resolve 181 rfl rfl) g361 q1998 (Or.inl rfl) rfl (hf_of 51 k18 rfl (by decide) m51_361) ?_
    refine x_iconst (pc' := 378) (v := 1) (dX57_resolve 182 rfl rfl) (by decide) rfl ?_
    refine x_inv (pc' := 381) (ν := mX9_part) (av := [_, _, _]) (st := [_, _, _, _]) rfl rfl (dX57_resolve 183 rfl rfl) (Nat.le_of_ble_eq_true rfl) wX9_part q223 (inv_V (k := 7) (dX57_resolve 183 rfl rfl) q2127 q2128 q2129 wX9_part (by decide) lX9_part (by decide) s4.1) (exN (by decide)) rfl ?_
    refine C.mono hf (fun _ _ => KJ.g (fun y24 h22 hf le23 => ?_))
    have k1 := leK le23 k1 (by decide)
    have k4 := leK le23 k4 (by decide)
    have k11 := leK le23 k11 (by decide)
    have k17 := leK le23 k17 (by decide)
    have k18 := leK le23 k18 (by decide)
    replace s4 := s4.le sc4 (le23)
    refine x_aload_n (pc' := 382) 4 (dX57_resolve 184 rfl rfl) rfl rfl rfl ?_
    obtain ⟨b25, e26, hf⟩ := hf
    refine x_getR (pc' := 385) (dX57_resolve 185 rfl rfl) g353 q1903 (Or.inl rfl) rfl (hf_of 46 k1 rfl (by decide) m46_353) e26 ?_
    refine x_iload (pc' := 387) 5 (dX57_resolve 186 rfl rfl) rfl rfl ?_
    refine x_inv (pc' := 390) (ν := mX58_init) (av := [_, _, _, _, _]) (st := [_, _]) rfl rfl (dX57_resolve 187 rfl rfl) (Nat.le_of_ble_eq_true rfl) wX58_init q279 (inv_I (dX57_resolve 187 rfl rfl) q2131 q2132 q2133 rfl (by decide) lX58_init) (fun b hb => by exact Or.inl (by have e : some _ = some b := hb; cases e; simp)) rfl ?_
    refine C.mono hf (fun _ _ => KV.g (fun h27 hf le28 => ?_))
    replace s4 := s4.leX sc4 le28 k17 (by decide)
    have k1 := leK le28 k1 (by decide)
    have k4 := leK le28 k4 (by decide)
    have k11 := leK le28 k11 (by decide)
    have k17 := leK le28 k17 (by decide)
    have k18 := leK le28 k18 (by decide)
    refine x_putR (pc' := 393) (dX57_resolve 188 rfl rfl) g363 q2001 (Or.inl rfl) (Or.inl rfl) (Or.inl (by decide)) rfl (hf_of 51 k18 rfl (by decide) m51_363) (fun h29 e58 => ?_)
    replace hf := hf h29 e58
    replace k1 : hK h29 l3 = 47 := by rw [e58]; exact k1
    replace k4 : hK h29 b2 = 6 := by rw [e58]; exact k4
    replace k11 : hK h29 b7 = 6 := by rw [e58]; exact k11
    replace k17 : hK h29 q13 = 54 := by rw [e58]; exact k17
    replace k18 : hK h29 b12 = 52 := by rw [e58]; exact k18
    replace s4 : So 4 (gW G) h29 := by rw [e58]; exact s4.le sc4 (pR_le (Or.inl rfl))
    refine x_aload (pc' := 395) 0 (dX57_resolve 189 rfl rfl) rfl rfl ?_
    obtain ⟨b30, e31, hf⟩ := hf
    refine x_getR (pc' := 398) (dX57_resolve 190 rfl rfl) g363 q2001 (Or.inl rfl) rfl (hf_of 51 k18 rfl (by decide) m51_363) e31 ?_
    refine x_aload (pc' := 400) 0 (dX57_resolve 191 rfl rfl) rfl rfl ?_
    obtain ⟨ho0, ho1⟩ := hf
    rcases hr : fR _ b12 362 with _ | b32
    · replace hf := ho0 hr
      refine x_getN (pc' := 403) (dX57_resolve 192 rfl rfl) g362 q2000 (Or.inl rfl) rfl (hf_of 51 k18 rfl (by decide) m51_362) hr ?_
      refine x_ifnullN (tgt := 410) (dX57_resolve 193 rfl rfl) (by decide) ?_
      refine x_iconst (pc' := 411) (v := 0) (dX57_resolve 196 rfl rfl) (by decide) rfl ?_
      obtain ⟨k34, hf⟩ := hf
      refine x_putZ (pc' := 414) (dX57_resolve 197 rfl rfl) g371 q2148 (Or.inl rfl) (Or.inl rfl) (Or.inl (by decide)) rfl (hf_of 53 k34 rfl (by decide) m53_371) (by decide) (fun h35 e45 => ?_)
      replace hf := hf h35 e45
      replace k1 : hK h35 l3 = 47 := by rw [e45]; exact k1
      replace k4 : hK h35 b2 = 6 := by rw [e45]; exact k4
      replace k11 : hK h35 b7 = 6 := by rw [e45]; exact k11
      replace k17 : hK h35 q13 = 54 := by rw [e45]; exact k17
      replace k18 : hK h35 b12 = 52 := by rw [e45]; exact k18
      replace k34 : hK h35 b30 = 54 := by rw [e45]; exact k34
      replace s4 : So 4 (gW G) h35 := by rw [e45]; exact s4.le sc4 (pI_le (Or.inl rfl))
      refine x_aload_n (pc' := 415) 2 (dX57_resolve 198 rfl rfl) rfl rfl rfl ?_
      refine x_aload (pc' := 417) 0 (dX57_resolve 199 rfl rfl) rfl rfl ?_
      obtain ⟨b36, e37, hf⟩ := hf
      refine x_getR (pc' := 420) (dX57_resolve 200 rfl rfl) g363 q2001 (Or.inl rfl) rfl (hf_of 51 k18 rfl (by decide) m51_363) e37 ?_
      refine x_inv (pc' := 423) (ν := mX9_number) (av := [_, _]) (st := []) rfl rfl (dX57_resolve 201 rfl rfl) (Nat.le_of_ble_eq_true rfl) wX9_number q223 (inv_V (k := 7) (dX57_resolve 201 rfl rfl) q2176 q2177 q2178 wX9_number (by decide) lX9_number (by decide) s4.1) (exN (by decide)) rfl ?_
      refine C.mono hf (fun _ _ => KV.g (fun h38 hf le39 => ?_))
      have k1 := leK le39 k1 (by decide)
      have k4 := leK le39 k4 (by decide)
      have k11 := leK le39 k11 (by decide)
      have k17 := leK le39 k17 (by decide)
      have k18 := leK le39 k18 (by decide)
      have k34 := leK le39 k34 (by decide)
      replace s4 := s4.le sc4 (le39)
      refine x_aload_n (pc' := 424) 2 (dX57_resolve 202 rfl rfl) rfl rfl rfl ?_
      refine x_aload (pc' := 426) 0 (dX57_resolve 203 rfl rfl) rfl rfl ?_
      obtain ⟨b40, e41, hf⟩ := hf
      refine x_getR (pc' := 429) (dX57_resolve 204 rfl rfl) g363 q2001 (Or.inl rfl) rfl (hf_of 51 k18 rfl (by decide) m51_363) e41 ?_
      refine x_inv (pc' := 432) (ν := mX9_addCon) (av := [_, _]) (st := []) rfl rfl (dX57_resolve 205 rfl rfl) (Nat.le_of_ble_eq_true rfl) wX9_addCon q223 (inv_V (k := 7) (dX57_resolve 205 rfl rfl) q2180 q2181 q2182 wX9_addCon (by decide) lX9_addCon (by decide) s4.1) (exN (by decide)) rfl ?_
      refine C.mono hf (fun _ _ => KV.g (fun h42 hf le43 => ?_))
      have k1 := leK le43 k1 (by decide)
      have k4 := leK le43 k4 (by decide)
      have k11 := leK le43 k11 (by decide)
      have k17 := leK le43 k17 (by decide)
      have k18 := leK le43 k18 (by decide)
      have k34 := leK le43 k34 (by decide)
      replace s4 := s4.le sc4 (le43)
      replace hf := hf _ rfl
      refine x_iinc (pc' := 435) 5 (dX57_resolve 206 rfl rfl) rfl (by rfl) (by decide) rfl rfl ?_
      refine x_goto (tgt := 332) (dX57_resolve 207 rfl rfl) (by decide) ?_
      exact X.sub [2, 3, 4, 5, 0] rfl (by simp) hf
    · replace hf := ho1 _ hr
      refine x_getR (pc' := 403) (dX57_resolve 192 rfl rfl) g362 q2000 (Or.inl rfl) rfl (hf_of 51 k18 rfl (by decide) m51_362) hr ?_
      refine x_ifnull (pc' := 406) (dX57_resolve 193 rfl rfl) rfl ?_
      refine x_iconst (pc' := 407) (v := 1) (dX57_resolve 194 rfl rfl) (by decide) rfl ?_
      refine x_goto (tgt := 411) (dX57_resolve 195 rfl rfl) (by decide) ?_
      obtain ⟨k46, hf⟩ := hf
      refine x_putZ (pc' := 414) (dX57_resolve 197 rfl rfl) g371 q2148 (Or.inl rfl) (Or.inl rfl) (Or.inl (by decide)) rfl (hf_of 53 k46 rfl (by decide) m53_371) (by decide) (fun h47 e57 => ?_)
      replace hf := hf h47 e57
      replace k1 : hK h47 l3 = 47 := by rw [e57]; exact k1
      replace k4 : hK h47 b2 = 6 := by rw [e57]; exact k4
      replace k11 : hK h47 b7 = 6 := by rw [e57]; exact k11
      replace k17 : hK h47 q13 = 54 := by rw [e57]; exact k17
      replace k18 : hK h47 b12 = 52 := by rw [e57]; exact k18
      replace k46 : hK h47 b30 = 54 := by rw [e57]; exact k46
      replace s4 : So 4 (gW G) h47 := by rw [e57]; exact s4.le sc4 (pI_le (Or.inl rfl))
      refine x_aload_n (pc' := 415) 2 (dX57_resolve 198 rfl rfl) rfl rfl rfl ?_
      refine x_aload (pc' := 417) 0 (dX57_resolve 199 rfl rfl) rfl rfl ?_
      obtain ⟨b48, e49, hf⟩ := hf
      refine x_getR (pc' := 420) (dX57_resolve 200 rfl rfl) g363 q2001 (Or.inl rfl) rfl (hf_of 51 k18 rfl (by decide) m51_363) e49 ?_
      refine x_inv (pc' := 423) (ν := mX9_number) (av := [_, _]) (st := []) rfl rfl (dX57_resolve 201 rfl rfl) (Nat.le_of_ble_eq_true rfl) wX9_number q223 (inv_V (k := 7) (dX57_resolve 201 rfl rfl) q2176 q2177 q2178 wX9_number (by decide) lX9_number (by decide) s4.1) (exN (by decide)) rfl ?_
      refine C.mono hf (fun _ _ => KV.g (fun h50 hf le51 => ?_))
      have k1 := leK le51 k1 (by decide)
      have k4 := leK le51 k4 (by decide)
      have k11 := leK le51 k11 (by decide)
      have k17 := leK le51 k17 (by decide)
      have k18 := leK le51 k18 (by decide)
      have k46 := leK le51 k46 (by decide)
      replace s4 := s4.le sc4 (le51)
      refine x_aload_n (pc' := 424) 2 (dX57_resolve 202 rfl rfl) rfl rfl rfl ?_
      refine x_aload (pc' := 426) 0 (dX57_resolve 203 rfl rfl) rfl rfl ?_
      obtain ⟨b52, e53, hf⟩ := hf
      refine x_getR (pc' := 429) (dX57_resolve 204 rfl rfl) g363 q2001 (Or.inl rfl) rfl (hf_of 51 k18 rfl (by decide) m51_363) e53 ?_
      refine x_inv (pc' := 432) (ν := mX9_addCon) (av := [_, _]) (st := []) rfl rfl (dX57_resolve 205 rfl rfl) (Nat.le_of_ble_eq_true rfl) wX9_addCon q223 (inv_V (k := 7) (dX57_resolve 205 rfl rfl) q2180 q2181 q2182 wX9_addCon (by decide) lX9_addCon (by decide) s4.1) (exN (by decide)) rfl ?_
      refine C.mono hf (fun _ _ => KV.g (fun h54 hf le55 => ?_))
      have k1 := leK le55 k1 (by decide)
      have k4 := leK le55 k4 (by decide)
      have k11 := leK le55 k11 (by decide)
      have k17 := leK le55 k17 (by decide)
      have k18 := leK le55 k18 (by decide)
      have k46 := leK le55 k46 (by decide)
      replace s4 := s4.le sc4 (le55)
      replace hf := hf _ rfl
      refine x_iinc (pc' := 435) 5 (dX57_resolve 206 rfl rfl) rfl (by rfl) (by decide) rfl rfl ?_
      refine x_goto (tgt := 332) (dX57_resolve 207 rfl rfl) (by decide) ?_
      exact X.sub [2, 3, 4, 5, 0] rfl (by simp) hf
theorem bX57_isThere (G : Gh) (d : Nat) (h : AH) (Q : Outcome → AH → Prop) (a0 : Nat) (p2 : Int32) (p3 : Int32) (p4 : Int32) (hf : X G mX57_isThere (d + 1) none [] 3 [(0, .ref (a0)), (1, .ref (gW G 4)), (2, .int (p2)), (3, .int (p3)), (4, .int (p4)), (5, .int (0))] [] h Q) : C G mX57_isThere (d + 1) [.ref (a0), .ref (gW G 4), .int (p2), .int (p3), .int (p4)] h Q := by
  refine C.of_X (by decide +kernel) (Nat.le_of_ble_eq_true rfl) wX57_isThere ?_
  show X G mX57_isThere (d + 1) none [] 0 [(0, .ref (a0)), (1, .ref (gW G 4)), (2, .int (p2)), (3, .int (p3)), (4, .int (p4))] [] h Q
  refine x_iconst (pc' := 1) (v := 0) (dX57_isThere 0 rfl rfl) (by decide) rfl ?_
  refine x_istore (pc' := 3) (dX57_isThere 1 rfl rfl) (by decide) rfl rfl ?_
  exact X.sub [1, 2, 3, 4, 5, 0] rfl (by simp) hf
theorem bX57_isThere_3 (G : Gh) (d : Nat) (h : AH) (Q : Outcome → AH → Prop) (l0 : Nat) (l2 : Int32) (l3 : Int32) (l4 : Int32) (l5 : Int32) (hf : (l2 < l5 → (Q (.returned (some (.int 0))) h)) ∧ (¬ (l2 < l5) → (hK h l0 = 53 ∧ (∃ b3, fR h l0 364 = some b3 ∧ (hK h b3 = 6 ∧ (C G mX7_data d [.ref (b3), .int (l5)] h (KR Q (fun b8 h5 => hK h5 b8 = 47 ∧ (∃ b10, fR h5 b8 352 = some b10 ∧ ((l5 = l2 → (X G mX57_isThere (d + 1) none [] 43 [(0, .ref (l0)), (1, .ref (gW G 4)), (2, .int (l2)), (3, .int (l3)), (4, .int (l4)), (5, .int (l5)), (6, .ref (b10)), (7, .int (l3)), (8, .int (0))] [] h5 Q)) ∧ (¬ l5 = l2 → (hK h5 b10 = 6 ∧ (∀ x14 : Int32, x14 = fI h5 b10 78 → (X G mX57_isThere (d + 1) none [] 43 [(0, .ref (l0)), (1, .ref (gW G 4)), (2, .int (l2)), (3, .int (l3)), (4, .int (l4)), (5, .int (l5)), (6, .ref (b10)), (7, .int (x14)), (8, .int (0))] [] h5 Q)))))))))))))) : X G mX57_isThere (d + 1) none [] 3 [(0, .ref (l0)), (1, .ref (gW G 4)), (2, .int (l2)), (3, .int (l3)), (4, .int (l4)), (5, .int (l5))] [] h Q := by
  refine x_iload (pc' := 5) 5 (dX57_isThere 2 rfl rfl) rfl rfl ?_
  refine x_iload_n (pc' := 6) 2 (dX57_isThere 3 rfl rfl) rfl rfl rfl ?_
  refine x_icmp_gt (pc' := 9) (tgt := 83) (dX57_isThere 4 rfl rfl) (by decide) rfl (fun c1 => ?_) (fun c1 => ?_)
  · replace hf := hf.1 c1
    refine x_iconst (pc' := 84) (v := 0) (dX57_isThere 38 rfl rfl) (by decide) rfl ?_
    exact x_zret (ty := .boolean) (dX57_isThere 39 rfl rfl) rfl (by decide) hf
  · replace hf := hf.2 c1
    refine x_aload_n (pc' := 10) 0 (dX57_isThere 5 rfl rfl) rfl rfl rfl ?_
    obtain ⟨k2, hf⟩ := hf
    obtain ⟨b3, e4, hf⟩ := hf
    refine x_getR (pc' := 13) (dX57_isThere 6 rfl rfl) g364 q2015 (Or.inl rfl) rfl (hf_of 52 k2 rfl (by decide) m52_364) e4 ?_
    refine x_iload (pc' := 15) 5 (dX57_isThere 7 rfl rfl) rfl rfl ?_
    obtain ⟨k7, hf⟩ := hf
    refine x_inv (pc' := 18) (ν := mX7_data) (av := [_, _]) (st := []) rfl rfl (dX57_isThere 8 rfl rfl) (Nat.le_of_ble_eq_true rfl) wX7_data q221 (inv_V (k := 5) (dX57_isThere 8 rfl rfl) q2047 q2048 q2049 wX7_data (by decide) lX7_data (by decide) k7) (exN (by decide)) rfl ?_
    refine C.mono hf (fun _ _ => KR.g (fun b8 h5 hf le6 => ?_))
    have k2 := leK le6 k2 (by decide)
    have k7 := leK le6 k7 (by decide)
    obtain ⟨k9, hf⟩ := hf
    obtain ⟨b10, e11, hf⟩ := hf
    refine x_getR (pc' := 21) (dX57_isThere 9 rfl rfl) g352 q1901 (Or.inl rfl) rfl (hf_of 46 k9 rfl (by decide) m46_352) e11 ?_
    refine x_astore (pc' := 23) (dX57_isThere 10 rfl rfl) (by decide) rfl rfl ?_
    refine x_iload (pc' := 25) 6 (dX57_isThere 11 rfl rfl) rfl rfl ?_
    refine x_iload_n (pc' := 26) 3 (dX57_isThere 12 rfl rfl) rfl rfl rfl ?_
    refine x_icmp_ne (pc' := 29) (tgt := 33) (dX57_isThere 13 rfl rfl) (by decide) rfl (fun c12 => ?_) (fun c12 => ?_)
    · replace hf := hf.2 c12
      refine x_aload (pc' := 35) 0 (dX57_isThere 16 rfl rfl) rfl rfl ?_
      obtain ⟨k13, hf⟩ := hf
      refine x_getI (pc' := 38) (dX57_isThere 17 rfl rfl) g78 q567 (Or.inl rfl) rfl (hf_of 5 k13 rfl (by decide) m5_78) ?_
      replace hf := hf _ rfl
      refine x_istore (pc' := 40) (dX57_isThere 18 rfl rfl) (by decide) rfl rfl ?_
      refine x_iconst (pc' := 41) (v := 0) (dX57_isThere 19 rfl rfl) (by decide) rfl ?_
      refine x_istore (pc' := 43) (dX57_isThere 20 rfl rfl) (by decide) rfl rfl ?_
      exact X.sub [3, 4, 5, 6, 7, 8, 2, 1, 0] rfl (by simp) hf
    · replace hf := hf.1 (Classical.not_not.mp c12)
      replace c12 := Classical.not_not.mp c12
      refine x_iload_n (pc' := 30) 4 (dX57_isThere 14 rfl rfl) rfl rfl rfl ?_
      refine x_goto (tgt := 38) (dX57_isThere 15 rfl rfl) (by decide) ?_
      refine x_istore (pc' := 40) (dX57_isThere 18 rfl rfl) (by decide) rfl rfl ?_
      refine x_iconst (pc' := 41) (v := 0) (dX57_isThere 19 rfl rfl) (by decide) rfl ?_
      refine x_istore (pc' := 43) (dX57_isThere 20 rfl rfl) (by decide) rfl rfl ?_
      exact X.sub [3, 4, 5, 6, 7, 8, 2, 1, 0] rfl (by simp) hf
theorem bX57_isThere_43 (G : Gh) (d : Nat) (h : AH) (Q : Outcome → AH → Prop) (l0 : Nat) (l2 : Int32) (l3 : Int32) (l4 : Int32) (l5 : Int32) (l6 : Nat) (l7 : Int32) (l8 : Int32) (s4 : So 4 (gW G) h) (hf : (l7 ≤ l8 → (∀ x2 : Int32, x2 = l5 + 1 → (X G mX57_isThere (d + 1) none [] 3 [(0, .ref (l0)), (1, .ref (gW G 4)), (2, .int (l2)), (3, .int (l3)), (4, .int (l4)), (5, .int (x2))] [] h Q))) ∧ (¬ (l7 ≤ l8) → (hK h l6 = 6 ∧ (C G mX7_con d [.ref (l6), .int (l8)] h (KR Q (fun b6 h3 => hK h3 b6 = 52 ∧ (C G mX9_isTwice d [.ref (gW G 4), .int (l4), .int (fI h3 b6 361)] h3 (KI Q (fun x10 h8 => (x10 = 0 → (∀ x12 : Int32, x12 = l8 + 1 → (X G mX57_isThere (d + 1) none [] 43 [(0, .ref (l0)), (1, .ref (gW G 4)), (2, .int (l2)), (3, .int (l3)), (4, .int (l4)), (5, .int (l5)), (6, .ref (l6)), (7, .int (l7)), (8, .int (x12))] [] h8 Q))) ∧ (¬ x10 = 0 → (Q (.returned (some (.int 1))) h8))))))))))) : X G mX57_isThere (d + 1) none [] 43 [(0, .ref (l0)), (1, .ref (gW G 4)), (2, .int (l2)), (3, .int (l3)), (4, .int (l4)), (5, .int (l5)), (6, .ref (l6)), (7, .int (l7)), (8, .int (l8))] [] h Q := by
  refine x_iload (pc' := 45) 8 (dX57_isThere 21 rfl rfl) rfl rfl ?_
  refine x_iload (pc' := 47) 7 (dX57_isThere 22 rfl rfl) rfl rfl ?_
  refine x_icmp_ge (pc' := 50) (tgt := 77) (dX57_isThere 23 rfl rfl) (by decide) rfl (fun c1 => ?_) (fun c1 => ?_)
  · replace hf := hf.1 c1
    replace hf := hf _ rfl
    refine x_iinc (pc' := 80) 5 (dX57_isThere 36 rfl rfl) rfl (by rfl) (by decide) rfl rfl ?_
    refine x_goto (tgt := 3) (dX57_isThere 37 rfl rfl) (by decide) ?_
    exact X.sub [1, 2, 3, 4, 5, 0] rfl (by simp) hf
  · replace hf := hf.2 c1
    refine x_aload_n (pc' := 51) 1 (dX57_isThere 24 rfl rfl) rfl rfl rfl ?_
    refine x_iload (pc' := 53) 4 (dX57_isThere 25 rfl rfl) rfl rfl ?_
    refine x_aload (pc' := 55) 6 (dX57_isThere 26 rfl rfl) rfl rfl ?_
    refine x_iload (pc' := 57) 8 (dX57_isThere 27 rfl rfl) rfl rfl ?_
    obtain ⟨k5, hf⟩ := hf
    refine x_inv (pc' := 60) (ν := mX7_con) (av := [_, _]) (st := [_, _]) rfl rfl (dX57_isThere 28 rfl rfl) (Nat.le_of_ble_eq_true rfl) wX7_con q221 (inv_V (k := 5) (dX57_isThere 28 rfl rfl) q2083 q2084 q2085 wX7_con (by decide) lX7_con (by decide) k5) (exN (by decide)) rfl ?_
    refine C.mono hf (fun _ _ => KR.g (fun b6 h3 hf le4 => ?_))
    have k5 := leK le4 k5 (by decide)
    replace s4 := s4.le sc4 (le4)
    obtain ⟨k7, hf⟩ := hf
    refine x_getI (pc' := 63) (dX57_isThere 29 rfl rfl) g361 q1998 (Or.inl rfl) rfl (hf_of 51 k7 rfl (by decide) m51_361) ?_
    refine x_inv (pc' := 66) (ν := mX9_isTwice) (av := [_, _, _]) (st := []) rfl rfl (dX57_isThere 30 rfl rfl) (Nat.le_of_ble_eq_true rfl) wX9_isTwice q223 (inv_V (k := 7) (dX57_isThere 30 rfl rfl) q2052 q2053 q2054 wX9_isTwice (by decide) lX9_isTwice (by decide) s4.1) (exN (by decide)) rfl ?_
    refine C.mono hf (fun _ _ => KI.g (fun x10 h8 hf le9 => ?_))
    have k5 := leK le9 k5 (by decide)
    have k7 := leK le9 k7 (by decide)
    replace s4 := s4.le sc4 (le9)
    refine x_if_eq (pc' := 69) (tgt := 71) (dX57_isThere 31 rfl rfl) (by decide) rfl (fun c11 => ?_) (fun c11 => ?_)
    · replace hf := hf.1 c11
      replace hf := hf _ rfl
      refine x_iinc (pc' := 74) 8 (dX57_isThere 34 rfl rfl) rfl (by rfl) (by decide) rfl rfl ?_
      refine x_goto (tgt := 43) (dX57_isThere 35 rfl rfl) (by decide) ?_
      exact X.sub [1, 2, 3, 4, 5, 6, 7, 8, 0] rfl (by simp) hf
    · replace hf := hf.2 c11
      refine x_iconst (pc' := 70) (v := 1) (dX57_isThere 32 rfl rfl) (by decide) rfl ?_
      exact x_zret (ty := .boolean) (dX57_isThere 33 rfl rfl) rfl (by decide) hf
theorem bX57_infer (G : Gh) (d : Nat) (h : AH) (Q : Outcome → AH → Prop) (a0 : Nat) (s1 : So 1 (gW G) h) (s6 : So 6 (gW G) h) (hf : hK h a0 = 53 ∧ (((fI h a0 365) = 0 → (X G mX57_infer (d + 1) none [] 31 [(0, .ref (a0)), (1, .ref (gW G 6)), (2, .int (0))] [] h Q)) ∧ (¬ ((fI h a0 365) = 0) → ((hc h + 1 ≤ MC) ∧ (hs h + 8 ≤ MS) ∧ ∀ q3, hK h q3 = 0 → ∀ h5, h5 = nO h q3 17 → (vp_in (fI h5 a0 313) 4098 ∧ (C G mX18_init d [.ref (q3), .int (6), .int (aI h5 (gW G 1025) (fI h5 a0 313).toNatClampNeg)] h5 (KV Q (fun h9 => Q (.threw q3) h9)))))))) : C G mX57_infer (d + 1) [.ref (a0), .ref (gW G 6)] h Q := by
  refine C.of_X (by decide +kernel) (Nat.le_of_ble_eq_true rfl) wX57_infer ?_
  show X G mX57_infer (d + 1) none [] 0 [(0, .ref (a0)), (1, .ref (gW G 6))] [] h Q
  refine x_aload_n (pc' := 1) 0 (dX57_infer 0 rfl rfl) rfl rfl rfl ?_
  obtain ⟨k1, hf⟩ := hf
  refine x_getZ (pc' := 4) (dX57_infer 1 rfl rfl) g365 q2016 (Or.inl rfl) rfl (hf_of 52 k1 rfl (by decide) m52_365) ?_
  refine x_if_eq (pc' := 7) (tgt := 29) (dX57_infer 2 rfl rfl) (by decide) rfl (fun c2 => ?_) (fun c2 => ?_)
  · replace hf := hf.1 c2
    refine x_iconst (pc' := 30) (v := 0) (dX57_infer 14 rfl rfl) (by decide) rfl ?_
    refine x_istore_n (pc' := 31) (dX57_infer 15 rfl rfl) rfl (by decide) rfl rfl ?_
    exact X.sub [1, 2, 0] rfl (by simp) hf
  · replace hf := hf.2 c2
    obtain ⟨n1, n2, hf⟩ := hf
    refine x_new (pc' := 10) (k := 17) (dX57_infer 3 rfl rfl) q2334 (by decide) rfl (by decide) n1 n2 (fun q3 h5 k4 e6 => ?_)
    replace hf := hf q3 k4 h5 e6
    replace k1 : hK h5 a0 = 53 := by rw [e6]; exact kNO k1 (by decide) k4
    replace s1 : So 1 (gW G) h5 := by rw [e6]; exact s1.le sc1 (nO_le k4)
    replace s6 : So 6 (gW G) h5 := by rw [e6]; exact s6.le sc6 (nO_le k4)
    have k7 : hK h5 q3 = 18 := by rw [e6]; exact kNOs
    refine x_dup (pc' := 11) (dX57_infer 4 rfl rfl) rfl rfl ?_
    refine x_bipush (pc' := 13) (v := 6) (dX57_infer 5 rfl rfl) (by decide) rfl ?_
    refine x_aload_n (pc' := 14) 1 (dX57_infer 6 rfl rfl) rfl rfl rfl ?_
    refine x_getR (pc' := 17) (dX57_infer 7 rfl rfl) g109 q825 (Or.inl rfl) rfl (hf_of 9 s6.1 rfl (by decide) m9_109) (s6.2 1 _ rfl rfl).1 ?_
    refine x_getR (pc' := 20) (dX57_infer 8 rfl rfl) g25 q328 (Or.inl rfl) rfl (hf_of 1 s1.1 rfl (by decide) m1_25) (s1.2 3 _ rfl rfl).1 ?_
    refine x_aload_n (pc' := 21) 0 (dX57_infer 9 rfl rfl) rfl rfl rfl ?_
    refine x_getI (pc' := 24) (dX57_infer 10 rfl rfl) g313 q1829 (Or.inr q1830) rfl (hf_of 52 k1 rfl (by decide) m52_313) ?_
    obtain ⟨i8, hf⟩ := hf
    refine x_iald (pc' := 25) (dX57_infer 11 rfl rfl) rfl (s1.2 3 _ rfl rfl).2.1 (by rw [(s1.2 3 _ rfl rfl).2.2.2 (by decide)]; exact i8) ?_
    refine x_inv (pc' := 28) (ν := mX18_init) (av := [_, _, _]) (st := [_]) rfl rfl (dX57_infer 12 rfl rfl) (Nat.le_of_ble_eq_true rfl) wX18_init q239 (inv_I (dX57_infer 12 rfl rfl) q2335 q1303 q1304 rfl (by decide) lX18_init) (fun b hb => by exact Or.inl (by have e : some _ = some b := hb; cases e; simp)) rfl ?_
    refine C.mono hf (fun _ _ => KV.g (fun h9 hf le10 => ?_))
    replace s1 := s1.leX sc1 le10 k7 (by decide)
    replace s6 := s6.leX sc6 le10 k7 (by decide)
    have k1 := leK le10 k1 (by decide)
    have k7 := leK le10 k7 (by decide)
    exact x_athrow (dX57_infer 13 rfl rfl) rfl hf
theorem bX57_infer_31 (G : Gh) (d : Nat) (h : AH) (Q : Outcome → AH → Prop) (l0 : Nat) (l2 : Int32) (hf : hK h l0 = 53 ∧ (∃ b2, fR h l0 364 = some b2 ∧ (hK h b2 = 6 ∧ (((fI h b2 78) ≤ l2 → (Q (.returned none) h)) ∧ (¬ ((fI h b2 78) ≤ l2) → (∃ b6, fR h l0 364 = some b6 ∧ (hK h b6 = 6 ∧ (C G mX7_data d [.ref (b6), .int (l2)] h (KR Q (fun b11 h8 => X G mX57_infer (d + 1) none [] 54 [(0, .ref (l0)), (1, .ref (gW G 6)), (2, .int (l2)), (3, .ref (b11)), (4, .int (0))] [] h8 Q)))))))))) : X G mX57_infer (d + 1) none [] 31 [(0, .ref (l0)), (1, .ref (gW G 6)), (2, .int (l2))] [] h Q := by
  refine x_iload_n (pc' := 32) 2 (dX57_infer 16 rfl rfl) rfl rfl rfl ?_
  refine x_aload_n (pc' := 33) 0 (dX57_infer 17 rfl rfl) rfl rfl rfl ?_
  obtain ⟨k1, hf⟩ := hf
  obtain ⟨b2, e3, hf⟩ := hf
  refine x_getR (pc' := 36) (dX57_infer 18 rfl rfl) g364 q2015 (Or.inl rfl) rfl (hf_of 52 k1 rfl (by decide) m52_364) e3 ?_
  obtain ⟨k4, hf⟩ := hf
  refine x_getI (pc' := 39) (dX57_infer 19 rfl rfl) g78 q567 (Or.inl rfl) rfl (hf_of 5 k4 rfl (by decide) m5_78) ?_
  refine x_icmp_ge (pc' := 42) (tgt := 226) (dX57_infer 20 rfl rfl) (by decide) rfl (fun c5 => ?_) (fun c5 => ?_)
  · replace hf := hf.1 c5
    exact x_vret (dX57_infer 103 rfl rfl) rfl hf
  · replace hf := hf.2 c5
    refine x_aload_n (pc' := 43) 0 (dX57_infer 21 rfl rfl) rfl rfl rfl ?_
    obtain ⟨b6, e7, hf⟩ := hf
    refine x_getR (pc' := 46) (dX57_infer 22 rfl rfl) g364 q2015 (Or.inl rfl) rfl (hf_of 52 k1 rfl (by decide) m52_364) e7 ?_
    refine x_iload_n (pc' := 47) 2 (dX57_infer 23 rfl rfl) rfl rfl rfl ?_
    obtain ⟨k10, hf⟩ := hf
    refine x_inv (pc' := 50) (ν := mX7_data) (av := [_, _]) (st := []) rfl rfl (dX57_infer 24 rfl rfl) (Nat.le_of_ble_eq_true rfl) wX7_data q221 (inv_V (k := 5) (dX57_infer 24 rfl rfl) q2047 q2048 q2049 wX7_data (by decide) lX7_data (by decide) k10) (exN (by decide)) rfl ?_
    refine C.mono hf (fun _ _ => KR.g (fun b11 h8 hf le9 => ?_))
    have k1 := leK le9 k1 (by decide)
    have k4 := leK le9 k4 (by decide)
    have k10 := leK le9 k10 (by decide)
    refine x_astore_n (pc' := 51) (dX57_infer 25 rfl rfl) rfl (by decide) rfl rfl ?_
    refine x_iconst (pc' := 52) (v := 0) (dX57_infer 26 rfl rfl) (by decide) rfl ?_
    refine x_istore (pc' := 54) (dX57_infer 27 rfl rfl) (by decide) rfl rfl ?_
    exact X.sub [2, 3, 4, 1, 0] rfl (by simp) hf
theorem bX57_infer_54 (G : Gh) (d : Nat) (h : AH) (Q : Outcome → AH → Prop) (l0 : Nat) (l2 : Int32) (l3 : Nat) (l4 : Int32) (s1 : So 1 (gW G) h) (s2 : So 2 (gW G) h) (s6 : So 6 (gW G) h) (hf : hK h l3 = 47 ∧ (∃ b2, fR h l3 352 = some b2 ∧ (hK h b2 = 6 ∧ (((fI h b2 78) ≤ l4 → (∀ x6 : Int32, x6 = l2 + 1 → (X G mX57_infer (d + 1) none [] 31 [(0, .ref (l0)), (1, .ref (gW G 6)), (2, .int (x6))] [] h Q))) ∧ (¬ ((fI h b2 78) ≤ l4) → (∃ b7, fR h l3 352 = some b7 ∧ (hK h b7 = 6 ∧ (C G mX7_con d [.ref (b7), .int (l4)] h (KR Q (fun b12 h9 => C G mX11_fresh d [.ref (gW G 6), .int (fI h9 l3 351)] h9 (KV Q (fun h13 => ∃ b15, fR h13 l3 353 = some b15 ∧ (hK h13 b15 = 4 ∧ (C G mX11_variables d [.ref (gW G 6)] h13 (KR Q (fun b20 h18 => C G mX3_built_2 d [.ref (gW G 2), .int (fI h13 b15 52), .ref (b20), .int (0), .int (fI h18 l3 351)] h18 (KI Q (fun x23 h21 => hK h21 b12 = 52 ∧ (OC (fR h21 b12 362) (C G mX3_size d [.ref (gW G 2), .int (x23), .int (60)] h21 (KI Q (fun x29 h27 => (x29 ≤ 60 → (∃ b31, fR h27 b12 363 = some b31 ∧ (C G mX3_write d [.ref (gW G 2), .int (x23)] h27 (KR Q (fun b35 h33 => hK h33 b31 = 54 ∧ (∀ h37, h37 = pR h33 b31 373 (some b35) → (OC (fR h37 b12 362) (∀ x40 : Int32, x40 = l4 + 1 → (X G mX57_infer (d + 1) none [] 54 [(0, .ref (l0)), (1, .ref (gW G 6)), (2, .int (l2)), (3, .ref (l3)), (4, .int (x40))] [] h37 Q)) (fun b38 => ∃ b41, fR h37 b12 363 = some b41 ∧ (C G mX3_writeOn d [.ref (gW G 2), .int (x23)] h37 (KR Q (fun b45 h43 => hK h43 b41 = 54 ∧ (∀ h47, h47 = pR h43 b41 372 (some b45) → (∀ x48 : Int32, x48 = l4 + 1 → (X G mX57_infer (d + 1) none [] 54 [(0, .ref (l0)), (1, .ref (gW G 6)), (2, .int (l2)), (3, .ref (l3)), (4, .int (x48))] [] h47 Q)))))))))))))) ∧ (¬ (x29 ≤ 60) → ((hc h27 + 1 ≤ MC) ∧ (hs h27 + 8 ≤ MS) ∧ ∀ q51, hK h27 q51 = 0 → ∀ h53, h53 = nO h27 q51 17 → (hK h53 l0 = 53 ∧ (vp_in (fI h53 l0 313) 4098 ∧ (C G mX18_init d [.ref (q51), .int (6), .int (aI h53 (gW G 1025) (fI h53 l0 313).toNatClampNeg)] h53 (KV Q (fun h58 => Q (.threw q51) h58)))))))))) (fun b25 => OC (fR h21 b12 362) (False) (fun b60 => ∃ (k : Nat) (ν : Mu), VT ⟨"LetMill$Ty", "make", "(LLetMill$Typer;)I"⟩ VMTy_make k ν ∧ hK h21 b60 = k + 1 ∧ C G ν d [.ref (b60), .ref (gW G 6)] h21 (KI Q (fun x64 h62 => C G mX3_size d [.ref (gW G 2), .int (x64), .int (60)] h62 (KI Q (fun x67 h65 => (x67 ≤ 60 → (∃ b69, fR h65 b12 363 = some b69 ∧ (C G mX3_write d [.ref (gW G 2), .int (x23)] h65 (KR Q (fun b73 h71 => hK h71 b69 = 54 ∧ (∀ h75, h75 = pR h71 b69 373 (some b73) → (OC (fR h75 b12 362) (∀ x78 : Int32, x78 = l4 + 1 → (X G mX57_infer (d + 1) none [] 54 [(0, .ref (l0)), (1, .ref (gW G 6)), (2, .int (l2)), (3, .ref (l3)), (4, .int (x78))] [] h75 Q)) (fun b76 => ∃ b79, fR h75 b12 363 = some b79 ∧ (C G mX3_writeOn d [.ref (gW G 2), .int (x64)] h75 (KR Q (fun b83 h81 => hK h81 b79 = 54 ∧ (∀ h85, h85 = pR h81 b79 372 (some b83) → (∀ x86 : Int32, x86 = l4 + 1 → (X G mX57_infer (d + 1) none [] 54 [(0, .ref (l0)), (1, .ref (gW G 6)), (2, .int (l2)), (3, .ref (l3)), (4, .int (x86))] [] h85 Q)))))))))))))) ∧ (¬ (x67 ≤ 60) → ((hc h65 + 1 ≤ MC) ∧ (hs h65 + 8 ≤ MS) ∧ ∀ q89, hK h65 q89 = 0 → ∀ h91, h91 = nO h65 q89 17 → (hK h91 l0 = 53 ∧ (vp_in (fI h91 l0 313) 4098 ∧ (C G mX18_init d [.ref (q89), .int (6), .int (aI h91 (gW G 1025) (fI h91 l0 313).toNatClampNeg)] h91 (KV Q (fun h96 => Q (.threw q89) h96)))))))))))))))))))))))))))))))) : X G mX57_infer (d + 1) none [] 54 [(0, .ref (l0)), (1, .ref (gW G 6)), (2, .int (l2)), (3, .ref (l3)), (4, .int (l4))] [] h Q := by
  refine x_iload (pc' := 56) 4 (dX57_infer 28 rfl rfl) rfl rfl ?_
  refine x_aload_n (pc' := 57) 3 (dX57_infer 29 rfl rfl) rfl rfl rfl ?_
  obtain ⟨k1, hf⟩ := hf
  obtain ⟨b2, e3, hf⟩ := hf
  refine x_getR (pc' := 60) (dX57_infer 30 rfl rfl) g352 q1901 (Or.inl rfl) rfl (hf_of 46 k1 rfl (by decide) m46_352) e3 ?_
  obtain ⟨k4, hf⟩ := hf
  refine x_getI (pc' := 63) (dX57_infer 31 rfl rfl) g78 q567 (Or.inl rfl) rfl (hf_of 5 k4 rfl (by decide) m5_78) ?_
  refine x_icmp_ge (pc' := 66) (tgt := 220) (dX57_infer 32 rfl rfl) (by decide) rfl (fun c5 => ?_) (fun c5 => ?_)
  · replace hf := hf.1 c5
    replace hf := hf _ rfl
    refine x_iinc (pc' := 223) 2 (dX57_infer 101 rfl rfl) rfl (by rfl) (by decide) rfl rfl ?_
    refine x_goto (tgt := 31) (dX57_infer 102 rfl rfl) (by decide) ?_
    exact X.sub [1, 2, 0] rfl (by simp) hf
  · replace hf := hf.2 c5
    refine x_aload_n (pc' := 67) 3 (dX57_infer 33 rfl rfl) rfl rfl rfl ?_
    obtain ⟨b7, e8, hf⟩ := hf
    refine x_getR (pc' := 70) (dX57_infer 34 rfl rfl) g352 q1901 (Or.inl rfl) rfl (hf_of 46 k1 rfl (by decide) m46_352) e8 ?_
    refine x_iload (pc' := 72) 4 (dX57_infer 35 rfl rfl) rfl rfl ?_
    obtain ⟨k11, hf⟩ := hf
    refine x_inv (pc' := 75) (ν := mX7_con) (av := [_, _]) (st := []) rfl rfl (dX57_infer 36 rfl rfl) (Nat.le_of_ble_eq_true rfl) wX7_con q221 (inv_V (k := 5) (dX57_infer 36 rfl rfl) q2083 q2084 q2085 wX7_con (by decide) lX7_con (by decide) k11) (exN (by decide)) rfl ?_
    refine C.mono hf (fun _ _ => KR.g (fun b12 h9 hf le10 => ?_))
    have k1 := leK le10 k1 (by decide)
    have k4 := leK le10 k4 (by decide)
    have k11 := leK le10 k11 (by decide)
    replace s1 := s1.le sc1 (le10)
    replace s2 := s2.le sc2 (le10)
    replace s6 := s6.le sc6 (le10)
    refine x_astore (pc' := 77) (dX57_infer 37 rfl rfl) (by decide) rfl rfl ?_
    refine x_aload_n (pc' := 78) 2 (dX57_infer 38 rfl rfl) rfl rfl rfl ?_
    refine x_aload_n (pc' := 79) 4 (dX57_infer 39 rfl rfl) rfl rfl rfl ?_
    refine x_getI (pc' := 82) (dX57_infer 40 rfl rfl) g351 q1899 (Or.inl rfl) rfl (hf_of 46 k1 rfl (by decide) m46_351) ?_
    refine x_inv (pc' := 85) (ν := mX11_fresh) (av := [_, _]) (st := []) rfl rfl (dX57_infer 41 rfl rfl) (Nat.le_of_ble_eq_true rfl) wX11_fresh q225 (inv_V (k := 9) (dX57_infer 41 rfl rfl) q2336 q2337 q2338 wX11_fresh (by decide) lX11_fresh (by decide) s6.1) (exN (by decide)) rfl ?_
    refine C.mono hf (fun _ _ => KV.g (fun h13 hf le14 => ?_))
    have k1 := leK le14 k1 (by decide)
    have k4 := leK le14 k4 (by decide)
    have k11 := leK le14 k11 (by decide)
    replace s1 := s1.le sc1 (le14)
    replace s2 := s2.le sc2 (le14)
    replace s6 := s6.le sc6 (le14)
    refine x_aload_n (pc' := 86) 2 (dX57_infer 42 rfl rfl) rfl rfl rfl ?_
    refine x_getR (pc' := 89) (dX57_infer 43 rfl rfl) g108 q820 (Or.inl rfl) rfl (hf_of 9 s6.1 rfl (by decide) m9_108) (s6.2 0 _ rfl rfl).1 ?_
    refine x_aload_n (pc' := 90) 4 (dX57_infer 44 rfl rfl) rfl rfl rfl ?_
    obtain ⟨b15, e16, hf⟩ := hf
    refine x_getR (pc' := 93) (dX57_infer 45 rfl rfl) g353 q1903 (Or.inl rfl) rfl (hf_of 46 k1 rfl (by decide) m46_353) e16 ?_
    obtain ⟨k17, hf⟩ := hf
    refine x_getI (pc' := 96) (dX57_infer 46 rfl rfl) g52 q450 (Or.inl rfl) rfl (hf_of 3 k17 rfl (by decide) m3_52) ?_
    refine x_aload_n (pc' := 97) 2 (dX57_infer 47 rfl rfl) rfl rfl rfl ?_
    refine x_inv (pc' := 100) (ν := mX11_variables) (av := [_]) (st := [_, _]) rfl rfl (dX57_infer 48 rfl rfl) (Nat.le_of_ble_eq_true rfl) wX11_variables q225 (inv_V (k := 9) (dX57_infer 48 rfl rfl) q2344 q2345 q2346 wX11_variables (by decide) lX11_variables (by decide) s6.1) (exN (by decide)) rfl ?_
    refine C.mono hf (fun _ _ => KR.g (fun b20 h18 hf le19 => ?_))
    have k1 := leK le19 k1 (by decide)
    have k4 := leK le19 k4 (by decide)
    have k11 := leK le19 k11 (by decide)
    have k17 := leK le19 k17 (by decide)
    replace s1 := s1.le sc1 (le19)
    replace s2 := s2.le sc2 (le19)
    replace s6 := s6.le sc6 (le19)
    refine x_iconst (pc' := 101) (v := 0) (dX57_infer 49 rfl rfl) (by decide) rfl ?_
    refine x_aload_n (pc' := 102) 4 (dX57_infer 50 rfl rfl) rfl rfl rfl ?_
    refine x_getI (pc' := 105) (dX57_infer 51 rfl rfl) g351 q1899 (Or.inl rfl) rfl (hf_of 46 k1 rfl (by decide) m46_351) ?_
    refine x_inv (pc' := 108) (ν := mX3_built_2) (av := [_, _, _, _, _]) (st := []) rfl rfl (dX57_infer 52 rfl rfl) (Nat.le_of_ble_eq_true rfl) wX3_built_2 q213 (inv_V (k := 2) (dX57_infer 52 rfl rfl) q2348 q2349 q2350 wX3_built_2 (by decide) lX3_built_2 (by decide) s2.1) (exN (by decide)) rfl ?_
    refine C.mono hf (fun _ _ => KI.g (fun x23 h21 hf le22 => ?_))
    have k1 := leK le22 k1 (by decide)
    have k4 := leK le22 k4 (by decide)
    have k11 := leK le22 k11 (by decide)
    have k17 := leK le22 k17 (by decide)
    replace s1 := s1.le sc1 (le22)
    replace s2 := s2.le sc2 (le22)
    replace s6 := s6.le sc6 (le22)
    refine x_istore (pc' := 110) (dX57_infer 53 rfl rfl) (by decide) rfl rfl ?_
    refine x_aload (pc' := 112) 1 (dX57_infer 54 rfl rfl) rfl rfl ?_
    obtain ⟨k24, hf⟩ := hf
    obtain ⟨ho0, ho1⟩ := hf
    rcases hr : fR _ b12 362 with _ | b25
    · replace hf := ho0 hr
      refine x_getN (pc' := 115) (dX57_infer 55 rfl rfl) g362 q2000 (Or.inl rfl) rfl (hf_of 51 k24 rfl (by decide) m51_362) hr ?_
      refine x_ifnonnullN (pc' := 118) (dX57_infer 56 rfl rfl) rfl ?_
      refine x_iload (pc' := 120) 0 (dX57_infer 57 rfl rfl) rfl rfl ?_
      refine x_goto (tgt := 132) (dX57_infer 58 rfl rfl) (by decide) ?_
      refine x_istore (pc' := 134) (dX57_infer 63 rfl rfl) (by decide) rfl rfl ?_
      refine x_aload_n (pc' := 135) 4 (dX57_infer 64 rfl rfl) rfl rfl rfl ?_
      refine x_getR (pc' := 138) (dX57_infer 65 rfl rfl) g108 q820 (Or.inl rfl) rfl (hf_of 9 s6.1 rfl (by decide) m9_108) (s6.2 0 _ rfl rfl).1 ?_
      refine x_iload (pc' := 140) 0 (dX57_infer 66 rfl rfl) rfl rfl ?_
      refine x_bipush (pc' := 142) (v := 60) (dX57_infer 67 rfl rfl) (by decide) rfl ?_
      refine x_inv (pc' := 145) (ν := mX3_size) (av := [_, _, _]) (st := []) rfl rfl (dX57_infer 68 rfl rfl) (Nat.le_of_ble_eq_true rfl) wX3_size q213 (inv_V (k := 2) (dX57_infer 68 rfl rfl) q2384 q2385 q2386 wX3_size (by decide) lX3_size (by decide) s2.1) (exN (by decide)) rfl ?_
      refine C.mono hf (fun _ _ => KI.g (fun x29 h27 hf le28 => ?_))
      have k1 := leK le28 k1 (by decide)
      have k4 := leK le28 k4 (by decide)
      have k11 := leK le28 k11 (by decide)
      have k17 := leK le28 k17 (by decide)
      have k24 := leK le28 k24 (by decide)
      replace s1 := s1.le sc1 (le28)
      replace s2 := s2.le sc2 (le28)
      replace s6 := s6.le sc6 (le28)
      refine x_bipush (pc' := 147) (v := 60) (dX57_infer 69 rfl rfl) (by decide) rfl ?_
      refine x_icmp_le (pc' := 150) (tgt := 172) (dX57_infer 70 rfl rfl) (by decide) rfl (fun c30 => ?_) (fun c30 => ?_)
      · replace hf := hf.1 c30
        refine x_aload (pc' := 174) 2 (dX57_infer 82 rfl rfl) rfl rfl ?_
        obtain ⟨b31, e32, hf⟩ := hf
        refine x_getR (pc' := 177) (dX57_infer 83 rfl rfl) g363 q2001 (Or.inl rfl) rfl (hf_of 51 k24 rfl (by decide) m51_363) e32 ?_
        refine x_aload_n (pc' := 178) 4 (dX57_infer 84 rfl rfl) rfl rfl rfl ?_
        refine x_getR (pc' := 181) (dX57_infer 85 rfl rfl) g108 q820 (Or.inl rfl) rfl (hf_of 9 s6.1 rfl (by decide) m9_108) (s6.2 0 _ rfl rfl).1 ?_
        refine x_iload (pc' := 183) 1 (dX57_infer 86 rfl rfl) rfl rfl ?_
        refine x_inv (pc' := 186) (ν := mX3_write) (av := [_, _]) (st := [_]) rfl rfl (dX57_infer 87 rfl rfl) (Nat.le_of_ble_eq_true rfl) wX3_write q213 (inv_V (k := 2) (dX57_infer 87 rfl rfl) q2401 q2402 q2403 wX3_write (by decide) lX3_write (by decide) s2.1) (exN (by decide)) rfl ?_
        refine C.mono hf (fun _ _ => KR.g (fun b35 h33 hf le34 => ?_))
        have k1 := leK le34 k1 (by decide)
        have k4 := leK le34 k4 (by decide)
        have k11 := leK le34 k11 (by decide)
        have k17 := leK le34 k17 (by decide)
        have k24 := leK le34 k24 (by decide)
        replace s1 := s1.le sc1 (le34)
        replace s2 := s2.le sc2 (le34)
        replace s6 := s6.le sc6 (le34)
        obtain ⟨k36, hf⟩ := hf
        refine x_putR (pc' := 189) (dX57_infer 88 rfl rfl) g373 q2156 (Or.inl rfl) (Or.inl rfl) (Or.inl (by decide)) rfl (hf_of 53 k36 rfl (by decide) m53_373) (fun h37 e50 => ?_)
        replace hf := hf h37 e50
        replace k1 : hK h37 l3 = 47 := by rw [e50]; exact k1
        replace k4 : hK h37 b2 = 6 := by rw [e50]; exact k4
        replace k11 : hK h37 b7 = 6 := by rw [e50]; exact k11
        replace k17 : hK h37 b15 = 4 := by rw [e50]; exact k17
        replace k24 : hK h37 b12 = 52 := by rw [e50]; exact k24
        replace k36 : hK h37 b31 = 54 := by rw [e50]; exact k36
        replace s1 : So 1 (gW G) h37 := by rw [e50]; exact s1.le sc1 (pR_le (Or.inl rfl))
        replace s2 : So 2 (gW G) h37 := by rw [e50]; exact s2.le sc2 (pR_le (Or.inl rfl))
        replace s6 : So 6 (gW G) h37 := by rw [e50]; exact s6.le sc6 (pR_le (Or.inl rfl))
        refine x_aload (pc' := 191) 2 (dX57_infer 89 rfl rfl) rfl rfl ?_
        obtain ⟨ho0, ho1⟩ := hf
        rcases hr : fR _ b12 362 with _ | b38
        · replace hf := ho0 hr
          refine x_getN (pc' := 194) (dX57_infer 90 rfl rfl) g362 q2000 (Or.inl rfl) rfl (hf_of 51 k24 rfl (by decide) m51_362) hr ?_
          refine x_ifnullN (tgt := 214) (dX57_infer 91 rfl rfl) (by decide) ?_
          replace hf := hf _ rfl
          refine x_iinc (pc' := 217) 7 (dX57_infer 99 rfl rfl) rfl (by rfl) (by decide) rfl rfl ?_
          refine x_goto (tgt := 54) (dX57_infer 100 rfl rfl) (by decide) ?_
          exact X.sub [4, 5, 6, 7, 0] rfl (by simp) hf
        · replace hf := ho1 _ hr
          refine x_getR (pc' := 194) (dX57_infer 90 rfl rfl) g362 q2000 (Or.inl rfl) rfl (hf_of 51 k24 rfl (by decide) m51_362) hr ?_
          refine x_ifnull (pc' := 197) (dX57_infer 91 rfl rfl) rfl ?_
          refine x_aload (pc' := 199) 2 (dX57_infer 92 rfl rfl) rfl rfl ?_
          obtain ⟨b41, e42, hf⟩ := hf
          refine x_getR (pc' := 202) (dX57_infer 93 rfl rfl) g363 q2001 (Or.inl rfl) rfl (hf_of 51 k24 rfl (by decide) m51_363) e42 ?_
          refine x_aload_n (pc' := 203) 4 (dX57_infer 94 rfl rfl) rfl rfl rfl ?_
          refine x_getR (pc' := 206) (dX57_infer 95 rfl rfl) g108 q820 (Or.inl rfl) rfl (hf_of 9 s6.1 rfl (by decide) m9_108) (s6.2 0 _ rfl rfl).1 ?_
          refine x_iload (pc' := 208) 0 (dX57_infer 96 rfl rfl) rfl rfl ?_
          refine x_inv (pc' := 211) (ν := mX3_writeOn) (av := [_, _]) (st := [_]) rfl rfl (dX57_infer 97 rfl rfl) (Nat.le_of_ble_eq_true rfl) wX3_writeOn q213 (inv_V (k := 2) (dX57_infer 97 rfl rfl) q2413 q2414 q2415 wX3_writeOn (by decide) lX3_writeOn (by decide) s2.1) (exN (by decide)) rfl ?_
          refine C.mono hf (fun _ _ => KR.g (fun b45 h43 hf le44 => ?_))
          have k1 := leK le44 k1 (by decide)
          have k4 := leK le44 k4 (by decide)
          have k11 := leK le44 k11 (by decide)
          have k17 := leK le44 k17 (by decide)
          have k24 := leK le44 k24 (by decide)
          have k36 := leK le44 k36 (by decide)
          replace s1 := s1.le sc1 (le44)
          replace s2 := s2.le sc2 (le44)
          replace s6 := s6.le sc6 (le44)
          obtain ⟨k46, hf⟩ := hf
          refine x_putR (pc' := 214) (dX57_infer 98 rfl rfl) g372 q2153 (Or.inl rfl) (Or.inl rfl) (Or.inl (by decide)) rfl (hf_of 53 k46 rfl (by decide) m53_372) (fun h47 e49 => ?_)
          replace hf := hf h47 e49
          replace k1 : hK h47 l3 = 47 := by rw [e49]; exact k1
          replace k4 : hK h47 b2 = 6 := by rw [e49]; exact k4
          replace k11 : hK h47 b7 = 6 := by rw [e49]; exact k11
          replace k17 : hK h47 b15 = 4 := by rw [e49]; exact k17
          replace k24 : hK h47 b12 = 52 := by rw [e49]; exact k24
          replace k36 : hK h47 b31 = 54 := by rw [e49]; exact k36
          replace k46 : hK h47 b41 = 54 := by rw [e49]; exact k46
          replace s1 : So 1 (gW G) h47 := by rw [e49]; exact s1.le sc1 (pR_le (Or.inl rfl))
          replace s2 : So 2 (gW G) h47 := by rw [e49]; exact s2.le sc2 (pR_le (Or.inl rfl))
          replace s6 : So 6 (gW G) h47 := by rw [e49]; exact s6.le sc6 (pR_le (Or.inl rfl))
          replace hf := hf _ rfl
          refine x_iinc (pc' := 217) 7 (dX57_infer 99 rfl rfl) rfl (by rfl) (by decide) rfl rfl ?_
          refine x_goto (tgt := 54) (dX57_infer 100 rfl rfl) (by decide) ?_
          exact X.sub [4, 5, 6, 7, 0] rfl (by simp) hf
      · replace hf := hf.2 c30
        obtain ⟨n1, n2, hf⟩ := hf
        refine x_new (pc' := 153) (k := 17) (dX57_infer 71 rfl rfl) q2334 (by decide) rfl (by decide) n1 n2 (fun q51 h53 k52 e54 => ?_)
        replace hf := hf q51 k52 h53 e54
        replace k1 : hK h53 l3 = 47 := by rw [e54]; exact kNO k1 (by decide) k52
        replace k4 : hK h53 b2 = 6 := by rw [e54]; exact kNO k4 (by decide) k52
        replace k11 : hK h53 b7 = 6 := by rw [e54]; exact kNO k11 (by decide) k52
        replace k17 : hK h53 b15 = 4 := by rw [e54]; exact kNO k17 (by decide) k52
        replace k24 : hK h53 b12 = 52 := by rw [e54]; exact kNO k24 (by decide) k52
        replace s1 : So 1 (gW G) h53 := by rw [e54]; exact s1.le sc1 (nO_le k52)
        replace s2 : So 2 (gW G) h53 := by rw [e54]; exact s2.le sc2 (nO_le k52)
        replace s6 : So 6 (gW G) h53 := by rw [e54]; exact s6.le sc6 (nO_le k52)
        have k55 : hK h53 q51 = 18 := by rw [e54]; exact kNOs
        refine x_dup (pc' := 154) (dX57_infer 72 rfl rfl) rfl rfl ?_
        refine x_bipush (pc' := 156) (v := 6) (dX57_infer 73 rfl rfl) (by decide) rfl ?_
        refine x_aload_n (pc' := 157) 4 (dX57_infer 74 rfl rfl) rfl rfl rfl ?_
        refine x_getR (pc' := 160) (dX57_infer 75 rfl rfl) g109 q825 (Or.inl rfl) rfl (hf_of 9 s6.1 rfl (by decide) m9_109) (s6.2 1 _ rfl rfl).1 ?_
        refine x_getR (pc' := 163) (dX57_infer 76 rfl rfl) g25 q328 (Or.inl rfl) rfl (hf_of 1 s1.1 rfl (by decide) m1_25) (s1.2 3 _ rfl rfl).1 ?_
        refine x_aload_n (pc' := 164) 3 (dX57_infer 77 rfl rfl) rfl rfl rfl ?_
        obtain ⟨k56, hf⟩ := hf
        refine x_getI (pc' := 167) (dX57_infer 78 rfl rfl) g313 q1829 (Or.inr q1830) rfl (hf_of 52 k56 rfl (by decide) m52_313) ?_
        obtain ⟨i57, hf⟩ := hf
        refine x_iald (pc' := 168) (dX57_infer 79 rfl rfl) rfl (s1.2 3 _ rfl rfl).2.1 (by rw [(s1.2 3 _ rfl rfl).2.2.2 (by decide)]; exact i57) ?_
        refine x_inv (pc' := 171) (ν := mX18_init) (av := [_, _, _]) (st := [_]) rfl rfl (dX57_infer 80 rfl rfl) (Nat.le_of_ble_eq_true rfl) wX18_init q239 (inv_I (dX57_infer 80 rfl rfl) q2335 q1303 q1304 rfl (by decide) lX18_init) (fun b hb => by exact Or.inl (by have e : some _ = some b := hb; cases e; simp)) rfl ?_
        refine C.mono hf (fun _ _ => KV.g (fun h58 hf le59 => ?_))
        replace s1 := s1.leX sc1 le59 k55 (by decide)
        replace s2 := s2.leX sc2 le59 k55 (by decide)
        replace s6 := s6.leX sc6 le59 k55 (by decide)
        have k1 := leK le59 k1 (by decide)
        have k4 := leK le59 k4 (by decide)
        have k11 := leK le59 k11 (by decide)
        have k17 := leK le59 k17 (by decide)
        have k24 := leK le59 k24 (by decide)
        have k55 := leK le59 k55 (by decide)
        have k56 := leK le59 k56 (by decide)
        exact x_athrow (dX57_infer 81 rfl rfl) rfl hf
    · replace hf := ho1 _ hr
      refine x_getR (pc' := 115) (dX57_infer 55 rfl rfl) g362 q2000 (Or.inl rfl) rfl (hf_of 51 k24 rfl (by decide) m51_362) hr ?_
      refine x_ifnonnull (tgt := 123) (dX57_infer 56 rfl rfl) (by decide) ?_
      refine x_aload (pc' := 125) 1 (dX57_infer 59 rfl rfl) rfl rfl ?_
      obtain ⟨ho0, ho1⟩ := hf
      rcases hr : fR _ b12 362 with _ | b60
      · replace hf := ho0 hr
        refine x_getN (pc' := 128) (dX57_infer 60 rfl rfl) g362 q2000 (Or.inl rfl) rfl (hf_of 51 k24 rfl (by decide) m51_362) hr ?_
        refine x_aload_n (pc' := 129) 3 (dX57_infer 61 rfl rfl) rfl rfl rfl ?_
        exact hf.elim
      · replace hf := ho1 _ hr
        refine x_getR (pc' := 128) (dX57_infer 60 rfl rfl) g362 q2000 (Or.inl rfl) rfl (hf_of 51 k24 rfl (by decide) m51_362) hr ?_
        refine x_aload_n (pc' := 129) 3 (dX57_infer 61 rfl rfl) rfl rfl rfl ?_
        obtain ⟨k, ν, ⟨v0, v1, v2, v3, v4, v5, v6, v7⟩, k98, hf⟩ := hf
        refine x_inv (pc' := 132) (ν := ν) (st := []) rfl (sub_tr v7 rfl) (dX57_infer 62 rfl rfl) (by have := v5; simp only [List.map, List.sum_cons, List.sum_nil, Value.category]; omega) v1 v2 (inv_U (k := k) (av := [_]) (dX57_infer 62 rfl rfl) q2352 q2354 (by decide) v3 v4 (by decide) (show _ = some 1 by decide +kernel) v0 k98) (exN v6) rfl ?_
        refine C.mono hf (fun _ _ => KI.g (fun x64 h62 hf le63 => ?_))
        replace le63 := Le.nx v6 le63
        have k1 := leK le63 k1 (by decide)
        have k4 := leK le63 k4 (by decide)
        have k11 := leK le63 k11 (by decide)
        have k17 := leK le63 k17 (by decide)
        have k24 := leK le63 k24 (by decide)
        replace s1 := s1.le sc1 (le63)
        replace s2 := s2.le sc2 (le63)
        replace s6 := s6.le sc6 (le63)
        refine x_istore (pc' := 134) (dX57_infer 63 rfl rfl) (by decide) rfl rfl ?_
        refine x_aload_n (pc' := 135) 4 (dX57_infer 64 rfl rfl) rfl rfl rfl ?_
        refine x_getR (pc' := 138) (dX57_infer 65 rfl rfl) g108 q820 (Or.inl rfl) rfl (hf_of 9 s6.1 rfl (by decide) m9_108) (s6.2 0 _ rfl rfl).1 ?_
        refine x_iload (pc' := 140) 0 (dX57_infer 66 rfl rfl) rfl rfl ?_
        refine x_bipush (pc' := 142) (v := 60) (dX57_infer 67 rfl rfl) (by decide) rfl ?_
        refine x_inv (pc' := 145) (ν := mX3_size) (av := [_, _, _]) (st := []) rfl rfl (dX57_infer 68 rfl rfl) (Nat.le_of_ble_eq_true rfl) wX3_size q213 (inv_V (k := 2) (dX57_infer 68 rfl rfl) q2384 q2385 q2386 wX3_size (by decide) lX3_size (by decide) s2.1) (exN (by decide)) rfl ?_
        refine C.mono hf (fun _ _ => KI.g (fun x67 h65 hf le66 => ?_))
        have k1 := leK le66 k1 (by decide)
        have k4 := leK le66 k4 (by decide)
        have k11 := leK le66 k11 (by decide)
        have k17 := leK le66 k17 (by decide)
        have k24 := leK le66 k24 (by decide)
        replace s1 := s1.le sc1 (le66)
        replace s2 := s2.le sc2 (le66)
        replace s6 := s6.le sc6 (le66)
        refine x_bipush (pc' := 147) (v := 60) (dX57_infer 69 rfl rfl) (by decide) rfl ?_
        refine x_icmp_le (pc' := 150) (tgt := 172) (dX57_infer 70 rfl rfl) (by decide) rfl (fun c68 => ?_) (fun c68 => ?_)
        · replace hf := hf.1 c68
          refine x_aload (pc' := 174) 2 (dX57_infer 82 rfl rfl) rfl rfl ?_
          obtain ⟨b69, e70, hf⟩ := hf
          refine x_getR (pc' := 177) (dX57_infer 83 rfl rfl) g363 q2001 (Or.inl rfl) rfl (hf_of 51 k24 rfl (by decide) m51_363) e70 ?_
          refine x_aload_n (pc' := 178) 4 (dX57_infer 84 rfl rfl) rfl rfl rfl ?_
          refine x_getR (pc' := 181) (dX57_infer 85 rfl rfl) g108 q820 (Or.inl rfl) rfl (hf_of 9 s6.1 rfl (by decide) m9_108) (s6.2 0 _ rfl rfl).1 ?_
          refine x_iload (pc' := 183) 1 (dX57_infer 86 rfl rfl) rfl rfl ?_
          refine x_inv (pc' := 186) (ν := mX3_write) (av := [_, _]) (st := [_]) rfl rfl (dX57_infer 87 rfl rfl) (Nat.le_of_ble_eq_true rfl) wX3_write q213 (inv_V (k := 2) (dX57_infer 87 rfl rfl) q2401 q2402 q2403 wX3_write (by decide) lX3_write (by decide) s2.1) (exN (by decide)) rfl ?_
          refine C.mono hf (fun _ _ => KR.g (fun b73 h71 hf le72 => ?_))
          have k1 := leK le72 k1 (by decide)
          have k4 := leK le72 k4 (by decide)
          have k11 := leK le72 k11 (by decide)
          have k17 := leK le72 k17 (by decide)
          have k24 := leK le72 k24 (by decide)
          replace s1 := s1.le sc1 (le72)
          replace s2 := s2.le sc2 (le72)
          replace s6 := s6.le sc6 (le72)
          obtain ⟨k74, hf⟩ := hf
          refine x_putR (pc' := 189) (dX57_infer 88 rfl rfl) g373 q2156 (Or.inl rfl) (Or.inl rfl) (Or.inl (by decide)) rfl (hf_of 53 k74 rfl (by decide) m53_373) (fun h75 e88 => ?_)
          replace hf := hf h75 e88
          replace k1 : hK h75 l3 = 47 := by rw [e88]; exact k1
          replace k4 : hK h75 b2 = 6 := by rw [e88]; exact k4
          replace k11 : hK h75 b7 = 6 := by rw [e88]; exact k11
          replace k17 : hK h75 b15 = 4 := by rw [e88]; exact k17
          replace k24 : hK h75 b12 = 52 := by rw [e88]; exact k24
          replace k74 : hK h75 b69 = 54 := by rw [e88]; exact k74
          replace s1 : So 1 (gW G) h75 := by rw [e88]; exact s1.le sc1 (pR_le (Or.inl rfl))
          replace s2 : So 2 (gW G) h75 := by rw [e88]; exact s2.le sc2 (pR_le (Or.inl rfl))
          replace s6 : So 6 (gW G) h75 := by rw [e88]; exact s6.le sc6 (pR_le (Or.inl rfl))
          refine x_aload (pc' := 191) 2 (dX57_infer 89 rfl rfl) rfl rfl ?_
          obtain ⟨ho0, ho1⟩ := hf
          rcases hr : fR _ b12 362 with _ | b76
          · replace hf := ho0 hr
            refine x_getN (pc' := 194) (dX57_infer 90 rfl rfl) g362 q2000 (Or.inl rfl) rfl (hf_of 51 k24 rfl (by decide) m51_362) hr ?_
            refine x_ifnullN (tgt := 214) (dX57_infer 91 rfl rfl) (by decide) ?_
            replace hf := hf _ rfl
            refine x_iinc (pc' := 217) 7 (dX57_infer 99 rfl rfl) rfl (by rfl) (by decide) rfl rfl ?_
            refine x_goto (tgt := 54) (dX57_infer 100 rfl rfl) (by decide) ?_
            exact X.sub [4, 5, 6, 7, 0] rfl (by simp) hf
          · replace hf := ho1 _ hr
            refine x_getR (pc' := 194) (dX57_infer 90 rfl rfl) g362 q2000 (Or.inl rfl) rfl (hf_of 51 k24 rfl (by decide) m51_362) hr ?_
            refine x_ifnull (pc' := 197) (dX57_infer 91 rfl rfl) rfl ?_
            refine x_aload (pc' := 199) 2 (dX57_infer 92 rfl rfl) rfl rfl ?_
            obtain ⟨b79, e80, hf⟩ := hf
            refine x_getR (pc' := 202) (dX57_infer 93 rfl rfl) g363 q2001 (Or.inl rfl) rfl (hf_of 51 k24 rfl (by decide) m51_363) e80 ?_
            refine x_aload_n (pc' := 203) 4 (dX57_infer 94 rfl rfl) rfl rfl rfl ?_
            refine x_getR (pc' := 206) (dX57_infer 95 rfl rfl) g108 q820 (Or.inl rfl) rfl (hf_of 9 s6.1 rfl (by decide) m9_108) (s6.2 0 _ rfl rfl).1 ?_
            refine x_iload (pc' := 208) 0 (dX57_infer 96 rfl rfl) rfl rfl ?_
            refine x_inv (pc' := 211) (ν := mX3_writeOn) (av := [_, _]) (st := [_]) rfl rfl (dX57_infer 97 rfl rfl) (Nat.le_of_ble_eq_true rfl) wX3_writeOn q213 (inv_V (k := 2) (dX57_infer 97 rfl rfl) q2413 q2414 q2415 wX3_writeOn (by decide) lX3_writeOn (by decide) s2.1) (exN (by decide)) rfl ?_
            refine C.mono hf (fun _ _ => KR.g (fun b83 h81 hf le82 => ?_))
            have k1 := leK le82 k1 (by decide)
            have k4 := leK le82 k4 (by decide)
            have k11 := leK le82 k11 (by decide)
            have k17 := leK le82 k17 (by decide)
            have k24 := leK le82 k24 (by decide)
            have k74 := leK le82 k74 (by decide)
            replace s1 := s1.le sc1 (le82)
            replace s2 := s2.le sc2 (le82)
            replace s6 := s6.le sc6 (le82)
            obtain ⟨k84, hf⟩ := hf
            refine x_putR (pc' := 214) (dX57_infer 98 rfl rfl) g372 q2153 (Or.inl rfl) (Or.inl rfl) (Or.inl (by decide)) rfl (hf_of 53 k84 rfl (by decide) m53_372) (fun h85 e87 => ?_)
            replace hf := hf h85 e87
            replace k1 : hK h85 l3 = 47 := by rw [e87]; exact k1
            replace k4 : hK h85 b2 = 6 := by rw [e87]; exact k4
            replace k11 : hK h85 b7 = 6 := by rw [e87]; exact k11
            replace k17 : hK h85 b15 = 4 := by rw [e87]; exact k17
            replace k24 : hK h85 b12 = 52 := by rw [e87]; exact k24
            replace k74 : hK h85 b69 = 54 := by rw [e87]; exact k74
            replace k84 : hK h85 b79 = 54 := by rw [e87]; exact k84
            replace s1 : So 1 (gW G) h85 := by rw [e87]; exact s1.le sc1 (pR_le (Or.inl rfl))
            replace s2 : So 2 (gW G) h85 := by rw [e87]; exact s2.le sc2 (pR_le (Or.inl rfl))
            replace s6 : So 6 (gW G) h85 := by rw [e87]; exact s6.le sc6 (pR_le (Or.inl rfl))
            replace hf := hf _ rfl
            refine x_iinc (pc' := 217) 7 (dX57_infer 99 rfl rfl) rfl (by rfl) (by decide) rfl rfl ?_
            refine x_goto (tgt := 54) (dX57_infer 100 rfl rfl) (by decide) ?_
            exact X.sub [4, 5, 6, 7, 0] rfl (by simp) hf
        · replace hf := hf.2 c68
          obtain ⟨n1, n2, hf⟩ := hf
          refine x_new (pc' := 153) (k := 17) (dX57_infer 71 rfl rfl) q2334 (by decide) rfl (by decide) n1 n2 (fun q89 h91 k90 e92 => ?_)
          replace hf := hf q89 k90 h91 e92
          replace k1 : hK h91 l3 = 47 := by rw [e92]; exact kNO k1 (by decide) k90
          replace k4 : hK h91 b2 = 6 := by rw [e92]; exact kNO k4 (by decide) k90
          replace k11 : hK h91 b7 = 6 := by rw [e92]; exact kNO k11 (by decide) k90
          replace k17 : hK h91 b15 = 4 := by rw [e92]; exact kNO k17 (by decide) k90
          replace k24 : hK h91 b12 = 52 := by rw [e92]; exact kNO k24 (by decide) k90
          replace s1 : So 1 (gW G) h91 := by rw [e92]; exact s1.le sc1 (nO_le k90)
          replace s2 : So 2 (gW G) h91 := by rw [e92]; exact s2.le sc2 (nO_le k90)
          replace s6 : So 6 (gW G) h91 := by rw [e92]; exact s6.le sc6 (nO_le k90)
          have k93 : hK h91 q89 = 18 := by rw [e92]; exact kNOs
          refine x_dup (pc' := 154) (dX57_infer 72 rfl rfl) rfl rfl ?_
          refine x_bipush (pc' := 156) (v := 6) (dX57_infer 73 rfl rfl) (by decide) rfl ?_
          refine x_aload_n (pc' := 157) 4 (dX57_infer 74 rfl rfl) rfl rfl rfl ?_
          refine x_getR (pc' := 160) (dX57_infer 75 rfl rfl) g109 q825 (Or.inl rfl) rfl (hf_of 9 s6.1 rfl (by decide) m9_109) (s6.2 1 _ rfl rfl).1 ?_
          refine x_getR (pc' := 163) (dX57_infer 76 rfl rfl) g25 q328 (Or.inl rfl) rfl (hf_of 1 s1.1 rfl (by decide) m1_25) (s1.2 3 _ rfl rfl).1 ?_
          refine x_aload_n (pc' := 164) 3 (dX57_infer 77 rfl rfl) rfl rfl rfl ?_
          obtain ⟨k94, hf⟩ := hf
          refine x_getI (pc' := 167) (dX57_infer 78 rfl rfl) g313 q1829 (Or.inr q1830) rfl (hf_of 52 k94 rfl (by decide) m52_313) ?_
          obtain ⟨i95, hf⟩ := hf
          refine x_iald (pc' := 168) (dX57_infer 79 rfl rfl) rfl (s1.2 3 _ rfl rfl).2.1 (by rw [(s1.2 3 _ rfl rfl).2.2.2 (by decide)]; exact i95) ?_
          refine x_inv (pc' := 171) (ν := mX18_init) (av := [_, _, _]) (st := [_]) rfl rfl (dX57_infer 80 rfl rfl) (Nat.le_of_ble_eq_true rfl) wX18_init q239 (inv_I (dX57_infer 80 rfl rfl) q2335 q1303 q1304 rfl (by decide) lX18_init) (fun b hb => by exact Or.inl (by have e : some _ = some b := hb; cases e; simp)) rfl ?_
          refine C.mono hf (fun _ _ => KV.g (fun h96 hf le97 => ?_))
          replace s1 := s1.leX sc1 le97 k93 (by decide)
          replace s2 := s2.leX sc2 le97 k93 (by decide)
          replace s6 := s6.leX sc6 le97 k93 (by decide)
          have k1 := leK le97 k1 (by decide)
          have k4 := leK le97 k4 (by decide)
          have k11 := leK le97 k11 (by decide)
          have k17 := leK le97 k17 (by decide)
          have k24 := leK le97 k24 (by decide)
          have k93 := leK le97 k93 (by decide)
          have k94 := leK le97 k94 (by decide)
          exact x_athrow (dX57_infer 81 rfl rfl) rfl hf
theorem bX57_begin (G : Gh) (d : Nat) (h : AH) (Q : Outcome → AH → Prop) (a0 : Nat) (p2 : Int32) (hf : Q (.returned (some (.int p2))) h) : C G mX57_begin d [.ref (a0), .ref (gW G 3), .int (p2)] h Q := by
  refine C.of_X (by decide +kernel) (Nat.le_of_ble_eq_true rfl) wX57_begin ?_
  show X G mX57_begin d none [] 0 [(0, .ref (a0)), (1, .ref (gW G 3)), (2, .int (p2))] [] h Q
  refine x_iload_n (pc' := 1) 2 (dX57_begin 0 rfl rfl) rfl rfl rfl ?_
  exact x_iret (dX57_begin 1 rfl rfl) rfl hf
theorem bX58_init (G : Gh) (d : Nat) (hd1 : 1 ≤ d) (h : AH) (Q : Outcome → AH → Prop) (a0 : Nat) (p1 : Int64) (p3 : Int64) (p5 : Nat) (p6 : Int32) (hf : hK h a0 = 54 ∧ (∀ h2, h2 = pJ h a0 366 p1 → (∀ h3, h3 = pJ h2 a0 367 p3 → (∀ h4, h4 = pR h3 a0 368 (some p5) → (∀ h5, h5 = pI h4 a0 369 p6 → (Q (.returned none) h5)))))) : C G mX58_init d [.ref (a0), .long (p1), .long (p3), .ref (p5), .int (p6)] h Q := by
  refine C.of_X (by decide +kernel) (Nat.le_of_ble_eq_true rfl) wX58_init ?_
  show X G mX58_init d (some a0) [] 0 [(0, .ref (a0)), (1, .long (p1)), (3, .long (p3)), (5, .ref (p5)), (6, .int (p6))] [] h Q
  refine x_aload_n (pc' := 1) 0 (dX58_init 0 rfl rfl) rfl rfl rfl ?_
  refine x_objInit (pc' := 4) (dX58_init 1 rfl rfl) q2134 q288 q289 (by decide) (by omega) rfl ?_
  refine x_aload_n (pc' := 5) 0 (dX58_init 2 rfl rfl) rfl rfl rfl ?_
  refine x_lload_n (pc' := 6) 1 (dX58_init 3 rfl rfl) rfl rfl rfl ?_
  obtain ⟨k1, hf⟩ := hf
  refine x_putJ (pc' := 9) (dX58_init 4 rfl rfl) g366 q2135 (Or.inl rfl) (Or.inr ⟨rfl, rfl, rfl, rfl⟩) (Or.inr rfl) rfl (hf_of 53 k1 rfl (by decide) m53_366) (fun h2 e9 => ?_)
  replace hf := hf h2 e9
  replace k1 : hK h2 a0 = 54 := by rw [e9]; exact k1
  refine x_aload_n (pc' := 10) 0 (dX58_init 5 rfl rfl) rfl rfl rfl ?_
  refine x_lload_n (pc' := 11) 2 (dX58_init 6 rfl rfl) rfl rfl rfl ?_
  refine x_putJ (pc' := 14) (dX58_init 7 rfl rfl) g367 q2138 (Or.inl rfl) (Or.inr ⟨rfl, rfl, rfl, rfl⟩) (Or.inr rfl) rfl (hf_of 53 k1 rfl (by decide) m53_367) (fun h3 e8 => ?_)
  replace hf := hf h3 e8
  replace k1 : hK h3 a0 = 54 := by rw [e8]; exact k1
  refine x_aload_n (pc' := 15) 0 (dX58_init 8 rfl rfl) rfl rfl rfl ?_
  refine x_aload (pc' := 17) 3 (dX58_init 9 rfl rfl) rfl rfl ?_
  refine x_putR (pc' := 20) (dX58_init 10 rfl rfl) g368 q2141 (Or.inl rfl) (Or.inr ⟨rfl, rfl, rfl, rfl⟩) (Or.inr rfl) rfl (hf_of 53 k1 rfl (by decide) m53_368) (fun h4 e7 => ?_)
  replace hf := hf h4 e7
  replace k1 : hK h4 a0 = 54 := by rw [e7]; exact k1
  refine x_aload_n (pc' := 21) 0 (dX58_init 11 rfl rfl) rfl rfl rfl ?_
  refine x_iload (pc' := 23) 4 (dX58_init 12 rfl rfl) rfl rfl ?_
  refine x_putI (pc' := 26) (dX58_init 13 rfl rfl) g369 q2143 (Or.inl rfl) (Or.inr ⟨rfl, rfl, rfl, rfl⟩) (Or.inr rfl) rfl (hf_of 53 k1 rfl (by decide) m53_369) (fun h5 e6 => ?_)
  replace hf := hf h5 e6
  replace k1 : hK h5 a0 = 54 := by rw [e6]; exact k1
  exact x_vret (dX58_init 14 rfl rfl) rfl hf
