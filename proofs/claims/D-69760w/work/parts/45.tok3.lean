/-! TOKENS of the component: words -/
theorem shl_or {v c : Nat} (hv : v < 2 ^ 55) (hc : c < 256) : (lN v <<< ((8 : Int32).toInt64 &&& 63)) ||| (nI c).toInt64 = lN (v * 256 + c) := by
  have l1 : v * 256 + c < 2 ^ 64 := by omega
  have e0 : ((8 : Int32).toInt64 &&& 63) = 8 := by decide
  have e1 : (nI c).toInt64 = lN c := nI_l (by omega)
  rw [e0, e1]
  apply Int64.toBitVec_inj.mp
  have a1 : (lN v).toBitVec = BitVec.ofNat 64 v := rfl
  have a2 : (lN c).toBitVec = BitVec.ofNat 64 c := rfl
  have a3 : (lN (v * 256 + c)).toBitVec = BitVec.ofNat 64 (v * 256 + c) := rfl
  rw [Int64.toBitVec_or, Int64.toBitVec_shiftLeft, a1, a2, a3]
  have a4 : ((8 : Int64).toBitVec.smod 64) = 8#64 := by decide
  rw [a4]
  apply BitVec.eq_of_toNat_eq
  have l2 : v * 256 < 2 ^ 64 := Nat.lt_of_le_of_lt (Nat.le_add_right _ c) l1
  rw [BitVec.toNat_or, BitVec.toNat_ofNat, BitVec.toNat_ofNat, Nat.mod_eq_of_lt l1, Nat.mod_eq_of_lt (show c < 2 ^ 64 by omega)]
  rw [show (BitVec.ofNat 64 v <<< 8#64).toNat = v <<< 8 by
    rw [BitVec.shiftLeft_eq', BitVec.toNat_shiftLeft, BitVec.toNat_ofNat, BitVec.toNat_ofNat, Nat.mod_eq_of_lt (show v < 2 ^ 64 by omega)]
    have : v <<< (8 % 2 ^ 64) = v * 256 := by rw [show 8 % 2 ^ 64 = 8 from rfl, Nat.shiftLeft_eq]
    rw [this, Nat.mod_eq_of_lt l2]]
  rw [← Nat.shiftLeft_add_eq_or_of_lt (show c < 2 ^ 8 by omega), Nat.shiftLeft_eq]
theorem take8 {l : List Nat} {c : Nat} (h : l.length < 8) : (l ++ [c]).take 8 = l.take 8 ++ [c] ∧ (l ++ [c]).drop 8 = [] ∧ l.drop 8 = [] ∧ (l.take 8).length ≤ 7 := by
  refine ⟨?_, ?_, ?_, ?_⟩
  · rw [List.take_of_length_le (by simp; omega), List.take_of_length_le (by omega)]
  · exact List.drop_of_length_le (by simp; omega)
  · exact List.drop_of_length_le (by omega)
  · rw [List.length_take]; omega
theorem drop8 {l : List Nat} {c : Nat} (h : 8 ≤ l.length) : (l ++ [c]).take 8 = l.take 8 ∧ (l ++ [c]).drop 8 = l.drop 8 ++ [c] :=
  ⟨List.take_append_of_le_length h, List.drop_append_of_le_length h⟩
section
variable {G : Gh} {d : Nat} {h : AH} {u : Nat → Nat} {n p : Nat} {ts : List (Nat × Nat × Nat)}
theorem Txt.at (hT : Txt G h u n) {v : Int32} : Txt G (pI h (gW G 1) 29 v) u n := ⟨by simpa [hK_pI, hL_pI, fI_pI, fJ_pI, fR_pI, aI_pI, aJ_pI, aR_pI, hc_pI, hs_pI, hK_pJ, hL_pJ, fI_pJ, fJ_pJ, fR_pJ, aI_pJ, aJ_pJ, aR_pJ, hc_pJ, hs_pJ, hK_pR, hL_pR, fI_pR, fJ_pR, fR_pR, aI_pR, aJ_pR, aR_pR, hc_pR, hs_pR, hK_sI, hL_sI, fI_sI, fJ_sI, fR_sI, aI_sI, aJ_sI, aR_sI, hc_sI, hs_sI, hK_sJ, hL_sJ, fI_sJ, fJ_sJ, fR_sJ, aI_sJ, aJ_sJ, aR_sJ, hc_sJ, hs_sJ, hK_sR, hL_sR, fI_sR, fJ_sR, fR_sR, aI_sR, aJ_sR, aR_sR, hc_sR, hs_sR, hK_nO, hL_nO, fI_nO, fJ_nO, fR_nO, aI_nO, aJ_nO, aR_nO, hc_nO, hs_nO, hK_nA, hL_nA, fI_nA, fJ_nA, fR_nA, aI_nA, aJ_nA, aR_nA, hc_nA, hs_nA] using hT.1, hT.2.1, hT.2.2.1, hT.2.2.2⟩
theorem Tks.at (hT : Tks G h ts) {v : Int32} : Tks G (pI h (gW G 1) 29 v) ts := ⟨by simpa [hK_pI, hL_pI, fI_pI, fJ_pI, fR_pI, aI_pI, aJ_pI, aR_pI, hc_pI, hs_pI, hK_pJ, hL_pJ, fI_pJ, fJ_pJ, fR_pJ, aI_pJ, aJ_pJ, aR_pJ, hc_pJ, hs_pJ, hK_pR, hL_pR, fI_pR, fJ_pR, fR_pR, aI_pR, aJ_pR, aR_pR, hc_pR, hs_pR, hK_sI, hL_sI, fI_sI, fJ_sI, fR_sI, aI_sI, aJ_sI, aR_sI, hc_sI, hs_sI, hK_sJ, hL_sJ, fI_sJ, fJ_sJ, fR_sJ, aI_sJ, aJ_sJ, aR_sJ, hc_sJ, hs_sJ, hK_sR, hL_sR, fI_sR, fJ_sR, fR_sR, aI_sR, aJ_sR, aR_sR, hc_sR, hs_sR, hK_nO, hL_nO, fI_nO, fJ_nO, fR_nO, aI_nO, aJ_nO, aR_nO, hc_nO, hs_nO, hK_nA, hL_nA, fI_nA, fJ_nA, fR_nA, aI_nA, aJ_nA, aR_nA, hc_nA, hs_nA] using hT.1, fun i t ht => hT.2 i t ht⟩
/-- the letters of a word are put together -/
theorem word_sum (s1 : So 1 (gW G) h) (hT : Txt G h u n) {q : Nat} (ha : fI h (gW G 1) 29 = nI q) (hq : q ≤ n) (hpq : p ≤ q) (hc : ∀ j, p ≤ j → j < q → 1 ≤ u j ∧ u j < 128) {Q : Outcome → AH → Prop} {c : Int32}
    (he : ∀ a b : Int64, (q - p ≤ 12 → a = lN (cd ((bs u p (q - p)).take 8)) ∧ b = lN (cd ((bs u p (q - p)).drop 8))) → X G mX2_word (d + 1) none [] 115 [(0, .ref (gW G 1)), (1, .int c), (2, .int (nI p)), (3, .long a), (5, .long b), (7, .int (nI (q - p))), (8, .int (nI q))] [] h Q) :
    ∀ m i, m = q - p - i → i ≤ q - p → ∀ a b : Int64, (i ≤ 12 → a = lN (cd ((bs u p i).take 8)) ∧ b = lN (cd ((bs u p i).drop 8))) →
    X G mX2_word (d + 1) none [] 115 [(0, .ref (gW G 1)), (1, .int c), (2, .int (nI p)), (3, .long a), (5, .long b), (7, .int (nI i)), (8, .int (nI (p + i)))] [] h Q := by
  have hn := hT.2.1
  intro m
  induction m with
  | zero =>
    intro i hm hi a b hab
    have e : i = q - p := by omega
    subst e
    rw [show p + (q - p) = q by omega]
    exact he a b hab
  | succ m ih =>
    intro i hm hi a b hab
    have hu := hc (p + i) (by omega) (by omega)
    have hx : aI h (gW G 1022) (p + i) = nI (u (p + i)) := by
      rw [i_eq, hT.2.2.2 _ (by omega), nI_toInt (by omega)]
      unfold sbv
      rw [if_pos hu.2]
    have hlen : (bs u p i).length = i := bs_len
    have hall : ∀ x ∈ bs u p i, x < 128 := by
      intro x hx
      obtain ⟨j, hj, rfl⟩ := List.mem_map.mp hx
      rw [List.mem_range] at hj
      exact (hc (p + j) (by omega) (by omega)).2
    refine bX2_word_115 G d h Q _ _ _ _ _ _ s1 ?_
    rw [ha, nI_leI (by omega) (by omega), show (8 : Int32) = nI 8 from rfl, nI_leI (by omega) (by omega)]
    refine ⟨fun z => by omega, fun _ => ⟨fun z => ⟨vp_in_nI (by omega) (by omega), ?_⟩, fun z => ⟨vp_in_nI (by omega) (by omega), ?_⟩⟩⟩
    · rintro _ rfl _ rfl _ rfl
      rw [nI_cn (by omega), nI_1, nI_1, hx]
      refine ih (i + 1) (by omega) (by omega) _ _ fun h12 => ?_
      obtain ⟨r1, r2⟩ := hab (by omega)
      obtain ⟨t1, t2⟩ := drop8 (l := bs u p i) (c := u (p + i)) (by omega)
      rw [bs_succ, t1, t2, cd_push]
      refine ⟨r1, ?_⟩
      rw [r2]
      exact shl_or (cd_small (by rw [List.length_drop]; omega) fun x hx => hall x (List.mem_of_mem_drop hx)) (by omega)
    · rintro _ rfl _ rfl _ rfl
      rw [nI_cn (by omega), nI_1, nI_1, hx]
      refine ih (i + 1) (by omega) (by omega) _ _ fun h12 => ?_
      obtain ⟨r1, r2⟩ := hab (by omega)
      obtain ⟨t1, t2, t3, t4⟩ := take8 (l := bs u p i) (c := u (p + i)) (by omega)
      rw [bs_succ, t1, t2, cd_push]
      refine ⟨?_, ?_⟩
      · rw [r1]
        exact shl_or (cd_small t4 fun x hx => hall x (List.mem_of_mem_take hx)) (by omega)
      · rw [r2, t3]
/-- a word's kind -/
def wkind (c : Nat) (l : List Nat) (k : Nat) : Nat := if 12 < k then 292 else if c = 39 then 282 else if gr c = true then 281 else kw l
theorem kwG_ne : ∀ (r : List (List Nat)) (l : List Nat) (k : Nat), k + r.length ≤ 19 → kwG l r k ≠ 292 ∧ kwG l r k < 300 ∧ (kwG l r k = 280 ∨ kwG l r k < 280) := by
  intro r
  induction r with
  | nil => intro l k _; exact ⟨by simp [kwG], by simp [kwG], Or.inl rfl⟩
  | cons x r ih =>
    intro l k hk
    rw [kwG]
    rw [List.length_cons] at hk
    split
    · omega
    · exact ih l (k + 1) (by omega)
theorem word_end (hD : DW (gW G)) (hl : ts.length ≤ 4096) (s1 : So 1 (gW G) h) (hT : Txt G h u n) (hts : Tks G h ts) (hw : WdsOK G h) {q c : Nat} (ha : fI h (gW G 1) 29 = nI q) (hq : q ≤ n) (hpq : p < q) (hc : ∀ j, p ≤ j → j < q → 1 ≤ u j ∧ u j < 128) (hcu : c = u p) (a b : Int64)
    (hab : q - p ≤ 12 → a = lN (cd ((bs u p (q - p)).take 8)) ∧ b = lN (cd ((bs u p (q - p)).drop 8))) :
    X G mX2_word (d + 6) none [] 115 [(0, .ref (gW G 1)), (1, .int (nI c)), (2, .int (nI p)), (3, .long a), (5, .long b), (7, .int (nI (q - p))), (8, .int (nI q))] [] h (tokP G ts p (wkind c (bs u p (q - p)) (q - p), cd (bs u p (q - p)), q)) := by
  have hn := hT.2.1
  have hm := hts.1
  have hcn : (nI ts.length).toNatClampNeg = ts.length := nI_cn (by omega)
  have hc1 := hc p (by omega) hpq
  refine bX2_word_115 G (d + 5) h _ _ _ _ _ _ _ s1 ?_
  rw [ha, nI_leI (by omega) (by omega)]
  refine ⟨fun _ => ⟨by rw [hm]; exact vp_in_nI (by omega) (by omega), ?_⟩, fun z => by omega⟩
  rintro _ rfl
  refine ⟨by rw [fI_sJ, hm]; exact vp_in_nI (by omega) (by omega), ?_⟩
  rintro _ rfl
  rw [fI_sJ, hm, hcn, show (12 : Int32) = nI 12 from rfl, nI_leI (by omega) (by omega), nI_ltI (by omega) (by omega), show (39 : Int32) = nI 39 from rfl, nI_eq (by omega) (by omega)]
  have s2 : So 1 (gW G) (sJ (sJ h (gW G 1026) ts.length a) (gW G 1027) ts.length b) := (s1.le sc1 sJ_le).le sc1 sJ_le
  have add : ∀ kd : Nat, kd = wkind c (bs u p (q - p)) (q - p) → kd < 300 → C G mX2_add (d + 5) [.ref (gW G 1), .int (nI kd), .int (nI p)] (sJ (sJ h (gW G 1026) ts.length a) (gW G 1027) ts.length b) (KV (tokP G ts p (wkind c (bs u p (q - p)) (q - p), cd (bs u p (q - p)), q)) (fun h23 => (12 < q - p → (tokP G ts p (wkind c (bs u p (q - p)) (q - p), cd (bs u p (q - p)), q) (.returned (some (.int 0))) h23)) ∧ (¬ (12 < q - p) → (tokP G ts p (wkind c (bs u p (q - p)) (q - p), cd (bs u p (q - p)), q) (.returned (some (.int 1))) h23)))) := by
    intro kd hk hk3
    refine C.mono (c_tadd s2 (m := ts.length) (by rw [fI_sJ, fI_sJ]; exact hm) (by omega)) ?_
    rintro _ _ ⟨rfl, rfl⟩
    have hat : fI (pI (sI (sI (sJ (sJ h (gW G 1026) ts.length a) (gW G 1027) ts.length b) (gW G 1024) ts.length (nI kd)) (gW G 1025) ts.length (nI p)) (gW G 1) 28 (nI (ts.length + 1))) (gW G 1) 29 = nI q := by simp [hK_pI, hL_pI, fI_pI, fJ_pI, fR_pI, aI_pI, aJ_pI, aR_pI, hc_pI, hs_pI, hK_pJ, hL_pJ, fI_pJ, fJ_pJ, fR_pJ, aI_pJ, aJ_pJ, aR_pJ, hc_pJ, hs_pJ, hK_pR, hL_pR, fI_pR, fJ_pR, fR_pR, aI_pR, aJ_pR, aR_pR, hc_pR, hs_pR, hK_sI, hL_sI, fI_sI, fJ_sI, fR_sI, aI_sI, aJ_sI, aR_sI, hc_sI, hs_sI, hK_sJ, hL_sJ, fI_sJ, fJ_sJ, fR_sJ, aI_sJ, aJ_sJ, aR_sJ, hc_sJ, hs_sJ, hK_sR, hL_sR, fI_sR, fJ_sR, fR_sR, aI_sR, aJ_sR, aR_sR, hc_sR, hs_sR, hK_nO, hL_nO, fI_nO, fJ_nO, fR_nO, aI_nO, aJ_nO, aR_nO, hc_nO, hs_nO, hK_nA, hL_nA, fI_nA, fJ_nA, fR_nA, aI_nA, aJ_nA, aR_nA, hc_nA, hs_nA, ha]
    have htk : Tks G (pI (sI (sI (sJ (sJ h (gW G 1026) ts.length a) (gW G 1027) ts.length b) (gW G 1024) ts.length (nI kd)) (gW G 1025) ts.length (nI p)) (gW G 1) 28 (nI (ts.length + 1))) (ts ++ [(wkind c (bs u p (q - p)) (q - p), p, cd (bs u p (q - p)))]) := by
      refine hts.push ?_ (fun i hi => ?_) ?_
      · simp [hK_pI, hL_pI, fI_pI, fJ_pI, fR_pI, aI_pI, aJ_pI, aR_pI, hc_pI, hs_pI, hK_pJ, hL_pJ, fI_pJ, fJ_pJ, fR_pJ, aI_pJ, aJ_pJ, aR_pJ, hc_pJ, hs_pJ, hK_pR, hL_pR, fI_pR, fJ_pR, fR_pR, aI_pR, aJ_pR, aR_pR, hc_pR, hs_pR, hK_sI, hL_sI, fI_sI, fJ_sI, fR_sI, aI_sI, aJ_sI, aR_sI, hc_sI, hs_sI, hK_sJ, hL_sJ, fI_sJ, fJ_sJ, fR_sJ, aI_sJ, aJ_sJ, aR_sJ, hc_sJ, hs_sJ, hK_sR, hL_sR, fI_sR, fJ_sR, fR_sR, aI_sR, aJ_sR, aR_sR, hc_sR, hs_sR, hK_nO, hL_nO, fI_nO, fJ_nO, fR_nO, aI_nO, aJ_nO, aR_nO, hc_nO, hs_nO, hK_nA, hL_nA, fI_nA, fJ_nA, fR_nA, aI_nA, aJ_nA, aR_nA, hc_nA, hs_nA]
      · have hne : ¬ i = ts.length := by omega
        simp (config := { decide := true }) [hK_pI, hL_pI, fI_pI, fJ_pI, fR_pI, aI_pI, aJ_pI, aR_pI, hc_pI, hs_pI, hK_pJ, hL_pJ, fI_pJ, fJ_pJ, fR_pJ, aI_pJ, aJ_pJ, aR_pJ, hc_pJ, hs_pJ, hK_pR, hL_pR, fI_pR, fJ_pR, fR_pR, aI_pR, aJ_pR, aR_pR, hc_pR, hs_pR, hK_sI, hL_sI, fI_sI, fJ_sI, fR_sI, aI_sI, aJ_sI, aR_sI, hc_sI, hs_sI, hK_sJ, hL_sJ, fI_sJ, fJ_sJ, fR_sJ, aI_sJ, aJ_sJ, aR_sJ, hc_sJ, hs_sJ, hK_sR, hL_sR, fI_sR, fJ_sR, fR_sR, aI_sR, aJ_sR, aR_sR, hc_sR, hs_sR, hK_nO, hL_nO, fI_nO, fJ_nO, fR_nO, aI_nO, aJ_nO, aR_nO, hc_nO, hs_nO, hK_nA, hL_nA, fI_nA, fJ_nA, fR_nA, aI_nA, aJ_nA, aR_nA, hc_nA, hs_nA, hD.eqw, hne]
      · refine ⟨?_, ?_, ?_, ?_⟩
        · simp (config := { decide := true }) [hK_pI, hL_pI, fI_pI, fJ_pI, fR_pI, aI_pI, aJ_pI, aR_pI, hc_pI, hs_pI, hK_pJ, hL_pJ, fI_pJ, fJ_pJ, fR_pJ, aI_pJ, aJ_pJ, aR_pJ, hc_pJ, hs_pJ, hK_pR, hL_pR, fI_pR, fJ_pR, fR_pR, aI_pR, aJ_pR, aR_pR, hc_pR, hs_pR, hK_sI, hL_sI, fI_sI, fJ_sI, fR_sI, aI_sI, aJ_sI, aR_sI, hc_sI, hs_sI, hK_sJ, hL_sJ, fI_sJ, fJ_sJ, fR_sJ, aI_sJ, aJ_sJ, aR_sJ, hc_sJ, hs_sJ, hK_sR, hL_sR, fI_sR, fJ_sR, fR_sR, aI_sR, aJ_sR, aR_sR, hc_sR, hs_sR, hK_nO, hL_nO, fI_nO, fJ_nO, fR_nO, aI_nO, aJ_nO, aR_nO, hc_nO, hs_nO, hK_nA, hL_nA, fI_nA, fJ_nA, fR_nA, aI_nA, aJ_nA, aR_nA, hc_nA, hs_nA, hD.eqw, hk]
        · simp (config := { decide := true }) [hK_pI, hL_pI, fI_pI, fJ_pI, fR_pI, aI_pI, aJ_pI, aR_pI, hc_pI, hs_pI, hK_pJ, hL_pJ, fI_pJ, fJ_pJ, fR_pJ, aI_pJ, aJ_pJ, aR_pJ, hc_pJ, hs_pJ, hK_pR, hL_pR, fI_pR, fJ_pR, fR_pR, aI_pR, aJ_pR, aR_pR, hc_pR, hs_pR, hK_sI, hL_sI, fI_sI, fJ_sI, fR_sI, aI_sI, aJ_sI, aR_sI, hc_sI, hs_sI, hK_sJ, hL_sJ, fI_sJ, fJ_sJ, fR_sJ, aI_sJ, aJ_sJ, aR_sJ, hc_sJ, hs_sJ, hK_sR, hL_sR, fI_sR, fJ_sR, fR_sR, aI_sR, aJ_sR, aR_sR, hc_sR, hs_sR, hK_nO, hL_nO, fI_nO, fJ_nO, fR_nO, aI_nO, aJ_nO, aR_nO, hc_nO, hs_nO, hK_nA, hL_nA, fI_nA, fJ_nA, fR_nA, aI_nA, aJ_nA, aR_nA, hc_nA, hs_nA, hD.eqw]
        · intro hk2
          have h12 : q - p ≤ 12 := by
            refine Classical.byContradiction fun hn => ?_
            have : wkind c (bs u p (q - p)) (q - p) = 292 := by unfold wkind; rw [if_pos (by omega)]
            rw [this] at hk2
            omega
          obtain ⟨r1, r2⟩ := hab h12
          refine ⟨bs u p (q - p), fun x hx => ?_, by rw [bs_len]; exact h12, rfl, ?_, ?_⟩
          · obtain ⟨j, hj, rfl⟩ := List.mem_map.mp hx
            rw [List.mem_range] at hj
            exact hc (p + j) (by omega) (by omega)
          · rw [← r1]
            simp (config := { decide := true }) [hK_pI, hL_pI, fI_pI, fJ_pI, fR_pI, aI_pI, aJ_pI, aR_pI, hc_pI, hs_pI, hK_pJ, hL_pJ, fI_pJ, fJ_pJ, fR_pJ, aI_pJ, aJ_pJ, aR_pJ, hc_pJ, hs_pJ, hK_pR, hL_pR, fI_pR, fJ_pR, fR_pR, aI_pR, aJ_pR, aR_pR, hc_pR, hs_pR, hK_sI, hL_sI, fI_sI, fJ_sI, fR_sI, aI_sI, aJ_sI, aR_sI, hc_sI, hs_sI, hK_sJ, hL_sJ, fI_sJ, fJ_sJ, fR_sJ, aI_sJ, aJ_sJ, aR_sJ, hc_sJ, hs_sJ, hK_sR, hL_sR, fI_sR, fJ_sR, fR_sR, aI_sR, aJ_sR, aR_sR, hc_sR, hs_sR, hK_nO, hL_nO, fI_nO, fJ_nO, fR_nO, aI_nO, aJ_nO, aR_nO, hc_nO, hs_nO, hK_nA, hL_nA, fI_nA, fJ_nA, fR_nA, aI_nA, aJ_nA, aR_nA, hc_nA, hs_nA, hD.eqw]
          · rw [← r2]
            simp (config := { decide := true }) [hK_pI, hL_pI, fI_pI, fJ_pI, fR_pI, aI_pI, aJ_pI, aR_pI, hc_pI, hs_pI, hK_pJ, hL_pJ, fI_pJ, fJ_pJ, fR_pJ, aI_pJ, aJ_pJ, aR_pJ, hc_pJ, hs_pJ, hK_pR, hL_pR, fI_pR, fJ_pR, fR_pR, aI_pR, aJ_pR, aR_pR, hc_pR, hs_pR, hK_sI, hL_sI, fI_sI, fJ_sI, fR_sI, aI_sI, aJ_sI, aR_sI, hc_sI, hs_sI, hK_sJ, hL_sJ, fI_sJ, fJ_sJ, fR_sJ, aI_sJ, aJ_sJ, aR_sJ, hc_sJ, hs_sJ, hK_sR, hL_sR, fI_sR, fJ_sR, fR_sR, aI_sR, aJ_sR, aR_sR, hc_sR, hs_sR, hK_nO, hL_nO, fI_nO, fJ_nO, fR_nO, aI_nO, aJ_nO, aR_nO, hc_nO, hs_nO, hK_nA, hL_nA, fI_nA, fJ_nA, fR_nA, aI_nA, aJ_nA, aR_nA, hc_nA, hs_nA, hD.eqw]
        · intro hk2
          exfalso
          have : wkind c (bs u p (q - p)) (q - p) ≠ 283 := by
            unfold wkind
            have := kwG_ne kwl (bs u p (q - p)) 0 (by decide)
            unfold kw
            split
            · omega
            · split
              · omega
              · split <;> omega
          exact this hk2
    refine KV.i ⟨fun z => ⟨?_, hat, htk⟩, fun z => ⟨?_, hat, htk⟩⟩
    · have : wkind c (bs u p (q - p)) (q - p) = 292 := by unfold wkind; rw [if_pos z]
      rw [this]
      rfl
    · have : wkind c (bs u p (q - p)) (q - p) ≠ 292 := by
        unfold wkind
        have := kwG_ne kwl (bs u p (q - p)) 0 (by decide)
        unfold kw
        rw [if_neg z]
        split
        · omega
        · split <;> omega
      rw [decide_eq_true this]
      rfl
  have hg : lkV u n p = nI c := by unfold lkV; rw [if_pos (by omega), hcu]
  have hat0 : at0 u n p = c := by unfold at0; rw [if_pos (by omega), hcu]
  refine ⟨fun z => ⟨fun z2 => ?_, fun z2 => ?_⟩, fun z => ?_⟩
  · exact add 282 (by unfold wkind; rw [if_neg (by omega), if_pos z2]) (by omega)
  · rw [← hg]
    refine C.ri (c_great hT.2.2.1) ?_
    rw [hat0]
    refine ⟨fun z3 => ?_, fun z3 => ?_⟩
    · rw [b2_0] at z3
      have hT2 : Txt G (sJ (sJ h (gW G 1026) ts.length a) (gW G 1027) ts.length b) u n := hT
      refine C.ri (c_kindOf s2 hT2 hw (by omega)) (add _ ?_ ?_)
      · unfold wkind
        rw [if_neg (by omega), if_neg z2, if_neg (by rw [z3]; simp)]
      · exact (kwG_ne kwl _ 0 (by decide)).2.1
    · have z4 : gr c = true := by
        cases hq : gr c with
        | true => rfl
        | false => exact absurd (b2_0.mpr hq) z3
      exact add 281 (by unfold wkind; rw [if_neg (by omega), if_neg z2, if_pos z4]) (by omega)
  · exact add 292 (by unfold wkind; rw [if_pos (by omega)]) (by omega)
end
