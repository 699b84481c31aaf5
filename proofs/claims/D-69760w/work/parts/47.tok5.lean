/-! TOKENS of the component: signs, all tokens -/
section
variable {G : Gh} {d : Nat} {h : AH} {u : Nat → Nat} {n p : Nat} {ts : List (Nat × Nat × Nat)}
theorem idx_loop {i : Nat} {x : Int32} (hi : i < slen.length) : ∀ m j, m = slen.getD i 0 - j → j ≤ slen.getD i 0 →
    X G mJ1_indexOfChar d none [] 7 [(0, .ref (G.2.2.2.2.1 i)), (3, .int (Int32.ofNat (slen.getD i 0))), (4, .int x), (5, .int (nI j))] [] h (fun o h' => h' = h ∧ ∃ v : Int32, o = .returned (some (.int v)) ∧ (v < 0 ↔ ∀ j', j ≤ j' → j' < slen.getD i 0 → chr i j' ≠ x)) := by
  have h90 := slen_le i
  intro m
  induction m with
  | zero =>
    intro j hm hj
    refine bJ1_indexOfChar_7 G d h _ i hi _ _ _ ⟨fun _ => ⟨rfl, -1, rfl, ?_⟩, fun z => absurd ?_ z⟩
    · exact ⟨fun _ j' h1 h2 => by omega, fun _ => by decide⟩
    · show nI _ ≤ nI _
      rw [nI_leI (by omega) (by omega)]
      omega
  | succ m ih =>
    intro j hm hj
    have e : ((sbyt.getD i []).getD (nI j : Int32).toNatClampNeg 0 : Int32) = chr i j := by rw [nI_cn (by omega)]; rfl
    refine bJ1_indexOfChar_7 G d h _ i hi _ _ _ ⟨fun z => ?_, fun _ => ⟨vp_in_nI (by omega) (by omega), ?_⟩⟩
    · have z' : nI (slen.getD i 0) ≤ nI j := z
      rw [nI_leI (by omega) (by omega)] at z'
      omega
    · rw [e]
      refine ⟨fun z => ⟨rfl, _, rfl, fun q => ?_, fun q => absurd z (q j (by omega) (by omega))⟩, fun z => ?_⟩
      · rw [Int32.lt_iff_toInt_lt, nI_toInt (by omega)] at q
        have : (0 : Int32).toInt = 0 := rfl
        omega
      · rintro _ rfl
        rw [nI_1]
        refine X.mono (ih (j + 1) (by omega) (by omega)) ?_
        rintro o h' ⟨rfl, v, rfl, hv⟩
        refine ⟨rfl, v, rfl, hv.trans ⟨fun q j' h1 h2 => ?_, fun q j' h1 h2 => q j' (by omega) h2⟩⟩
        by_cases ej : j' = j
        · subst ej; exact z
        · exact q j' (by omega) h2
theorem c_indexOf {i c : Nat} (hi : i < slen.length) (hc : c < 256) : C G mJ0_indexOf (d + 3) [.ref (G.2.2.2.1 i), .int (nI c)] h (fun o h' => h' = h ∧ ∃ v : Int32, o = .returned (some (.int v)) ∧ (v < 0 ↔ ∀ j, j < slen.getD i 0 → chr i j ≠ (nI c).toInt8.toInt32)) := by
  have h90 := slen_le i
  have h0 : ¬ nI c < 0 := by
    rw [Int32.lt_iff_toInt_lt, nI_toInt (by omega)]
    have : (0 : Int32).toInt = 0 := rfl
    omega
  have h255 : ¬ 255 < nI c := by
    rw [Int32.lt_iff_toInt_lt, nI_toInt (by omega)]
    have : (255 : Int32).toInt = 255 := rfl
    omega
  have k1 : C G mJ1_canEncode (d) [.int (nI c)] h (Ret (.int 1) h) := bJ1_canEncode G d h _ _ ⟨fun q => absurd q h0, fun _ => ⟨fun q => absurd q h255, fun _ => ⟨rfl, rfl⟩⟩⟩
  have k2 : C G mJ9_max d [.int 0, .int 0] h (Ret (.int 0) h) := bJ9_max G d h _ _ _ ⟨fun q => absurd q (by decide), fun _ => ⟨rfl, rfl⟩⟩
  have k3 : ∀ x : Int32, C G mJ9_min_2 d [.int x, .int x] h (Ret (.int x) h) := fun x => bJ9_min_2 G d h _ _ _ ⟨fun _ => ⟨rfl, rfl⟩, fun _ => ⟨rfl, rfl⟩⟩
  have k4 : C G mJ1_indexOf (d + 1) [.ref (G.2.2.2.2.1 i), .int (nI c), .int 0, .int (Int32.ofNat (slen.getD i 0))] h (fun o h' => h' = h ∧ ∃ v : Int32, o = .returned (some (.int v)) ∧ (v < 0 ↔ ∀ j, j < slen.getD i 0 → chr i j ≠ (nI c).toInt8.toInt32)) := by
    refine bJ1_indexOf G d h _ i hi _ _ _ (C.ri k1 ⟨fun q => absurd q (by decide), fun _ => C.ri k2 (C.ri (k3 _) ⟨fun q => ?_, fun q => ?_⟩)⟩)
    · have k5 : C G mJ1_indexOfChar d [.ref (G.2.2.2.2.1 i), .int (nI c), .int 0, .int (Int32.ofNat (slen.getD i 0))] h (fun o h' => h' = h ∧ ∃ v : Int32, o = .returned (some (.int v)) ∧ (v < 0 ↔ ∀ j, j < slen.getD i 0 → chr i j ≠ (nI c).toInt8.toInt32)) := by
        refine bJ1_indexOfChar G d h _ i hi _ _ _ ?_
        rintro _ rfl
        refine X.mono (idx_loop hi _ 0 rfl (by omega)) ?_
        rintro o h' ⟨rfl, v, rfl, hv⟩
        exact ⟨rfl, v, rfl, hv.trans ⟨fun q j h2 => q j (by omega) h2, fun q j _ h2 => q j h2⟩⟩
      refine C.mono k5 ?_
      rintro o h' ⟨rfl, v, rfl, hv⟩
      exact KI.i ⟨rfl, v, rfl, hv⟩
    · refine ⟨rfl, _, rfl, ⟨fun _ j hj => ?_, fun _ => by decide⟩⟩
      exfalso
      apply q
      rw [Int32.lt_iff_toInt_lt, i_ofNat (by omega)]
      have : (0 : Int32).toInt = 0 := rfl
      omega
  refine bJ0_indexOf G (d + 2) h _ i hi _ ?_
  have k6 : C G mJ0_indexOf_2 (d + 2) [.ref (G.2.2.2.1 i), .int (nI c), .int 0] h (fun o h' => h' = h ∧ ∃ v : Int32, o = .returned (some (.int v)) ∧ (v < 0 ↔ ∀ j, j < slen.getD i 0 → chr i j ≠ (nI c).toInt8.toInt32)) := by
    refine bJ0_indexOf_2 G (d + 1) h _ i hi _ _ (C.ri (c_isLatin1 hi) ⟨fun q => absurd q (by decide), fun _ => C.ri (c_length hi) ?_⟩)
    refine C.mono k4 ?_
    rintro o h' ⟨rfl, v, rfl, hv⟩
    exact KI.i ⟨rfl, v, rfl, hv⟩
  refine C.mono k6 ?_
  rintro o h' ⟨rfl, v, rfl, hv⟩
  exact KI.i ⟨rfl, v, rfl, hv⟩
theorem sgl_ok : ∀ c, c < 256 → ((∀ j, j < 17 → chr 24 j ≠ (nI c).toInt8.toInt32) ↔ sgl.contains c = false) := by decide +kernel
theorem sgl_lt : ∀ c, c < 256 → sgl.contains c = true → c < 128 := by decide +kernel
theorem lk_eq {q k : Nat} (hu : ∀ i, u i < 256) (hk : k < 256) : (lkV u n q = nI k) ↔ at0 u n q = k := by
  rw [i_eq, lk_int hu, nI_toInt (by omega)]
  unfold at0
  split <;> omega
theorem sign_end (hD : DW (gW G)) (hl : ts.length ≤ 4096) (s1 : So 1 (gW G) h) (hT : Txt G h u n) (hts : Tks G h ts) (ha : fI h (gW G 1) 29 = nI p) (hp : p < n) {c t : Nat} (hcu : c = u p) (ht : t = two c (at0 u n (p + 1)))
    (hk : tk1 u n p = if t ≠ 0 then (t, 0, p + 2) else (if sgl.contains c = true then c else 292, 0, p + 1)) (ht3 : t ≠ 0 → 284 ≤ t ∧ t ≤ 290) :
    X G mX2_sign (d + 4) none [] 133 [(0, .ref (gW G 1)), (1, .int (nI c))] [.int (nI t)] h (tokP G ts p (tk1 u n p)) := by
  have hn := hT.2.1
  have hu := hT.2.2.1
  have hc : c < 256 := by rw [hcu]; exact hu p
  have t300 : t ≤ 290 := by
    by_cases e : t = 0
    · omega
    · exact (ht3 e).2
  have fin : ∀ (kd : Nat) (one : Bool), tk1 u n p = (kd, 0, if t ≠ 0 then p + 2 else p + 1) → (kd < 128 ∨ (284 ≤ kd ∧ kd ≤ 292)) → (t ≠ 0 → kd ≠ 292) → (t = 0 → (one = true ↔ kd ≠ 292)) → X G mX2_sign (d + 4) none [] 171 [(0, .ref (gW G 1)), (3, .int (nI t)), (4, .int (b2 one))] [.int (nI kd), .ref (gW G 1)] h (tokP G ts p (tk1 u n p)) := by
    intro kd one e1 e2 e3 e4
    refine bX2_sign_171 G (d + 3) h _ _ _ _ s1 ?_
    rw [ha, show (0 : Int32) = nI 0 from rfl, nI_eq (by omega) (by omega)]
    refine C.mono (c_tadd s1 (m := ts.length) hts.1 (by omega)) ?_
    rintro _ _ ⟨rfl, rfl⟩
    have htk : ∀ v : Int32, Tks G (pI (pI (sI (sI h (gW G 1024) ts.length (nI kd)) (gW G 1025) ts.length (nI p)) (gW G 1) 28 (nI (ts.length + 1))) (gW G 1) 29 v) (ts ++ [(kd, p, 0)]) := by
      intro v
      refine hts.push (by simp [hK_pI, hL_pI, fI_pI, fJ_pI, fR_pI, aI_pI, aJ_pI, aR_pI, hc_pI, hs_pI, hK_pJ, hL_pJ, fI_pJ, fJ_pJ, fR_pJ, aI_pJ, aJ_pJ, aR_pJ, hc_pJ, hs_pJ, hK_pR, hL_pR, fI_pR, fJ_pR, fR_pR, aI_pR, aJ_pR, aR_pR, hc_pR, hs_pR, hK_sI, hL_sI, fI_sI, fJ_sI, fR_sI, aI_sI, aJ_sI, aR_sI, hc_sI, hs_sI, hK_sJ, hL_sJ, fI_sJ, fJ_sJ, fR_sJ, aI_sJ, aJ_sJ, aR_sJ, hc_sJ, hs_sJ, hK_sR, hL_sR, fI_sR, fJ_sR, fR_sR, aI_sR, aJ_sR, aR_sR, hc_sR, hs_sR, hK_nO, hL_nO, fI_nO, fJ_nO, fR_nO, aI_nO, aJ_nO, aR_nO, hc_nO, hs_nO, hK_nA, hL_nA, fI_nA, fJ_nA, fR_nA, aI_nA, aJ_nA, aR_nA, hc_nA, hs_nA]) (fun i hi => ?_) ⟨?_, ?_, fun q => ?_, fun q => ?_⟩
      · have hne : ¬ i = ts.length := by omega
        simp (config := { decide := true }) [hK_pI, hL_pI, fI_pI, fJ_pI, fR_pI, aI_pI, aJ_pI, aR_pI, hc_pI, hs_pI, hK_pJ, hL_pJ, fI_pJ, fJ_pJ, fR_pJ, aI_pJ, aJ_pJ, aR_pJ, hc_pJ, hs_pJ, hK_pR, hL_pR, fI_pR, fJ_pR, fR_pR, aI_pR, aJ_pR, aR_pR, hc_pR, hs_pR, hK_sI, hL_sI, fI_sI, fJ_sI, fR_sI, aI_sI, aJ_sI, aR_sI, hc_sI, hs_sI, hK_sJ, hL_sJ, fI_sJ, fJ_sJ, fR_sJ, aI_sJ, aJ_sJ, aR_sJ, hc_sJ, hs_sJ, hK_sR, hL_sR, fI_sR, fJ_sR, fR_sR, aI_sR, aJ_sR, aR_sR, hc_sR, hs_sR, hK_nO, hL_nO, fI_nO, fJ_nO, fR_nO, aI_nO, aJ_nO, aR_nO, hc_nO, hs_nO, hK_nA, hL_nA, fI_nA, fJ_nA, fR_nA, aI_nA, aJ_nA, aR_nA, hc_nA, hs_nA, hD.eqw, hne]
      · simp (config := { decide := true }) [hK_pI, hL_pI, fI_pI, fJ_pI, fR_pI, aI_pI, aJ_pI, aR_pI, hc_pI, hs_pI, hK_pJ, hL_pJ, fI_pJ, fJ_pJ, fR_pJ, aI_pJ, aJ_pJ, aR_pJ, hc_pJ, hs_pJ, hK_pR, hL_pR, fI_pR, fJ_pR, fR_pR, aI_pR, aJ_pR, aR_pR, hc_pR, hs_pR, hK_sI, hL_sI, fI_sI, fJ_sI, fR_sI, aI_sI, aJ_sI, aR_sI, hc_sI, hs_sI, hK_sJ, hL_sJ, fI_sJ, fJ_sJ, fR_sJ, aI_sJ, aJ_sJ, aR_sJ, hc_sJ, hs_sJ, hK_sR, hL_sR, fI_sR, fJ_sR, fR_sR, aI_sR, aJ_sR, aR_sR, hc_sR, hs_sR, hK_nO, hL_nO, fI_nO, fJ_nO, fR_nO, aI_nO, aJ_nO, aR_nO, hc_nO, hs_nO, hK_nA, hL_nA, fI_nA, fJ_nA, fR_nA, aI_nA, aJ_nA, aR_nA, hc_nA, hs_nA, hD.eqw]
      · simp (config := { decide := true }) [hK_pI, hL_pI, fI_pI, fJ_pI, fR_pI, aI_pI, aJ_pI, aR_pI, hc_pI, hs_pI, hK_pJ, hL_pJ, fI_pJ, fJ_pJ, fR_pJ, aI_pJ, aJ_pJ, aR_pJ, hc_pJ, hs_pJ, hK_pR, hL_pR, fI_pR, fJ_pR, fR_pR, aI_pR, aJ_pR, aR_pR, hc_pR, hs_pR, hK_sI, hL_sI, fI_sI, fJ_sI, fR_sI, aI_sI, aJ_sI, aR_sI, hc_sI, hs_sI, hK_sJ, hL_sJ, fI_sJ, fJ_sJ, fR_sJ, aI_sJ, aJ_sJ, aR_sJ, hc_sJ, hs_sJ, hK_sR, hL_sR, fI_sR, fJ_sR, fR_sR, aI_sR, aJ_sR, aR_sR, hc_sR, hs_sR, hK_nO, hL_nO, fI_nO, fJ_nO, fR_nO, aI_nO, aJ_nO, aR_nO, hc_nO, hs_nO, hK_nA, hL_nA, fI_nA, fJ_nA, fR_nA, aI_nA, aJ_nA, aR_nA, hc_nA, hs_nA, hD.eqw]
      · simp only at q; omega
      · simp only at q; omega
    rw [e1]
    refine KV.i ⟨fun z => ?_, fun z => ?_⟩
    · rintro _ rfl
      have hat : ∀ v : Int32, fI (pI (pI (sI (sI h (gW G 1024) ts.length (nI kd)) (gW G 1025) ts.length (nI p)) (gW G 1) 28 (nI (ts.length + 1))) (gW G 1) 29 v) (gW G 1) 29 = v := fun v => by simp [hK_pI, hL_pI, fI_pI, fJ_pI, fR_pI, aI_pI, aJ_pI, aR_pI, hc_pI, hs_pI, hK_pJ, hL_pJ, fI_pJ, fJ_pJ, fR_pJ, aI_pJ, aJ_pJ, aR_pJ, hc_pJ, hs_pJ, hK_pR, hL_pR, fI_pR, fJ_pR, fR_pR, aI_pR, aJ_pR, aR_pR, hc_pR, hs_pR, hK_sI, hL_sI, fI_sI, fJ_sI, fR_sI, aI_sI, aJ_sI, aR_sI, hc_sI, hs_sI, hK_sJ, hL_sJ, fI_sJ, fJ_sJ, fR_sJ, aI_sJ, aJ_sJ, aR_sJ, hc_sJ, hs_sJ, hK_sR, hL_sR, fI_sR, fJ_sR, fR_sR, aI_sR, aJ_sR, aR_sR, hc_sR, hs_sR, hK_nO, hL_nO, fI_nO, fJ_nO, fR_nO, aI_nO, aJ_nO, aR_nO, hc_nO, hs_nO, hK_nA, hL_nA, fI_nA, fJ_nA, fR_nA, aI_nA, aJ_nA, aR_nA, hc_nA, hs_nA]
      have h29 : fI (pI (sI (sI h (gW G 1024) ts.length (nI kd)) (gW G 1025) ts.length (nI p)) (gW G 1) 28 (nI (ts.length + 1))) (gW G 1) 29 = nI p := by simp [hK_pI, hL_pI, fI_pI, fJ_pI, fR_pI, aI_pI, aJ_pI, aR_pI, hc_pI, hs_pI, hK_pJ, hL_pJ, fI_pJ, fJ_pJ, fR_pJ, aI_pJ, aJ_pJ, aR_pJ, hc_pJ, hs_pJ, hK_pR, hL_pR, fI_pR, fJ_pR, fR_pR, aI_pR, aJ_pR, aR_pR, hc_pR, hs_pR, hK_sI, hL_sI, fI_sI, fJ_sI, fR_sI, aI_sI, aJ_sI, aR_sI, hc_sI, hs_sI, hK_sJ, hL_sJ, fI_sJ, fJ_sJ, fR_sJ, aI_sJ, aJ_sJ, aR_sJ, hc_sJ, hs_sJ, hK_sR, hL_sR, fI_sR, fJ_sR, fR_sR, aI_sR, aJ_sR, aR_sR, hc_sR, hs_sR, hK_nO, hL_nO, fI_nO, fJ_nO, fR_nO, aI_nO, aJ_nO, aR_nO, hc_nO, hs_nO, hK_nA, hL_nA, fI_nA, fJ_nA, fR_nA, aI_nA, aJ_nA, aR_nA, hc_nA, hs_nA, ha]
      rw [h29, nI_1, if_neg (by simp [z])]
      refine ⟨fun z2 => ⟨?_, hat _, htk _⟩, fun z2 => ⟨?_, hat _, htk _⟩⟩
      · rw [show nI 0 = (0 : Int32) from rfl, b2_0] at z2
        have : kd = 292 := Classical.byContradiction fun hne => by rw [(e4 z).mpr hne] at z2; cases z2
        rw [this]
        rfl
      · rw [show nI 0 = (0 : Int32) from rfl, b2_0] at z2
        have := (e4 z).mp (bt z2)
        rw [decide_eq_true this]
        rfl
    · rintro _ rfl
      have h29 : fI (pI (sI (sI h (gW G 1024) ts.length (nI kd)) (gW G 1025) ts.length (nI p)) (gW G 1) 28 (nI (ts.length + 1))) (gW G 1) 29 = nI p := by simp [hK_pI, hL_pI, fI_pI, fJ_pI, fR_pI, aI_pI, aJ_pI, aR_pI, hc_pI, hs_pI, hK_pJ, hL_pJ, fI_pJ, fJ_pJ, fR_pJ, aI_pJ, aJ_pJ, aR_pJ, hc_pJ, hs_pJ, hK_pR, hL_pR, fI_pR, fJ_pR, fR_pR, aI_pR, aJ_pR, aR_pR, hc_pR, hs_pR, hK_sI, hL_sI, fI_sI, fJ_sI, fR_sI, aI_sI, aJ_sI, aR_sI, hc_sI, hs_sI, hK_sJ, hL_sJ, fI_sJ, fJ_sJ, fR_sJ, aI_sJ, aJ_sJ, aR_sJ, hc_sJ, hs_sJ, hK_sR, hL_sR, fI_sR, fJ_sR, fR_sR, aI_sR, aJ_sR, aR_sR, hc_sR, hs_sR, hK_nO, hL_nO, fI_nO, fJ_nO, fR_nO, aI_nO, aJ_nO, aR_nO, hc_nO, hs_nO, hK_nA, hL_nA, fI_nA, fJ_nA, fR_nA, aI_nA, aJ_nA, aR_nA, hc_nA, hs_nA, ha]
      rw [h29, if_pos z, show (2 : Int32) = nI 2 from rfl, nI_add]
      exact ⟨by rw [decide_eq_true (e3 z)]; rfl, by simp [hK_pI, hL_pI, fI_pI, fJ_pI, fR_pI, aI_pI, aJ_pI, aR_pI, hc_pI, hs_pI, hK_pJ, hL_pJ, fI_pJ, fJ_pJ, fR_pJ, aI_pJ, aJ_pJ, aR_pJ, hc_pJ, hs_pJ, hK_pR, hL_pR, fI_pR, fJ_pR, fR_pR, aI_pR, aJ_pR, aR_pR, hc_pR, hs_pR, hK_sI, hL_sI, fI_sI, fJ_sI, fR_sI, aI_sI, aJ_sI, aR_sI, hc_sI, hs_sI, hK_sJ, hL_sJ, fI_sJ, fJ_sJ, fR_sJ, aI_sJ, aJ_sJ, aR_sJ, hc_sJ, hs_sJ, hK_sR, hL_sR, fI_sR, fJ_sR, fR_sR, aI_sR, aJ_sR, aR_sR, hc_sR, hs_sR, hK_nO, hL_nO, fI_nO, fJ_nO, fR_nO, aI_nO, aJ_nO, aR_nO, hc_nO, hs_nO, hK_nA, hL_nA, fI_nA, fJ_nA, fR_nA, aI_nA, aJ_nA, aR_nA, hc_nA, hs_nA], htk _⟩
  have e24 : slen.getD 24 0 = 17 := rfl
  refine bX2_sign_133 G (d + 3) h _ _ _ ⟨24, by decide, rfl, C.mono (c_indexOf (by decide) hc) ?_⟩
  rintro _ _ ⟨rfl, v, rfl, hv⟩
  rw [e24, sgl_ok c hc] at hv
  refine KI.i ?_
  rw [hv, show (0 : Int32) = nI 0 from rfl, nI_eq (by omega) (by omega)]
  refine ⟨fun z => ⟨fun z2 => ?_, fun z2 => ?_⟩, fun z => ⟨fun z2 => ?_, fun z2 => ?_⟩⟩
  · exact fin 292 false (by rw [hk, if_neg (by simp [z2]), if_neg (by rw [z]; simp), if_neg (by simp [z2])]) (by omega) (fun q => absurd z2 q) (fun _ => ⟨fun q => (by cases q), fun q => absurd rfl q⟩)
  · exact fin t false (by rw [hk, if_pos z2, if_pos z2]) (by have := ht3 z2; omega) (fun _ => by omega) (fun q => absurd q z2)
  · have z' := bt z
    have := sgl_lt c hc z'
    exact fin c true (by rw [hk, if_neg (by simp [z2]), if_pos z', if_neg (by simp [z2])]) (by omega) (fun q => absurd z2 q) (fun _ => ⟨fun _ => (by omega), fun _ => rfl⟩)
  · exact fin t true (by rw [hk, if_pos z2, if_pos z2]) (by have := ht3 z2; omega) (fun _ => by omega) (fun q => absurd q z2)
end
