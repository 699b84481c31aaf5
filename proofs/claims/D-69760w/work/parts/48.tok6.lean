/-! TOKENS of the component: all tokens -/
theorem tk1_sign {u : Nat → Nat} {n p : Nat} (h1 : (sm (u p) || gr (u p)) = false) (h2 : ¬ u p = 39) (h3 : dg (u p) = false) : tk1 u n p = if two (u p) (at0 u n (p + 1)) ≠ 0 then (two (u p) (at0 u n (p + 1)), 0, p + 2) else (if sgl.contains (u p) = true then u p else 292, 0, p + 1) := by
  unfold tk1
  rw [if_neg (by rw [h1]; simp), if_neg h2, if_neg (by rw [h3]; simp)]
theorem two_le (c e : Nat) : two c e ≠ 0 → 284 ≤ two c e ∧ two c e ≤ 290 := by
  unfold two
  intro h
  split
  · omega
  · split
    · omega
    · split
      · omega
      · split
        · omega
        · split
          · omega
          · split
            · omega
            · split
              · omega
              · simp_all
section
variable {G : Gh} {d : Nat} {h : AH} {u : Nat → Nat} {n p : Nat} {ts : List (Nat × Nat × Nat)}
theorem c_sign (hD : DW (gW G)) (s1 : So 1 (gW G) h) (hT : Txt G h u n) (hts : Tks G h ts) (ha : fI h (gW G 1) 29 = nI p) (hp : p < n) (hl : ts.length ≤ 4096) (h1 : (sm (u p) || gr (u p)) = false) (h2 : ¬ u p = 39) (h3 : dg (u p) = false) :
    C G mX2_sign (d + 4) [.ref (gW G 1), .int (nI (u p))] h (tokP G ts p (tk1 u n p)) := by
  have hn := hT.2.1
  have hu := hT.2.2.1
  have hup := hu p
  have fin : ∀ t, t = two (u p) (at0 u n (p + 1)) → X G mX2_sign (d + 4) none [] 133 [(0, .ref (gW G 1)), (1, .int (nI (u p)))] [.int (nI t)] h (tokP G ts p (tk1 u n p)) :=
    fun t ht => sign_end hD hl s1 hT hts ha hp rfl ht (by rw [ht]; exact tk1_sign h1 h2 h3) (by rw [ht]; exact two_le _ _)
  have eq : ∀ k : Nat, k < 256 → ((nI (u p) = nI k) ↔ u p = k) := fun k hk => nI_eq (by omega) (by omega)
  have s78 : (¬ (u p = 61 ∧ at0 u n (p + 1) = 62)) → ¬ (u p = 45 ∧ at0 u n (p + 1) = 62) → ¬ (u p = 58 ∧ at0 u n (p + 1) = 58) → ¬ (u p = 58 ∧ at0 u n (p + 1) = 61) → X G mX2_sign (d + 4) none [] 78 [(0, .ref (gW G 1)), (1, .int (nI (u p))), (2, .int (lkV u n (p + 1)))] [] h (tokP G ts p (tk1 u n p)) := by
    intro a1 a2 a3 a4
    refine bX2_sign_78 G (d + 3) h _ _ _ ?_
    have q1 := eq 60 (by decide)
    have q2 := eq 62 (by decide)
    have r1 := lk_eq (n := n) (q := p + 1) (k := 62) hu (by decide)
    have r2 := lk_eq (n := n) (q := p + 1) (k := 61) hu (by decide)
    simp only [show (60 : Int32) = nI 60 from rfl, show (62 : Int32) = nI 62 from rfl, show (61 : Int32) = nI 61 from rfl, show (288 : Int32) = nI 288 from rfl, show (289 : Int32) = nI 289 from rfl, show (290 : Int32) = nI 290 from rfl, show (0 : Int32) = nI 0 from rfl, q1, q2, r1, r2]
    refine ⟨fun z => ⟨fun z2 => fin _ ?_, fun z2 => ⟨fun z3 => fin _ ?_, fun z3 => ⟨fun z4 => fin _ ?_, fun z4 => fin _ ?_⟩⟩⟩, fun z => ⟨fun z2 => ⟨fun z3 => fin _ ?_, fun z3 => fin _ ?_⟩, fun z2 => fin _ ?_⟩⟩
    all_goals (first | (exfalso; omega) | (unfold two; repeat (first | rw [if_pos (by omega)] | rw [if_neg (by omega)])))
  have s24 : (¬ (u p = 61 ∧ at0 u n (p + 1) = 62)) → X G mX2_sign (d + 4) none [] 24 [(0, .ref (gW G 1)), (1, .int (nI (u p))), (2, .int (lkV u n (p + 1)))] [] h (tokP G ts p (tk1 u n p)) := by
    intro a1
    refine bX2_sign_24 G (d + 3) h _ _ _ ?_
    have q1 := eq 45 (by decide)
    have q2 := eq 58 (by decide)
    have r1 := lk_eq (n := n) (q := p + 1) (k := 62) hu (by decide)
    have r2 := lk_eq (n := n) (q := p + 1) (k := 58) hu (by decide)
    have r3 := lk_eq (n := n) (q := p + 1) (k := 61) hu (by decide)
    simp only [show (45 : Int32) = nI 45 from rfl, show (62 : Int32) = nI 62 from rfl, show (58 : Int32) = nI 58 from rfl, show (61 : Int32) = nI 61 from rfl, show (285 : Int32) = nI 285 from rfl, show (286 : Int32) = nI 286 from rfl, show (287 : Int32) = nI 287 from rfl, q1, q2, r1, r2, r3]
    refine ⟨fun z => ⟨fun z2 => fin _ ?_, fun z2 => ⟨fun z3 => ⟨fun z4 => fin _ ?_, fun z4 => ⟨fun z5 => fin _ ?_, fun z5 => s78 a1 (by omega) (by omega) (by omega)⟩⟩, fun z3 => s78 a1 (by omega) (by omega) (by omega)⟩⟩, fun z => ⟨fun z3 => ⟨fun z4 => fin _ ?_, fun z4 => ⟨fun z5 => fin _ ?_, fun z5 => s78 a1 (by omega) (by omega) (by omega)⟩⟩, fun z3 => s78 a1 (by omega) (by omega) (by omega)⟩⟩
    all_goals (first | (exfalso; omega) | (unfold two; repeat (first | rw [if_pos (by omega)] | rw [if_neg (by omega)])))
  refine bX2_sign G (d + 3) h _ _ s1 (C.ri (c_look (k := 1) s1 hT ha (by omega)) ?_)
  have q1 := eq 61 (by decide)
  have r1 := lk_eq (n := n) (q := p + 1) (k := 62) hu (by decide)
  simp only [show (61 : Int32) = nI 61 from rfl, show (62 : Int32) = nI 62 from rfl, show (284 : Int32) = nI 284 from rfl, q1, r1]
  refine ⟨fun z => ⟨fun z2 => fin _ ?_, fun z2 => s24 (by omega)⟩, fun z => s24 (by omega)⟩
  unfold two
  rw [if_pos (by omega)]
theorem tk1_ge {u : Nat → Nat} {n p : Nat} (hp : p < n) : p < (tk1 u n p).2.2 ∧ (tk1 u n p).2.2 ≤ n := by
  unfold tk1
  split
  · have := span_ge (f := wc) (u := u) (n - (p + 1)) (p + 1)
    simp only
    omega
  · split
    · split
      · have := span_ge (f := sm) (u := u) (n - (p + 1)) (p + 1)
        simp only
        omega
      · simp only
        omega
    · split
      · next hd =>
        have h1 := nums_ge (u := u) (n - p) p 0
        have h2 : p < (nums u (n - p) p 0).2 := by
          obtain ⟨k, hk⟩ : ∃ k, n - p = k + 1 := ⟨n - p - 1, by omega⟩
          rw [hk, nums, if_pos hd]
          have := nums_ge (u := u) k (p + 1) (min (0 * 10 + u p - 48) 1099511627776)
          omega
        simp only
        omega
      · simp only
        split
        · next ht =>
          have : p + 1 < n := by
            refine Classical.byContradiction fun hn => ht ?_
            unfold at0
            rw [if_neg hn]
            unfold two
            simp
          simp only
          omega
        · simp only
          omega
theorem cut_loop (hD : DW (gW G)) : ∀ k p ts h, So 1 (gW G) h → Txt G h u n → Tks G h ts → WdsOK G h → fI h (gW G 1) 29 = nI p → p ≤ n → n - p < k → ts.length ≤ p →
    X G mX2_cut (d + 7) none [] 12 [(0, .ref (gW G 1)), (1, .int 1)] [] h (fun o h' => o = .returned none ∧ Tks G h' (ts ++ lx u n k p)) := by
  intro k
  induction k with
  | zero => intro p ts h _ _ _ _ _ _ hk; omega
  | succ k ih =>
    intro p ts h s1 hT hts hw ha hp hk hl
    have hn := hT.2.1
    have hu := hT.2.2.1
    refine bX2_cut_12 G (d + 6) h _ _ s1 ⟨fun z => absurd z (by decide), fun _ => ?_⟩
    rw [ha, hT.1, nI_leI (by omega) (by omega)]
    refine ⟨fun z => ?_, fun z => ?_⟩
    · have e : p = n := by omega
      subst e
      rw [lx, if_pos (Nat.le_refl _)]
      refine C.mono (c_tadd s1 (m := ts.length) hts.1 (by omega)) ?_
      rintro _ _ ⟨rfl, rfl⟩
      refine KV.i ⟨rfl, hts.push (by simp [hK_pI, hL_pI, fI_pI, fJ_pI, fR_pI, aI_pI, aJ_pI, aR_pI, hc_pI, hs_pI, hK_pJ, hL_pJ, fI_pJ, fJ_pJ, fR_pJ, aI_pJ, aJ_pJ, aR_pJ, hc_pJ, hs_pJ, hK_pR, hL_pR, fI_pR, fJ_pR, fR_pR, aI_pR, aJ_pR, aR_pR, hc_pR, hs_pR, hK_sI, hL_sI, fI_sI, fJ_sI, fR_sI, aI_sI, aJ_sI, aR_sI, hc_sI, hs_sI, hK_sJ, hL_sJ, fI_sJ, fJ_sJ, fR_sJ, aI_sJ, aJ_sJ, aR_sJ, hc_sJ, hs_sJ, hK_sR, hL_sR, fI_sR, fJ_sR, fR_sR, aI_sR, aJ_sR, aR_sR, hc_sR, hs_sR, hK_nO, hL_nO, fI_nO, fJ_nO, fR_nO, aI_nO, aJ_nO, aR_nO, hc_nO, hs_nO, hK_nA, hL_nA, fI_nA, fJ_nA, fR_nA, aI_nA, aJ_nA, aR_nA, hc_nA, hs_nA]) (fun i hi => ?_) ⟨?_, ?_, fun q => ?_, fun q => ?_⟩⟩
      · have hne : ¬ i = ts.length := by omega
        simp (config := { decide := true }) [hK_pI, hL_pI, fI_pI, fJ_pI, fR_pI, aI_pI, aJ_pI, aR_pI, hc_pI, hs_pI, hK_pJ, hL_pJ, fI_pJ, fJ_pJ, fR_pJ, aI_pJ, aJ_pJ, aR_pJ, hc_pJ, hs_pJ, hK_pR, hL_pR, fI_pR, fJ_pR, fR_pR, aI_pR, aJ_pR, aR_pR, hc_pR, hs_pR, hK_sI, hL_sI, fI_sI, fJ_sI, fR_sI, aI_sI, aJ_sI, aR_sI, hc_sI, hs_sI, hK_sJ, hL_sJ, fI_sJ, fJ_sJ, fR_sJ, aI_sJ, aJ_sJ, aR_sJ, hc_sJ, hs_sJ, hK_sR, hL_sR, fI_sR, fJ_sR, fR_sR, aI_sR, aJ_sR, aR_sR, hc_sR, hs_sR, hK_nO, hL_nO, fI_nO, fJ_nO, fR_nO, aI_nO, aJ_nO, aR_nO, hc_nO, hs_nO, hK_nA, hL_nA, fI_nA, fJ_nA, fR_nA, aI_nA, aJ_nA, aR_nA, hc_nA, hs_nA, hD.eqw, hne]
      · simp (config := { decide := true }) [hK_pI, hL_pI, fI_pI, fJ_pI, fR_pI, aI_pI, aJ_pI, aR_pI, hc_pI, hs_pI, hK_pJ, hL_pJ, fI_pJ, fJ_pJ, fR_pJ, aI_pJ, aJ_pJ, aR_pJ, hc_pJ, hs_pJ, hK_pR, hL_pR, fI_pR, fJ_pR, fR_pR, aI_pR, aJ_pR, aR_pR, hc_pR, hs_pR, hK_sI, hL_sI, fI_sI, fJ_sI, fR_sI, aI_sI, aJ_sI, aR_sI, hc_sI, hs_sI, hK_sJ, hL_sJ, fI_sJ, fJ_sJ, fR_sJ, aI_sJ, aJ_sJ, aR_sJ, hc_sJ, hs_sJ, hK_sR, hL_sR, fI_sR, fJ_sR, fR_sR, aI_sR, aJ_sR, aR_sR, hc_sR, hs_sR, hK_nO, hL_nO, fI_nO, fJ_nO, fR_nO, aI_nO, aJ_nO, aR_nO, hc_nO, hs_nO, hK_nA, hL_nA, fI_nA, fJ_nA, fR_nA, aI_nA, aJ_nA, aR_nA, hc_nA, hs_nA, hD.eqw]
      · simp (config := { decide := true }) [hK_pI, hL_pI, fI_pI, fJ_pI, fR_pI, aI_pI, aJ_pI, aR_pI, hc_pI, hs_pI, hK_pJ, hL_pJ, fI_pJ, fJ_pJ, fR_pJ, aI_pJ, aJ_pJ, aR_pJ, hc_pJ, hs_pJ, hK_pR, hL_pR, fI_pR, fJ_pR, fR_pR, aI_pR, aJ_pR, aR_pR, hc_pR, hs_pR, hK_sI, hL_sI, fI_sI, fJ_sI, fR_sI, aI_sI, aJ_sI, aR_sI, hc_sI, hs_sI, hK_sJ, hL_sJ, fI_sJ, fJ_sJ, fR_sJ, aI_sJ, aJ_sJ, aR_sJ, hc_sJ, hs_sJ, hK_sR, hL_sR, fI_sR, fJ_sR, fR_sR, aI_sR, aJ_sR, aR_sR, hc_sR, hs_sR, hK_nO, hL_nO, fI_nO, fJ_nO, fR_nO, aI_nO, aJ_nO, aR_nO, hc_nO, hs_nO, hK_nA, hL_nA, fI_nA, fJ_nA, fR_nA, aI_nA, aJ_nA, aR_nA, hc_nA, hs_nA, hD.eqw]
      · simp at q
      · simp at q
    · have hpn : p < n := by omega
      have hup := hu p
      have hlk : lkV u n (p + 0) = nI (u p) := by unfold lkV; rw [if_pos (by omega)]; rfl
      have hlk' : nI (u p) = lkV u n p := by unfold lkV; rw [if_pos hpn]
      have hat : at0 u n p = u p := by unfold at0; rw [if_pos hpn]
      have eq : ∀ k : Nat, k < 256 → ((nI (u p) = nI k) ↔ u p = k) := fun k hk => nI_eq (by omega) (by omega)
      -- a token is done
      have nxt : u p ≠ 32 → u p ≠ 10 → ∀ (μ : Mu) (av : List Value), (mY μ).name ≠ "<init>" → (mM μ).testBit 23 = false → (mM μ).testBit 522 = false → (mM μ).testBit 521 = false → C G μ (d + 6) av h (tokP G ts p (tk1 u n p)) → C G μ (d + 6) av h (KI (fun o h' => o = .returned none ∧ Tks G h' (ts ++ lx u n (k + 1) p)) (fun x41 h39 => X G mX2_cut (d + 7) none [] 12 [(0, .ref (gW G 1)), (1, .int x41)] [] h39 (fun o h' => o = .returned none ∧ Tks G h' (ts ++ lx u n (k + 1) p)))) := by
        intro n32 n10 μ av hnm b1 b2' b3 hC
        refine C.use hC hnm ?_
        rintro _ h' ⟨rfl, ha', hts'⟩ lm -
        refine KI.i ?_
        have s1' : So 1 (gW G) h' := s1.le sc1 lm.1
        have hlx : lx u n (k + 1) p = if (tk1 u n p).1 = 292 then [(292, p, (tk1 u n p).2.1)] else ((tk1 u n p).1, p, (tk1 u n p).2.1) :: lx u n k (tk1 u n p).2.2 := by
          rw [lx, if_neg (by omega), if_neg (by omega)]
        rw [hlx]
        by_cases hb : (tk1 u n p).1 = 292
        · rw [if_pos hb]
          rw [hb] at hts'
          have : b2 (decide ((tk1 u n p).1 ≠ 292)) = 0 := by rw [decide_eq_false (by simp [hb])]; rfl
          rw [this]
          exact bX2_cut_12 G (d + 6) h' _ _ s1' ⟨fun _ => ⟨rfl, hts'⟩, fun z => absurd rfl z⟩
        · rw [if_neg hb]
          have : b2 (decide ((tk1 u n p).1 ≠ 292)) = 1 := by rw [decide_eq_true hb]; rfl
          rw [this]
          have hg := tk1_ge (u := u) hpn
          have k1 : hK h (gW G 1) = 2 := s1.1
          have k2 : hK h (gW G 1022) = 1001 := (s1.2 1 _ rfl rfl).2.1
          have k3 : hK h (gW G 1021) = 1005 := (s1.2 0 _ rfl rfl).2.1
          have hT' : Txt G h' u n := ⟨by rw [lm.fi k1 (by decide) b1]; exact hT.1, hn, hu, fun i hi => by rw [(lm.a hD k2 (by decide) (by decide) (by decide) (by decide) b2').1]; exact hT.2.2.2 i hi⟩
          have hw' : WdsOK G h' := fun i hi => by rw [(lm.a hD k3 (by decide) (by decide) (by decide) (by decide) b3).2.2]; exact hw i hi
          have := ih (tk1 u n p).2.2 (ts ++ [((tk1 u n p).1, p, (tk1 u n p).2.1)]) h' s1' hT' hts' hw' ha' hg.2 (by omega) (by simp; omega)
          rw [List.append_assoc] at this
          exact this
      have ws : (u p = 32 ∨ u p = 10) → ∀ h11, h11 = pI h (gW G 1) 29 ((fI h (gW G 1) 29) + 1) → X G mX2_cut (d + 7) none [] 12 [(0, .ref (gW G 1)), (1, .int 1)] [] h11 (fun o h' => o = .returned none ∧ Tks G h' (ts ++ lx u n (k + 1) p)) := by
        rintro hw2 _ rfl
        rw [lx, if_neg (by omega), if_pos hw2, ha, nI_1]
        exact ih (p + 1) ts _ (s1.le sc1 (pI_le (Or.inl rfl))) hT.at hts.at hw (by simp [hK_pI, hL_pI, fI_pI, fJ_pI, fR_pI, aI_pI, aJ_pI, aR_pI, hc_pI, hs_pI, hK_pJ, hL_pJ, fI_pJ, fJ_pJ, fR_pJ, aI_pJ, aJ_pJ, aR_pJ, hc_pJ, hs_pJ, hK_pR, hL_pR, fI_pR, fJ_pR, fR_pR, aI_pR, aJ_pR, aR_pR, hc_pR, hs_pR, hK_sI, hL_sI, fI_sI, fJ_sI, fR_sI, aI_sI, aJ_sI, aR_sI, hc_sI, hs_sI, hK_sJ, hL_sJ, fI_sJ, fJ_sJ, fR_sJ, aI_sJ, aJ_sJ, aR_sJ, hc_sJ, hs_sJ, hK_sR, hL_sR, fI_sR, fJ_sR, fR_sR, aI_sR, aJ_sR, aR_sR, hc_sR, hs_sR, hK_nO, hL_nO, fI_nO, fJ_nO, fR_nO, aI_nO, aJ_nO, aR_nO, hc_nO, hs_nO, hK_nA, hL_nA, fI_nA, fJ_nA, fR_nA, aI_nA, aJ_nA, aR_nA, hc_nA, hs_nA]) (by omega) (by omega) (by omega)
      refine C.ri (c_look (k := 0) s1 hT ha (by omega)) ?_
      rw [hlk]
      simp only [show (32 : Int32) = nI 32 from rfl, show (10 : Int32) = nI 10 from rfl, show (39 : Int32) = nI 39 from rfl, eq 32 (by decide), eq 10 (by decide), eq 39 (by decide)]
      refine ⟨fun z => ws (Or.inl z), fun z => ⟨fun z2 => ws (Or.inr z2), fun z2 => ?_⟩⟩
      have hword : ((sm (u p) || gr (u p)) = true ∨ u p = 39) → C G mX2_word (d + 6) [.ref (gW G 1), .int (nI (u p))] h (KI (fun o h' => o = .returned none ∧ Tks G h' (ts ++ lx u n (k + 1) p)) (fun x41 h39 => X G mX2_cut (d + 7) none [] 12 [(0, .ref (gW G 1)), (1, .int x41)] [] h39 (fun o h' => o = .returned none ∧ Tks G h' (ts ++ lx u n (k + 1) p)))) := fun hc =>
        nxt z z2 mX2_word _ (by decide) (by decide) (by decide) (by decide) (c_word hD s1 hT hts hw ha hpn (by omega) hc)
      refine C.ri (μ := mX2_small) (x := b2 (sm (u p))) (by rw [hlk']; have := c_small (G := G) (d := d + 6) (h := h) (n := n) (p := p) hu; rw [hat] at this; exact this) ?_
      refine ⟨fun z3 => C.ri (μ := mX2_great) (x := b2 (gr (u p))) (by rw [hlk']; have := c_great (G := G) (d := d + 6) (h := h) (n := n) (p := p) hu; rw [hat] at this; exact this) ?_, fun z3 => hword (Or.inl ?_)⟩
      · refine ⟨fun z4 => ⟨fun z5 => hword (Or.inr z5), fun z5 => ?_⟩, fun z4 => hword (Or.inl ?_)⟩
        · have f1 := b2_0.mp z3
          have f2 := b2_0.mp z4
          refine C.ri (μ := mX2_digit) (x := b2 (dg (u p))) (by rw [hlk']; have := c_digit (G := G) (d := d + 6) (h := h) (n := n) (p := p) hu; rw [hat] at this; exact this) ⟨fun z6 => ?_, fun z6 => ?_⟩
          · have f3 := b2_0.mp z6
            exact nxt z z2 mX2_sign _ (by decide) (by decide) (by decide) (by decide) (c_sign (d := d + 2) hD s1 hT hts ha hpn (by omega) (by rw [f1, f2]; rfl) z5 f3)
          · have f3 : dg (u p) = true := by
              cases hq : dg (u p) with
              | true => rfl
              | false => exact absurd (b2_0.mpr hq) z6
            refine nxt z z2 mX2_number _ (by decide) (by decide) (by decide) (by decide) (C.mono (c_number (d := d + 5) hD s1 hT ha (by omega) hts (by omega)) ?_)
            rintro _ h' ⟨rfl, a1, a2⟩
            have e : tk1 u n p = (if (nums u (n - p) p 0).1 ≤ 2147483647 then 283 else 292, (nums u (n - p) p 0).1, (nums u (n - p) p 0).2) := by
              unfold tk1
              rw [if_neg (by rw [f1, f2]; simp), if_neg z5, if_pos f3]
            rw [e]
            refine ⟨?_, a1, a2⟩
            by_cases hv : (nums u (n - p) p 0).1 ≤ 2147483647
            · simp only [hv, if_true]; rfl
            · simp only [hv, if_false]; rfl
        · rw [b2_0] at z4
          rw [bt z4, Bool.or_true]
      · rw [b2_0] at z3
        rw [bt z3]
        rfl
theorem c_tcut (hD : DW (gW G)) (s1 : So 1 (gW G) h) (hT : Txt G h u n) (hw : WdsOK G h) : C G mX2_cut (d + 7) [.ref (gW G 1)] h (fun o h' => o = .returned none ∧ Tks G h' (lx u n (n + 1) 0)) := by
  refine bX2_cut G (d + 6) h _ s1 ?_
  rintro _ rfl _ rfl
  have s2 : So 1 (gW G) (pI h (gW G 1) 28 0) := s1.le sc1 (pI_le (Or.inl rfl))
  have hT2 : Txt G (pI h (gW G 1) 28 0) u n := ⟨by simpa [hK_pI, hL_pI, fI_pI, fJ_pI, fR_pI, aI_pI, aJ_pI, aR_pI, hc_pI, hs_pI, hK_pJ, hL_pJ, fI_pJ, fJ_pJ, fR_pJ, aI_pJ, aJ_pJ, aR_pJ, hc_pJ, hs_pJ, hK_pR, hL_pR, fI_pR, fJ_pR, fR_pR, aI_pR, aJ_pR, aR_pR, hc_pR, hs_pR, hK_sI, hL_sI, fI_sI, fJ_sI, fR_sI, aI_sI, aJ_sI, aR_sI, hc_sI, hs_sI, hK_sJ, hL_sJ, fI_sJ, fJ_sJ, fR_sJ, aI_sJ, aJ_sJ, aR_sJ, hc_sJ, hs_sJ, hK_sR, hL_sR, fI_sR, fJ_sR, fR_sR, aI_sR, aJ_sR, aR_sR, hc_sR, hs_sR, hK_nO, hL_nO, fI_nO, fJ_nO, fR_nO, aI_nO, aJ_nO, aR_nO, hc_nO, hs_nO, hK_nA, hL_nA, fI_nA, fJ_nA, fR_nA, aI_nA, aJ_nA, aR_nA, hc_nA, hs_nA] using hT.1, hT.2.1, hT.2.2.1, hT.2.2.2⟩
  exact cut_loop hD (n + 1) 0 [] _ (s2.le sc1 (pI_le (Or.inl rfl))) hT2.at ⟨by simp [hK_pI, hL_pI, fI_pI, fJ_pI, fR_pI, aI_pI, aJ_pI, aR_pI, hc_pI, hs_pI, hK_pJ, hL_pJ, fI_pJ, fJ_pJ, fR_pJ, aI_pJ, aJ_pJ, aR_pJ, hc_pJ, hs_pJ, hK_pR, hL_pR, fI_pR, fJ_pR, fR_pR, aI_pR, aJ_pR, aR_pR, hc_pR, hs_pR, hK_sI, hL_sI, fI_sI, fJ_sI, fR_sI, aI_sI, aJ_sI, aR_sI, hc_sI, hs_sI, hK_sJ, hL_sJ, fI_sJ, fJ_sJ, fR_sJ, aI_sJ, aJ_sJ, aR_sJ, hc_sJ, hs_sJ, hK_sR, hL_sR, fI_sR, fJ_sR, fR_sR, aI_sR, aJ_sR, aR_sR, hc_sR, hs_sR, hK_nO, hL_nO, fI_nO, fJ_nO, fR_nO, aI_nO, aJ_nO, aR_nO, hc_nO, hs_nO, hK_nA, hL_nA, fI_nA, fJ_nA, fR_nA, aI_nA, aJ_nA, aR_nA, hc_nA, hs_nA]; rfl, fun i t ht => by simp at ht⟩ hw (by simp [hK_pI, hL_pI, fI_pI, fJ_pI, fR_pI, aI_pI, aJ_pI, aR_pI, hc_pI, hs_pI, hK_pJ, hL_pJ, fI_pJ, fJ_pJ, fR_pJ, aI_pJ, aJ_pJ, aR_pJ, hc_pJ, hs_pJ, hK_pR, hL_pR, fI_pR, fJ_pR, fR_pR, aI_pR, aJ_pR, aR_pR, hc_pR, hs_pR, hK_sI, hL_sI, fI_sI, fJ_sI, fR_sI, aI_sI, aJ_sI, aR_sI, hc_sI, hs_sI, hK_sJ, hL_sJ, fI_sJ, fJ_sJ, fR_sJ, aI_sJ, aJ_sJ, aR_sJ, hc_sJ, hs_sJ, hK_sR, hL_sR, fI_sR, fJ_sR, fR_sR, aI_sR, aJ_sR, aR_sR, hc_sR, hs_sR, hK_nO, hL_nO, fI_nO, fJ_nO, fR_nO, aI_nO, aJ_nO, aR_nO, hc_nO, hs_nO, hK_nA, hL_nA, fI_nA, fJ_nA, fR_nA, aI_nA, aJ_nA, aR_nA, hc_nA, hs_nA]; rfl) (by omega) (by omega) (by simp)
end
