/-! TOKENS of the component: words, signs, all tokens -/
theorem wc_asc {c : Nat} (h : wc c = true) : 1 ≤ c ∧ c < 128 := by
  simp [wc, sm, gr, dg] at h
  omega
section
variable {G : Gh} {d : Nat} {h : AH} {u : Nat → Nat} {n p : Nat} {ts : List (Nat × Nat × Nat)}
theorem word_loop (hD : DW (gW G)) (hu : ∀ i, u i < 256) (hl : ts.length ≤ 4096) {c : Nat} (hcu : c = u p) (f : Nat → Bool) (hf : f = if c = 39 then sm else wc) (hfa : ∀ x, f x = true → 1 ≤ x ∧ x < 128) :
    ∀ k q h, So 1 (gW G) h → Txt G h u n → Tks G h ts → WdsOK G h → fI h (gW G 1) 29 = nI q → k = n - q → q ≤ n → p < q → (∀ j, p ≤ j → j < q → 1 ≤ u j ∧ u j < 128) →
    X G mX2_word (d + 6) none [] 50 [(0, .ref (gW G 1)), (1, .int (nI c)), (2, .int (nI p)), (3, .long 0), (5, .long 0), (7, .int 0)] [] h (tokP G ts p (wkind c (bs u p (span f u k q - p)) (span f u k q - p), cd (bs u p (span f u k q - p)), span f u k q)) := by
  intro k
  induction k with
  | zero =>
    intro q h s1 hT hts hw ha hk hq hpq hc
    have hn := hT.2.1
    have hat : at0 u n (q + 0) = 256 := by unfold at0; rw [if_neg (by omega)]
    have stop : X G mX2_word (d + 6) none [] 115 [(0, .ref (gW G 1)), (1, .int (nI c)), (2, .int (nI p)), (3, .long 0), (5, .long 0), (7, .int 0), (8, .int (nI p))] [] h (tokP G ts p (wkind c (bs u p (q - p)) (q - p), cd (bs u p (q - p)), q)) :=
      word_sum s1 hT ha hq (by omega) hc (fun a b hab => word_end hD hl s1 hT hts hw ha hq hpq hc hcu a b hab) (q - p) 0 rfl (by omega) 0 0 (fun _ => ⟨rfl, rfl⟩)
    refine bX2_word_50 G (d + 5) h _ _ _ _ _ _ s1 ?_
    refine C.ri (c_look (k := 0) s1 hT ha (by omega)) (C.ri (c_small hu) ⟨fun _ => ⟨fun _ => stop, fun _ => C.ri (c_look (k := 0) s1 hT ha (by omega)) (C.ri (c_great hu) ⟨fun _ => C.ri (c_look (k := 0) s1 hT ha (by omega)) (C.ri (c_digit hu) ⟨fun _ => C.ri (c_look (k := 0) s1 hT ha (by omega)) ⟨fun z => ?_, fun _ => stop⟩, fun z => ?_⟩), fun z => ?_⟩)⟩, fun z => ?_⟩)
    · exfalso
      unfold lkV at z
      rw [if_neg (by omega)] at z
      revert z
      decide
    · rw [hat] at z; exact absurd rfl z
    · rw [hat] at z; exact absurd rfl z
    · rw [hat] at z; exact absurd rfl z
  | succ k ih =>
    intro q h s1 hT hts hw ha hk hq hpq hc
    have hn := hT.2.1
    have hat : at0 u n (q + 0) = u q := by unfold at0; rw [if_pos (by omega)]; rfl
    have hlk : lkV u n (q + 0) = nI (u q) := by unfold lkV; rw [if_pos (by omega)]; rfl
    have huq := hu q
    have stop : f (u q) = false → X G mX2_word (d + 6) none [] 115 [(0, .ref (gW G 1)), (1, .int (nI c)), (2, .int (nI p)), (3, .long 0), (5, .long 0), (7, .int 0), (8, .int (nI p))] [] h (tokP G ts p (wkind c (bs u p (span f u (k + 1) q - p)) (span f u (k + 1) q - p), cd (bs u p (span f u (k + 1) q - p)), span f u (k + 1) q)) := by
      intro hb
      have e : span f u (k + 1) q = q := by rw [span, if_neg (by rw [hb]; simp)]
      rw [e]
      exact word_sum s1 hT ha hq (by omega) hc (fun a b hab => word_end hD hl s1 hT hts hw ha hq hpq hc hcu a b hab) (q - p) 0 rfl (by omega) 0 0 (fun _ => ⟨rfl, rfl⟩)
    have go : f (u q) = true → ∀ h33, h33 = pI h (gW G 1) 29 ((fI h (gW G 1) 29) + 1) → X G mX2_word (d + 6) none [] 50 [(0, .ref (gW G 1)), (1, .int (nI c)), (2, .int (nI p)), (3, .long 0), (5, .long 0), (7, .int 0)] [] h33 (tokP G ts p (wkind c (bs u p (span f u (k + 1) q - p)) (span f u (k + 1) q - p), cd (bs u p (span f u (k + 1) q - p)), span f u (k + 1) q)) := by
      rintro hb _ rfl
      have e : span f u (k + 1) q = span f u k (q + 1) := by rw [span, if_pos hb]
      rw [e, ha, nI_1]
      refine ih (q + 1) _ (s1.le sc1 (pI_le (Or.inl rfl))) hT.at hts.at hw (by simp [hK_pI, hL_pI, fI_pI, fJ_pI, fR_pI, aI_pI, aJ_pI, aR_pI, hc_pI, hs_pI, hK_pJ, hL_pJ, fI_pJ, fJ_pJ, fR_pJ, aI_pJ, aJ_pJ, aR_pJ, hc_pJ, hs_pJ, hK_pR, hL_pR, fI_pR, fJ_pR, fR_pR, aI_pR, aJ_pR, aR_pR, hc_pR, hs_pR, hK_sI, hL_sI, fI_sI, fJ_sI, fR_sI, aI_sI, aJ_sI, aR_sI, hc_sI, hs_sI, hK_sJ, hL_sJ, fI_sJ, fJ_sJ, fR_sJ, aI_sJ, aJ_sJ, aR_sJ, hc_sJ, hs_sJ, hK_sR, hL_sR, fI_sR, fJ_sR, fR_sR, aI_sR, aJ_sR, aR_sR, hc_sR, hs_sR, hK_nO, hL_nO, fI_nO, fJ_nO, fR_nO, aI_nO, aJ_nO, aR_nO, hc_nO, hs_nO, hK_nA, hL_nA, fI_nA, fJ_nA, fR_nA, aI_nA, aJ_nA, aR_nA, hc_nA, hs_nA]) (by omega) (by omega) (by omega) fun j h1 h2 => ?_
      by_cases ej : j = q
      · subst ej; exact hfa _ hb
      · exact hc j h1 (by omega)
    have hc39 : (nI c = (39 : Int32)) ↔ c = 39 := by
      rw [show (39 : Int32) = nI 39 from rfl, nI_eq (by have := hu p; omega) (by omega)]
    refine bX2_word_50 G (d + 5) h _ _ _ _ _ _ s1 ?_
    rw [hc39]
    refine C.ri (c_look (k := 0) s1 hT ha (by omega)) (C.ri (c_small hu) ?_)
    rw [hat]
    refine ⟨fun z => ⟨fun z2 => stop ?_, fun z2 => C.ri (c_look (k := 0) s1 hT ha (by omega)) (C.ri (c_great hu) ?_)⟩, fun z => go ?_⟩
    · rw [hf, if_pos z2]
      exact b2_0.mp z
    · rw [hat]
      refine ⟨fun z3 => C.ri (c_look (k := 0) s1 hT ha (by omega)) (C.ri (c_digit hu) ?_), fun z3 => go ?_⟩
      · rw [hat]
        refine ⟨fun z4 => C.ri (c_look (k := 0) s1 hT ha (by omega)) ?_, fun z4 => go ?_⟩
        · rw [hlk, show (95 : Int32) = nI 95 from rfl, nI_eq (by omega) (by omega)]
          refine ⟨fun z5 => go ?_, fun z5 => stop ?_⟩
          · rw [hf, if_neg z2, z5]; rfl
          · rw [hf, if_neg z2]
            simp [wc, b2_0.mp z, b2_0.mp z3, b2_0.mp z4, z5]
        · rw [b2_0] at z4
          rw [hf, if_neg z2]
          simp [wc, bt z4]
      · rw [b2_0] at z3
        rw [hf, if_neg z2]
        simp [wc, bt z3]
    · rw [b2_0] at z
      have z' := bt z
      rw [hf]
      split
      · exact z'
      · simp [wc, z']
theorem c_word (hD : DW (gW G)) (s1 : So 1 (gW G) h) (hT : Txt G h u n) (hts : Tks G h ts) (hw : WdsOK G h) (ha : fI h (gW G 1) 29 = nI p) (hp : p < n) (hl : ts.length ≤ 4096) (hc : (sm (u p) || gr (u p)) = true ∨ u p = 39) :
    C G mX2_word (d + 6) [.ref (gW G 1), .int (nI (u p))] h (tokP G ts p (tk1 u n p)) := by
  have hn := hT.2.1
  have hu := hT.2.2.1
  have hup := hu p
  have hc39 : (nI (u p) = (39 : Int32)) ↔ u p = 39 := by rw [show (39 : Int32) = nI 39 from rfl, nI_eq (by omega) (by omega)]
  refine bX2_word G (d + 5) h _ _ s1 ?_
  rintro _ rfl _ rfl
  rw [ha, nI_1, hc39]
  have s2 : So 1 (gW G) (pI h (gW G 1) 29 (nI (p + 1))) := s1.le sc1 (pI_le (Or.inl rfl))
  have ha2 : fI (pI h (gW G 1) 29 (nI (p + 1))) (gW G 1) 29 = nI (p + 1) := by simp [hK_pI, hL_pI, fI_pI, fJ_pI, fR_pI, aI_pI, aJ_pI, aR_pI, hc_pI, hs_pI, hK_pJ, hL_pJ, fI_pJ, fJ_pJ, fR_pJ, aI_pJ, aJ_pJ, aR_pJ, hc_pJ, hs_pJ, hK_pR, hL_pR, fI_pR, fJ_pR, fR_pR, aI_pR, aJ_pR, aR_pR, hc_pR, hs_pR, hK_sI, hL_sI, fI_sI, fJ_sI, fR_sI, aI_sI, aJ_sI, aR_sI, hc_sI, hs_sI, hK_sJ, hL_sJ, fI_sJ, fJ_sJ, fR_sJ, aI_sJ, aJ_sJ, aR_sJ, hc_sJ, hs_sJ, hK_sR, hL_sR, fI_sR, fJ_sR, fR_sR, aI_sR, aJ_sR, aR_sR, hc_sR, hs_sR, hK_nO, hL_nO, fI_nO, fJ_nO, fR_nO, aI_nO, aJ_nO, aR_nO, hc_nO, hs_nO, hK_nA, hL_nA, fI_nA, fJ_nA, fR_nA, aI_nA, aJ_nA, aR_nA, hc_nA, hs_nA]
  refine ⟨fun z => ?_, fun z => ?_⟩
  · refine C.ri (c_look (k := 0) s2 hT.at ha2 (by omega)) (C.ri (c_small hu) ⟨fun z2 => ?_, fun z2 => ?_⟩)
    · have e : tk1 u n p = (292, 0, p + 1) := by
        unfold tk1
        rw [if_neg (by rw [z]; decide), if_pos z, if_neg (by rw [b2_0] at z2; rw [z2]; simp)]
      rw [e]
      refine C.mono (c_tadd s2 (m := ts.length) (by simpa [hK_pI, hL_pI, fI_pI, fJ_pI, fR_pI, aI_pI, aJ_pI, aR_pI, hc_pI, hs_pI, hK_pJ, hL_pJ, fI_pJ, fJ_pJ, fR_pJ, aI_pJ, aJ_pJ, aR_pJ, hc_pJ, hs_pJ, hK_pR, hL_pR, fI_pR, fJ_pR, fR_pR, aI_pR, aJ_pR, aR_pR, hc_pR, hs_pR, hK_sI, hL_sI, fI_sI, fJ_sI, fR_sI, aI_sI, aJ_sI, aR_sI, hc_sI, hs_sI, hK_sJ, hL_sJ, fI_sJ, fJ_sJ, fR_sJ, aI_sJ, aJ_sJ, aR_sJ, hc_sJ, hs_sJ, hK_sR, hL_sR, fI_sR, fJ_sR, fR_sR, aI_sR, aJ_sR, aR_sR, hc_sR, hs_sR, hK_nO, hL_nO, fI_nO, fJ_nO, fR_nO, aI_nO, aJ_nO, aR_nO, hc_nO, hs_nO, hK_nA, hL_nA, fI_nA, fJ_nA, fR_nA, aI_nA, aJ_nA, aR_nA, hc_nA, hs_nA] using hts.1) (by omega)) ?_
      rintro _ _ ⟨rfl, rfl⟩
      refine KV.i ⟨rfl, by simp [hK_pI, hL_pI, fI_pI, fJ_pI, fR_pI, aI_pI, aJ_pI, aR_pI, hc_pI, hs_pI, hK_pJ, hL_pJ, fI_pJ, fJ_pJ, fR_pJ, aI_pJ, aJ_pJ, aR_pJ, hc_pJ, hs_pJ, hK_pR, hL_pR, fI_pR, fJ_pR, fR_pR, aI_pR, aJ_pR, aR_pR, hc_pR, hs_pR, hK_sI, hL_sI, fI_sI, fJ_sI, fR_sI, aI_sI, aJ_sI, aR_sI, hc_sI, hs_sI, hK_sJ, hL_sJ, fI_sJ, fJ_sJ, fR_sJ, aI_sJ, aJ_sJ, aR_sJ, hc_sJ, hs_sJ, hK_sR, hL_sR, fI_sR, fJ_sR, fR_sR, aI_sR, aJ_sR, aR_sR, hc_sR, hs_sR, hK_nO, hL_nO, fI_nO, fJ_nO, fR_nO, aI_nO, aJ_nO, aR_nO, hc_nO, hs_nO, hK_nA, hL_nA, fI_nA, fJ_nA, fR_nA, aI_nA, aJ_nA, aR_nA, hc_nA, hs_nA], ?_⟩
      refine hts.push (by simp [hK_pI, hL_pI, fI_pI, fJ_pI, fR_pI, aI_pI, aJ_pI, aR_pI, hc_pI, hs_pI, hK_pJ, hL_pJ, fI_pJ, fJ_pJ, fR_pJ, aI_pJ, aJ_pJ, aR_pJ, hc_pJ, hs_pJ, hK_pR, hL_pR, fI_pR, fJ_pR, fR_pR, aI_pR, aJ_pR, aR_pR, hc_pR, hs_pR, hK_sI, hL_sI, fI_sI, fJ_sI, fR_sI, aI_sI, aJ_sI, aR_sI, hc_sI, hs_sI, hK_sJ, hL_sJ, fI_sJ, fJ_sJ, fR_sJ, aI_sJ, aJ_sJ, aR_sJ, hc_sJ, hs_sJ, hK_sR, hL_sR, fI_sR, fJ_sR, fR_sR, aI_sR, aJ_sR, aR_sR, hc_sR, hs_sR, hK_nO, hL_nO, fI_nO, fJ_nO, fR_nO, aI_nO, aJ_nO, aR_nO, hc_nO, hs_nO, hK_nA, hL_nA, fI_nA, fJ_nA, fR_nA, aI_nA, aJ_nA, aR_nA, hc_nA, hs_nA]) (fun i hi => ?_) ⟨?_, ?_, fun q => ?_, fun q => ?_⟩
      · have hne : ¬ i = ts.length := by omega
        simp (config := { decide := true }) [hK_pI, hL_pI, fI_pI, fJ_pI, fR_pI, aI_pI, aJ_pI, aR_pI, hc_pI, hs_pI, hK_pJ, hL_pJ, fI_pJ, fJ_pJ, fR_pJ, aI_pJ, aJ_pJ, aR_pJ, hc_pJ, hs_pJ, hK_pR, hL_pR, fI_pR, fJ_pR, fR_pR, aI_pR, aJ_pR, aR_pR, hc_pR, hs_pR, hK_sI, hL_sI, fI_sI, fJ_sI, fR_sI, aI_sI, aJ_sI, aR_sI, hc_sI, hs_sI, hK_sJ, hL_sJ, fI_sJ, fJ_sJ, fR_sJ, aI_sJ, aJ_sJ, aR_sJ, hc_sJ, hs_sJ, hK_sR, hL_sR, fI_sR, fJ_sR, fR_sR, aI_sR, aJ_sR, aR_sR, hc_sR, hs_sR, hK_nO, hL_nO, fI_nO, fJ_nO, fR_nO, aI_nO, aJ_nO, aR_nO, hc_nO, hs_nO, hK_nA, hL_nA, fI_nA, fJ_nA, fR_nA, aI_nA, aJ_nA, aR_nA, hc_nA, hs_nA, hD.eqw, hne]
      · simp (config := { decide := true }) [hK_pI, hL_pI, fI_pI, fJ_pI, fR_pI, aI_pI, aJ_pI, aR_pI, hc_pI, hs_pI, hK_pJ, hL_pJ, fI_pJ, fJ_pJ, fR_pJ, aI_pJ, aJ_pJ, aR_pJ, hc_pJ, hs_pJ, hK_pR, hL_pR, fI_pR, fJ_pR, fR_pR, aI_pR, aJ_pR, aR_pR, hc_pR, hs_pR, hK_sI, hL_sI, fI_sI, fJ_sI, fR_sI, aI_sI, aJ_sI, aR_sI, hc_sI, hs_sI, hK_sJ, hL_sJ, fI_sJ, fJ_sJ, fR_sJ, aI_sJ, aJ_sJ, aR_sJ, hc_sJ, hs_sJ, hK_sR, hL_sR, fI_sR, fJ_sR, fR_sR, aI_sR, aJ_sR, aR_sR, hc_sR, hs_sR, hK_nO, hL_nO, fI_nO, fJ_nO, fR_nO, aI_nO, aJ_nO, aR_nO, hc_nO, hs_nO, hK_nA, hL_nA, fI_nA, fJ_nA, fR_nA, aI_nA, aJ_nA, aR_nA, hc_nA, hs_nA, hD.eqw]
      · simp (config := { decide := true }) [hK_pI, hL_pI, fI_pI, fJ_pI, fR_pI, aI_pI, aJ_pI, aR_pI, hc_pI, hs_pI, hK_pJ, hL_pJ, fI_pJ, fJ_pJ, fR_pJ, aI_pJ, aJ_pJ, aR_pJ, hc_pJ, hs_pJ, hK_pR, hL_pR, fI_pR, fJ_pR, fR_pR, aI_pR, aJ_pR, aR_pR, hc_pR, hs_pR, hK_sI, hL_sI, fI_sI, fJ_sI, fR_sI, aI_sI, aJ_sI, aR_sI, hc_sI, hs_sI, hK_sJ, hL_sJ, fI_sJ, fJ_sJ, fR_sJ, aI_sJ, aJ_sJ, aR_sJ, hc_sJ, hs_sJ, hK_sR, hL_sR, fI_sR, fJ_sR, fR_sR, aI_sR, aJ_sR, aR_sR, hc_sR, hs_sR, hK_nO, hL_nO, fI_nO, fJ_nO, fR_nO, aI_nO, aJ_nO, aR_nO, hc_nO, hs_nO, hK_nA, hL_nA, fI_nA, fJ_nA, fR_nA, aI_nA, aJ_nA, aR_nA, hc_nA, hs_nA, hD.eqw]
      · simp at q
      · simp at q
    · rw [b2_0] at z2
      have z2' := bt z2
      have e : tk1 u n p = (wkind (u p) (bs u p (span sm u (n - (p + 1)) (p + 1) - p)) (span sm u (n - (p + 1)) (p + 1) - p), cd (bs u p (span sm u (n - (p + 1)) (p + 1) - p)), span sm u (n - (p + 1)) (p + 1)) := by
        unfold tk1 wkind
        rw [if_neg (by rw [z]; decide), if_pos z, if_pos z2', if_pos z]
      rw [e]
      refine word_loop hD hu hl rfl sm (by rw [if_pos z]) (fun x hx => by simp [sm] at hx; omega) _ (p + 1) _ s2 hT.at hts.at hw ha2 rfl (by omega) (by omega) fun j h1 h2 => ?_
      have : j = p := by omega
      subst this
      omega
  · have hc' : (sm (u p) || gr (u p)) = true := hc.resolve_right z
    have e : tk1 u n p = (wkind (u p) (bs u p (span wc u (n - (p + 1)) (p + 1) - p)) (span wc u (n - (p + 1)) (p + 1) - p), cd (bs u p (span wc u (n - (p + 1)) (p + 1) - p)), span wc u (n - (p + 1)) (p + 1)) := by
      unfold tk1 wkind
      rw [if_pos hc', if_neg z]
    rw [e]
    refine word_loop hD hu hl rfl wc (by rw [if_neg z]) (fun x hx => wc_asc hx) _ (p + 1) _ s2 hT.at hts.at hw ha2 rfl (by omega) (by omega) fun j h1 h2 => ?_
    have : j = p := by omega
    subst this
    exact wc_asc (by simp only [wc, hc', Bool.true_or])
end
