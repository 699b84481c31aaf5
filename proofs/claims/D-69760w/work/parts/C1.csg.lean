/-! THE COMPONENT'S READER: the signs of a chain, while they grow -/
/-- behind h the signs so were made; they are sl, in an array of n places -/
def SG (G : Gh) (h h1 : AH) (so : Nat) (sl : List Int32) (n : Nat) : Prop := hK h so = 0 ∧ hK h1 so = 43 ∧ fI h1 so 340 = nI sl.length ∧ sl.length ≤ n ∧ 4 ≤ n ∧ n < 200000 ∧ ∃ arr, fR h1 so 339 = some arr ∧ (hK h arr = 0 ∧ Ns (gW G) arr) ∧ hK h1 arr = 1000 ∧ hL h1 arr = n ∧ ∀ i x, sl[i]? = some x → aI h1 arr i = x
/-- but the signs all stays as it is -/
def FS (h h' : AH) (so : Nat) : Prop := (hc h ≤ hc h' ∧ hs h ≤ hs h') ∧ hK h' so = hK h so ∧ (∀ a, hK h a ≠ 0 → a ≠ so → fR h so 339 ≠ some a → Uk h h' a) ∧ ∀ a, fR h' so 339 = some a → fR h so 339 = some a ∨ hK h a = 0
section
variable {G : Gh} {d : Nat} {h0 h h1 h2 h' : AH} {so n : Nat} {sl : List Int32} {x : Int32}
theorem SG.uk (k : SG G h h1 so sl n) (hu : ∀ a, (a = so ∨ fR h1 so 339 = some a) → Uk h1 h2 a) : SG G h h2 so sl n ∧ fR h2 so 339 = fR h1 so 339 := by
  obtain ⟨k0, k1, k2, k3, k7, k8, arr, k4, kn, k5, k6, k9⟩ := k
  obtain ⟨a1, a2, a3, a4, a5, a6⟩ := hu so (Or.inl rfl)
  obtain ⟨b1, b2, b3, b4, b5, b6⟩ := hu arr (Or.inr k4)
  have e := (a6 339 (by decide)).2.2
  exact ⟨⟨k0, a1.trans k1, ((a6 340 (by decide)).1).trans k2, k3, k7, k8, arr, e.trans k4, kn, b1.trans k5, b2.trans k6, fun i x hx => by rw [b3]; exact k9 i x hx⟩, e⟩
theorem SG.kp (k : SG G h h1 so sl n) (p : KP h1 h2) : SG G h h2 so sl n ∧ fR h2 so 339 = fR h1 so 339 := by
  refine k.uk fun a ha => p.2 a ?_
  obtain ⟨k0, k1, k2, k3, k7, k8, arr, k4, kn, k5, k6, k9⟩ := k
  rcases ha with rfl | e
  · rw [k1]; decide
  · cases k4.symm.trans e
    rw [k5]; decide
theorem SG.arr (k : SG G h h1 so sl n) : ∃ arr, fR h1 so 339 = some arr ∧ hK h1 arr = 1000 := by
  obtain ⟨k0, k1, k2, k3, k7, k8, arr, k4, kn, k5, k6, k9⟩ := k
  exact ⟨arr, k4, k5⟩
/-- new signs -/
theorem c_sgI {q : Nat} (hk : hK h q = 43) (h340 : fI h q 340 = 0) (hq0 : hK h0 q = 0) (p : KP h0 h) (sA : SoA G h) (hu : un h + 20 ≤ UB) : C G mX46_init (d + 1) [.ref q] h (fun o h' => o = .returned none ∧ KP h0 h' ∧ SG G h0 h' q [] 4 ∧ un h' = un h + 20 ∧ (∀ a, hK h a ≠ 0 → a ≠ q → Uk h h' a) ∧ SoA G h') := by
  have hr := un_rm (n := 4) (h := h) (by omega)
  refine bX46_init G (d + 1) (Nat.le_add_left _ _) h _ _ ⟨by decide, hr.1, hr.2, fun arr hf => ?_⟩
  rintro _ rfl
  have e4 : (4 : Int32).toNatClampNeg = 4 := by decide
  rw [e4]
  have hne : q ≠ arr := fun e => by rw [e, hf] at hk; cases hk
  refine ⟨by rw [hK_nA, if_neg hne]; exact hk, ?_⟩
  rintro _ rfl
  have pA : KP h0 (nA h arr 0 4) := p.nA hf
  refine ⟨rfl, pA.pR hq0, ⟨hq0, ?_, ?_, by decide, by decide, by decide, arr, ?_, ⟨p.fresh hf, sA.ns hf⟩, ?_, ?_, fun i x hx => by simp at hx⟩, ?_, fun a ha hn => ?_, ?_⟩
  · rw [hK_pR, hK_nA, if_neg hne]; exact hk
  · rw [fI_pR, fI_nA, h340]; rfl
  · rw [fR_pR, if_pos ⟨rfl, rfl⟩]
  · rw [hK_pR, hK_nA, if_pos rfl]
  · rw [hL_pR, hL_nA, if_pos rfl]
  · rw [un_pR, un_nA]
  · have hna : a ≠ arr := fun e => ha (by rw [e]; exact hf)
    refine ⟨by rw [hK_pR, hK_nA, if_neg hna], by rw [hL_pR, hL_nA, if_neg hna], ?_, ?_, ?_, fun g _ => ⟨rfl, rfl, ?_⟩⟩
    · funext y; rw [aI_pR, aI_nA, if_neg hna]
    · funext y; rw [aJ_pR, aJ_nA, if_neg hna]
    · funext y; rw [aR_pR, aR_nA, if_neg hna]
    · rw [fR_pR, if_neg (fun e => hn e.1), fR_nA]
  · exact (sA.le (nA_le hf)).le (pR_le (Or.inl (by decide)))
/-- a sign is put behind the others, where there is room -/
theorem sg_put {arr : Nat} {Q : Outcome → AH → Prop} (k : SG G h0 h so sl n) (p : KP h0 h) (sA : SoA G h) (ha : fR h so 339 = some arr) (hl : sl.length < n)
    (hQ : ∀ h', KP h0 h' → SG G h0 h' so (sl ++ [x]) n → un h' = un h → SoA G h' → FS h h' so → Q (.returned none) h') :
    hK h arr = 1000 ∧ Ns (gW G) arr ∧ vp_in (fI h so 340) (hL h arr) ∧ ∀ h10, h10 = sI h arr (fI h so 340).toNatClampNeg x → (∀ h13, h13 = pI h10 so 340 ((fI h10 so 340) + 1) → (Q (.returned none) h13)) := by
  obtain ⟨k0, k1, k2, k3, k7, k8, arr', k4, ⟨n3, n4⟩, k5, k6, k9⟩ := k
  cases ha.symm.trans k4
  have hra : so ≠ arr := fun e => by rw [e, k5] at k1; cases k1
  refine ⟨k5, n4, by rw [k2, k6]; exact vp_in_nI hl (by omega), ?_⟩
  rintro _ rfl _ rfl
  have e340 : fI (sI h arr (fI h so 340).toNatClampNeg x) so 340 = nI sl.length := by rw [fI_sI]; exact k2
  rw [e340, k2, nI_cn (by omega), nI_1]
  refine hQ _ ((p.sI n3).pI (Or.inl k0)) ⟨k0, by rw [hK_pI, hK_sI]; exact k1, ?_, ?_, k7, k8, arr, by rw [fR_pI, fR_sI]; exact ha, ⟨n3, n4⟩, by rw [hK_pI, hK_sI]; exact k5, by rw [hL_pI, hL_sI]; exact k6, fun i y hy => ?_⟩ rfl ((sA.le sI_le).le (pI_le (Or.inl (by decide)))) ⟨⟨Nat.le_refl _, Nat.le_refl _⟩, by rw [hK_pI, hK_sI], fun a hla hn hn2 => ?_, fun a e => Or.inl (by rw [fR_pI, fR_sI] at e; exact e)⟩
  · rw [fI_pI, if_pos ⟨rfl, rfl⟩, List.length_append]; rfl
  · rw [List.length_append]; exact hl
  · by_cases hi : i < sl.length
    · rw [List.getElem?_append_left hi] at hy
      rw [aI_pI, aI_sI, if_neg (fun e => by omega)]
      exact k9 i y hy
    · rw [List.getElem?_append_right (by omega)] at hy
      have hi2 : i - sl.length = 0 := by
        refine Classical.byContradiction fun hne => ?_
        rw [List.getElem?_eq_none (by simp; omega)] at hy
        cases hy
      rw [hi2] at hy
      cases hy
      have ei : i = sl.length := by omega
      subst ei
      rw [aI_pI, aI_sI, if_pos ⟨rfl, rfl⟩]
  · have hnr : a ≠ arr := fun e => hn2 (by rw [e]; exact ha)
    refine ⟨by rw [hK_pI, hK_sI], by rw [hL_pI, hL_sI], ?_, rfl, rfl, fun g _ => ⟨?_, rfl, rfl⟩⟩
    · funext y; rw [aI_pI, aI_sI, if_neg (fun e => hnr e.1)]
    · rw [fI_pI, if_neg (fun e => hn e.1), fI_sI]
/-- the places of a greater array are filled -/
theorem sg_23 {q arr U : Nat} {Q : Outcome → AH → Prop} (ha0 : fR h so 339 = some arr) (hsl : hK h so = 43) (hq : hK h0 q = 0) (hNs : Ns (gW G) q) (hqf : hK h q = 0) (hn4 : 4 ≤ n) (hn : n < 100000) (hll : sl.length = n) (hne : q ≠ arr)
    (hQ : ∀ h', KP h0 h' → SG G h0 h' so (sl ++ [x]) (2 * n) → un h' = U → SoA G h' → FS h h' so → Q (.returned none) h') :
    ∀ f i h1, sl.length - i < f → i ≤ sl.length → KP h0 h1 → SG G h0 h1 so sl n → SoA G h1 → (hc h ≤ hc h1 ∧ hs h ≤ hs h1) → (∀ a, hK h a ≠ 0 → hK h1 a = hK h a) → (∀ a, hK h a ≠ 0 → a ≠ so → a ≠ arr → Uk h h1 a) → hK h1 q = 1000 → hL h1 q = 2 * n → fR h1 so 339 = some arr → (∀ j, j < i → aI h1 q j = aI h1 arr j) → un h1 = U →
    X G mX46_add d none [] 23 [(0, .ref so), (1, .int x), (2, .ref q), (3, .int (nI i))] [] h1 Q := by
  intro f
  induction f with
  | zero => intro i h1 hf; omega
  | succ f IH =>
    intro i h1 hf hi p k sA mo hkk fx qk ql qa qe hU
    obtain ⟨k0, k1, k2, k3, k7, k8, arr', k4, ⟨n3, n4⟩, k5, k6, k9⟩ := id k
    cases qa.symm.trans k4
    have hra : so ≠ arr := fun e => by rw [e, k5] at k1; cases k1
    have hrq : so ≠ q := fun e => by rw [e, qk] at k1; cases k1
    refine bX46_add_23 G d h1 _ _ _ _ _ ⟨k1, ?_⟩
    rw [k2, nI_leI (by omega) (by omega)]
    refine ⟨fun z => ?_, fun z => ?_⟩
    · rintro _ rfl
      have ei : i = sl.length := by omega
      subst ei
      have FR : ∀ a g, ¬ (a = so ∧ g = 339) → fR (pR h1 so 339 (some q)) a g = fR h1 a g := fun a g hg => by rw [fR_pR, if_neg hg]
      have eq : fR (pR h1 so 339 (some q)) so 339 = some q := by rw [fR_pR, if_pos ⟨rfl, rfl⟩]
      have kc : SG G h0 (pR h1 so 339 (some q)) so sl (2 * n) := ⟨k0, k1, k2, by omega, by omega, by omega, q, eq, ⟨hq, hNs⟩, qk, ql, fun j y hy => by
        have hj := (List.getElem?_eq_some_iff.mp hy).1
        rw [aI_pR, qe j hj]
        exact k9 j y hy⟩
      have sA2 : SoA G (pR h1 so 339 (some q)) := sA.le (pR_le (Or.inl (by decide)))
      refine ⟨q, eq, sg_put kc (p.pR k0) sA2 eq (by omega) fun h' b1 b2 b4 b5 b6 => hQ h' b1 b2 (by rw [b4, un_pR, hU]) b5 ?_⟩
      obtain ⟨c1, c2, c3, c4⟩ := b6
      refine ⟨⟨Nat.le_trans mo.1 c1.1, Nat.le_trans mo.2 c1.2⟩, ?_, fun a ha hn hn2 => ?_, fun a e => ?_⟩
      · rw [c2, hK_pR, hkk so (by rw [hsl]; decide)]
      · have hna : a ≠ arr := fun e => hn2 (by rw [e]; exact ha0)
        have hnq : a ≠ q := fun e => ha (by rw [e]; exact hqf)
        have u1 := fx a ha hn hna
        have u2 : Uk h1 (pR h1 so 339 (some q)) a := ⟨rfl, rfl, rfl, rfl, rfl, fun g _ => ⟨rfl, rfl, FR a g fun e => hn e.1⟩⟩
        have u3 := c3 a (by rw [hK_pR, hkk a ha]; exact ha) hn (by rw [eq]; intro e; cases e; exact hnq rfl)
        exact (u1.tr u2).tr u3
      · rcases c4 a e with e | e
        · cases eq.symm.trans e; exact Or.inr hqf
        · rw [hK_pR] at e
          exact Or.inr (Classical.byContradiction fun hn => hn ((hkk a hn).symm.trans e))
    · have hil : i < sl.length := by omega
      rw [nI_cn (by omega)]
      refine ⟨arr, qa, k5, by rw [k6]; exact vp_in_nI (by omega) (by omega), qk, hNs, by rw [ql]; exact vp_in_nI (by omega) (by omega), ?_⟩
      rintro _ rfl _ rfl
      rw [nI_1]
      have AI : ∀ a j, ¬ (a = q ∧ j = i) → aI (sI h1 q i (aI h1 arr i)) a j = aI h1 a j := fun a j hn => by rw [aI_sI, if_neg hn]
      refine IH (i + 1) _ (by omega) (by omega) (p.sI hq) ⟨k0, k1, k2, k3, k7, k8, arr, qa, ⟨n3, n4⟩, k5, k6, fun j y hy => ?_⟩ (sA.le sI_le) mo hkk (fun a ha hn hn2 => ?_) qk ql qa (fun j hj => ?_) hU
      · rw [AI arr j (fun e => hne e.1.symm)]; exact k9 j y hy
      · have hnq : a ≠ q := fun e => ha (by rw [e]; exact hqf)
        obtain ⟨c1, c2, c3, c4, c5, c6⟩ := fx a ha hn hn2
        exact ⟨c1, c2, by rw [← c3]; funext y; exact AI a y (fun e => hnq e.1), c4, c5, c6⟩
      · rw [AI arr j (fun e => hne e.1.symm)]
        by_cases ej : j = i
        · subst ej
          rw [aI_sI, if_pos ⟨rfl, rfl⟩]
        · rw [AI q j (fun e => ej e.2)]
          exact qe j (by omega)
/-- one more sign -/
theorem c_sgA {U : Nat} (k : SG G h0 h so sl n) (p : KP h0 h) (sA : SoA G h) (hn : sl.length < 50000) (hU : un h + (4 * sl.length - 2 * n) ≤ U) (hu : U + 20 ≤ UB) : C G mX46_add d [.ref so, .int x] h (fun o h' => o = .returned none ∧ KP h0 h' ∧ (∃ n', SG G h0 h' so (sl ++ [x]) n' ∧ un h' + (4 * (sl.length + 1) - 2 * n') ≤ U + 20) ∧ SoA G h' ∧ FS h h' so) := by
  obtain ⟨k0, k1, k2, k3, k7, k8, arr, k4, ⟨n3, n4⟩, k5, k6, k9⟩ := id k
  refine bX46_add G d h _ _ _ ⟨k1, arr, k4, k5, ?_⟩
  have put : sl.length < n → hK h arr = 1000 ∧ Ns (gW G) arr ∧ vp_in (fI h so 340) (hL h arr) ∧ ∀ h10, h10 = sI h arr (fI h so 340).toNatClampNeg x → (∀ h13, h13 = pI h10 so 340 ((fI h10 so 340) + 1) → ((fun o h' => o = .returned none ∧ KP h0 h' ∧ (∃ n', SG G h0 h' so (sl ++ [x]) n' ∧ un h' + (4 * (sl.length + 1) - 2 * n') ≤ U + 20) ∧ SoA G h' ∧ FS h h' so) (Outcome.returned none) h13)) :=
    fun hlt => sg_put (Q := fun o h' => o = .returned none ∧ KP h0 h' ∧ (∃ n', SG G h0 h' so (sl ++ [x]) n' ∧ un h' + (4 * (sl.length + 1) - 2 * n') ≤ U + 20) ∧ SoA G h' ∧ FS h h' so) k p sA k4 hlt fun h' b1 b2 b4 b5 b6 => ⟨rfl, b1, ⟨n, b2, by rw [b4]; omega⟩, b5, b6⟩
  rw [k2] at put ⊢
  rw [k6, show Int32.ofNat n = nI n from rfl, nI_eq (by omega) (by omega)]
  refine ⟨fun z => ?_, fun z => ⟨arr, k4, put (by omega)⟩⟩
  have e2 : (2 : Int32) * nI sl.length = nI (2 * sl.length) := by
    rw [i_eq, i_mul, nI_toInt (by omega), nI_toInt (by omega)]
    · show (2 : Int) * _ = _; omega
    · rw [nI_toInt (by omega)]; show _ ≤ (2 : Int) * _; omega
    · rw [nI_toInt (by omega)]; show (2 : Int) * _ ≤ _; omega
  rw [e2, nI_cn (by omega)]
  have hr := un_rm (n := 2 * sl.length) (h := h) (by omega)
  refine ⟨by rw [Int32.lt_iff_toInt_lt, nI_toInt (by omega)]; show ¬ (_ : Int) < 0; omega, hr.1, hr.2, fun q hq => ?_⟩
  rintro _ rfl
  have hne : q ≠ arr := fun e => by rw [← e, hq] at k5; cases k5
  have pA : KP h (nA h q 0 (2 * sl.length)) := KP.rf.nA hq
  refine sg_23 (n := n) (h := h) (U := un h + 16 + 2 * sl.length) k4 k1 (p.fresh hq) (sA.ns hq) hq k7 (by omega) z hne (fun h' b1 b2 b4 b5 b6 => ⟨rfl, b1, ⟨2 * n, b2, by rw [b4]; omega⟩, b5, b6⟩) (sl.length + 1) 0 _ (by omega) (by omega) (p.tr pA) (k.kp pA).1 (sA.le pA.le) pA.1 (fun a ha => (pA.2 a ha).1) (fun a ha _ _ => pA.2 a ha) ?_ ?_ ?_ (fun j hj => by omega) ?_
  · rw [hK_nA, if_pos rfl]
  · rw [hL_nA, if_pos rfl, z]
  · rw [fR_nA]; exact k4
  · rw [un_nA]
end
