/-! ROWS -/
def swHas (g : Nat) : Bool := (List.range 10).any fun i => (swL.getD i []).any fun q => q.2.1 == 1000 + g && gfin q.1
theorem sw_all : ∀ g, g < 400 → SA.testBit g = true → swHas g = true := by decide +kernel
theorem SoA.at {G : Gh} {h : AH} (s : SoA G h) {i : Nat} (hi : i < 10) : So i (gW G) h := by
  obtain ⟨s0, s1, s2, s3, s4, s5, s6, s7, s8, s9⟩ := s
  match i, hi with
  | 0, _ => exact s0
  | 1, _ => exact s1
  | 2, _ => exact s2
  | 3, _ => exact s3
  | 4, _ => exact s4
  | 5, _ => exact s5
  | 6, _ => exact s6
  | 7, _ => exact s7
  | 8, _ => exact s8
  | 9, _ => exact s9
theorem SoA.ns {G : Gh} {h : AH} (s : SoA G h) {q : Nat} (hq : hK h q = 0) : Ns (gW G) q := by
  intro g hg e
  have hg4 : g < 400 := Classical.byContradiction fun hn => by
    have : SA < 2 ^ g := Nat.lt_of_lt_of_le (show SA < 2 ^ 400 by decide +kernel) (Nat.pow_le_pow_right (by decide) (by omega))
    rw [Nat.testBit_lt_two_pow this] at hg
    cases hg
  have := sw_all g hg4 hg
  unfold swHas at this
  rw [List.any_eq_true] at this
  obtain ⟨i, hi, this⟩ := this
  rw [List.any_eq_true] at this
  obtain ⟨x, hx, this⟩ := this
  rw [Bool.and_eq_true, beq_iff_eq] at this
  obtain ⟨j, hj⟩ := List.getElem?_of_mem hx
  have k := (s.at (List.mem_range.mp hi)).2 j x hj this.2
  rw [this.1, ← e] at k
  exact k.2.2.1 (k.2.1.symm.trans hq)
/-- the row r holds the objects l, in an array of n places -/
def RowC (h : AH) (r : Nat) (l : List Nat) (n : Nat) : Prop := hK h r = 6 ∧ fI h r 78 = nI l.length ∧ l.length ≤ n ∧ 4 ≤ n ∧ n < 200000 ∧ ∃ arr, fR h r 77 = some arr ∧ hK h arr = 1004 ∧ hL h arr = n ∧ ∀ i x, l[i]? = some x → ∃ sp, aR h arr i = some sp ∧ hK h sp = 7 ∧ fR h sp 79 = some x
/-- the row was made behind h0 -/
def RowN (G : Gh) (h0 h : AH) (r : Nat) : Prop := hK h0 r = 0 ∧ ∀ arr, fR h r 77 = some arr → hK h0 arr = 0 ∧ Ns (gW G) arr ∧ ∀ i sp, aR h arr i = some sp → hK h0 sp = 0 ∧ hK h sp = 7
/-- but the row r all stays as it is -/
def FX (h h' : AH) (r : Nat) : Prop := (hc h ≤ hc h' ∧ hs h ≤ hs h') ∧ hK h' r = hK h r ∧ (∀ a, hK h a ≠ 0 → a ≠ r → fR h r 77 ≠ some a → Uk h h' a) ∧ ∀ a, fR h' r 77 = some a → fR h r 77 = some a ∨ hK h a = 0
section
variable {G : Gh} {h0 h h' : AH} {r d n : Nat} {l : List Nat}
theorem RowC.kp (k : RowC h r l n) (p : KP h h') : RowC h' r l n := by
  obtain ⟨k1, k2, k3, k7, k8, arr, k4, k5, k6, k9⟩ := k
  obtain ⟨a1, a2, a3, a4, a5, a6⟩ := p.2 r (by rw [k1]; decide)
  obtain ⟨b1, b2, b3, b4, b5, b6⟩ := p.2 arr (by rw [k5]; decide)
  refine ⟨a1.trans k1, ((a6 78 (by decide)).1).trans k2, k3, k7, k8, arr, ((a6 77 (by decide)).2.2).trans k4, b1.trans k5, b2.trans k6, fun i x hx => ?_⟩
  obtain ⟨sp, e1, e2, e3⟩ := k9 i x hx
  obtain ⟨c1, c2, c3, c4, c5, c6⟩ := p.2 sp (by rw [e2]; decide)
  exact ⟨sp, by rw [b5]; exact e1, c1.trans e2, ((c6 79 (by decide)).2.2).trans e3⟩
theorem RowN.kp (k : RowN G h0 h r) (c : RowC h r l n) (p : KP h h') : RowN G h0 h' r := by
  obtain ⟨a1, a2, a3, a4, a5, a6⟩ := p.2 r (by rw [c.1]; decide)
  obtain ⟨k1, k2, k3, k7, k8, arr, k4, k5, k6, k9⟩ := c
  refine ⟨k.1, fun arr' e => ?_⟩
  rw [(a6 77 (by decide)).2.2] at e
  cases e.symm.trans k4
  obtain ⟨n1, n2, n3⟩ := k.2 arr k4
  refine ⟨n1, n2, fun i sp e => ?_⟩
  rw [(p.2 arr (by rw [k5]; decide)).2.2.2.2.1] at e
  have := n3 i sp e
  exact ⟨this.1, p.hk this.2 (by decide)⟩
theorem c_spot {a p : Nat} (hk : hK h a = 7) : C G mX8_init (d + 1) [.ref a, .ref p] h (fun o h' => o = .returned none ∧ h' = pR h a 79 (some p)) :=
  bX8_init G (d + 1) (Nat.le_add_left _ _) h _ _ _ ⟨hk, fun _ e => ⟨rfl, e⟩⟩
/-- a new row -/
theorem c_rowI {q : Nat} (hk : hK h q = 6) (h78 : fI h q 78 = 0) (hq0 : hK h0 q = 0) (p : KP h0 h) (sA : SoA G h) (hu : un h + 20 ≤ UB) : C G mX7_init (d + 1) [.ref q] h (fun o h' => o = .returned none ∧ KP h0 h' ∧ RowC h' q [] 4 ∧ RowN G h0 h' q ∧ un h' = un h + 20 ∧ (∀ a, hK h a ≠ 0 → a ≠ q → Uk h h' a) ∧ SoA G h') := by
  have hr := un_rm (n := 4) (h := h) (by omega)
  refine bX7_init G (d + 1) (Nat.le_add_left _ _) h _ _ ⟨by decide, hr.1, hr.2, fun arr hf => ?_⟩
  rintro _ rfl
  have e4 : (4 : Int32).toNatClampNeg = 4 := by decide
  rw [e4]
  have hne : q ≠ arr := fun e => by rw [e, hf] at hk; cases hk
  refine ⟨by rw [hK_nA, if_neg hne]; exact hk, ?_⟩
  rintro _ rfl
  have pA : KP h0 (nA h arr 4 4) := p.nA hf
  refine ⟨rfl, pA.pR hq0, ⟨?_, ?_, by decide, by decide, by decide, arr, ?_, ?_, ?_, fun i x hx => by simp at hx⟩, ⟨hq0, fun a e => ?_⟩, ?_, fun a ha hn => ?_, ?_⟩
  · rw [hK_pR, hK_nA, if_neg hne]; exact hk
  · rw [fI_pR, fI_nA, h78]; rfl
  · rw [fR_pR, if_pos ⟨rfl, rfl⟩]
  · rw [hK_pR, hK_nA, if_pos rfl]
  · rw [hL_pR, hL_nA, if_pos rfl]
  · rw [fR_pR, if_pos ⟨rfl, rfl⟩] at e
    cases e
    refine ⟨p.fresh hf, sA.ns hf, fun i sp e => ?_⟩
    rw [aR_pR, aR_nA, if_pos rfl] at e
    cases e
  · rw [un_pR, un_nA]
  · have hna : a ≠ arr := fun e => ha (by rw [e]; exact hf)
    refine ⟨by rw [hK_pR, hK_nA, if_neg hna], by rw [hL_pR, hL_nA, if_neg hna], ?_, ?_, ?_, fun g _ => ⟨rfl, rfl, ?_⟩⟩
    · funext y; rw [aI_pR, aI_nA, if_neg hna]
    · funext y; rw [aJ_pR, aJ_nA, if_neg hna]
    · funext y; rw [aR_pR, aR_nA, if_neg hna]
    · rw [fR_pR, if_neg (fun e => hn e.1), fR_nA]
  · refine sA.le ?_
    refine ⟨⟨by rw [hc_pR, hc_nA]; exact Nat.le_succ _, by rw [hs_pR, hs_nA]; exact Nat.le_add_right _ _⟩, fun a ha => ?_⟩
    have hna : a ≠ arr := fun e => ha (by rw [e]; exact hf)
    refine ⟨by rw [hK_pR, hK_nA, if_neg hna], by rw [hL_pR, hL_nA, if_neg hna], fun _ g hg => ⟨rfl, rfl, ?_⟩⟩
    rw [fR_pR, if_neg ?_, fR_nA]
    rintro ⟨_, rfl⟩
    exact absurd hg (by decide)
/-- an object is put behind those of a row that has room -/
theorem row_put {arr x U : Nat} {Q : Outcome → AH → Prop} (k : RowC h r l n) (hn : RowN G h0 h r) (p : KP h0 h) (sA : SoA G h) (ha : fR h r 77 = some arr) (hl : l.length < n) (hU : un h ≤ U) (hu : U + 17 ≤ UB) (hx : hK h x ≠ 0)
    (hQ : ∀ h', KP h0 h' → RowC h' r (l ++ [x]) n → RowN G h0 h' r → un h' = un h + 17 → SoA G h' → FX h h' r → Q (.returned none) h') :
    (hc h + 1 ≤ MC) ∧ (hs h + 1 ≤ MS) ∧ ∀ q8, hK h q8 = 0 → ∀ h10, h10 = nO h q8 6 → (C G mX8_init (d + 1) [.ref (q8), .ref (x)] h10 (KV Q (fun h13 => hK h13 arr = 1004 ∧ Ns (gW G) arr ∧ vp_in (fI h r 78) (hL h13 arr) ∧ AOK G h13 q8 4 "LetMill$Spot" ∧ ∀ h17, h17 = sR h13 arr (fI h r 78).toNatClampNeg (some q8) → (∀ h20, h20 = pI h17 r 78 ((fI h17 r 78) + 1) → (Q (.returned none) h20))))) := by
  obtain ⟨k1, k2, k3, k7, k8, arr', k4, k5, k6, k9⟩ := k
  cases ha.symm.trans k4
  obtain ⟨n1, n2⟩ := hn
  obtain ⟨n3, n4, n5⟩ := n2 arr ha
  have hr := un_rm (n := 1) (h := h) (by omega)
  refine ⟨hr.1, hr.2, fun q hq => ?_⟩
  rintro _ rfl
  have hra : r ≠ arr := fun e => by rw [e, k5] at k1; cases k1
  have hrq : r ≠ q := fun e => by rw [e, hq] at k1; cases k1
  have haq : arr ≠ q := fun e => by rw [e, hq] at k5; cases k5
  refine C.mono (c_spot (by rw [hK_nO, if_pos rfl])) ?_
  rintro _ _ ⟨rfl, rfl⟩
  refine KV.i ⟨by rw [hK_pR, hK_nO, if_neg haq]; exact k5, n4, ?_, Or.inl ⟨6, by decide, by rw [hK_pR, hK_nO, if_pos rfl], Or.inl rfl⟩, ?_⟩
  · rw [k2, hL_pR, hL_nO, k6]
    exact vp_in_nI hl (by omega)
  rintro _ rfl _ rfl
  have hq0 := p.fresh hq
  have e78 : fI (sR (pR (nO h q 6) q 79 (some x)) arr (fI h r 78).toNatClampNeg (some q)) r 78 = nI l.length := by rw [fI_sR, fI_pR, fI_nO, if_neg hrq]; exact k2
  rw [e78, k2, nI_cn (by omega), nI_1]
  have FR : ∀ a g, a ≠ q → fR (pI (sR (pR (nO h q 6) q 79 (some x)) arr l.length (some q)) r 78 (nI (l.length + 1))) a g = fR h a g := by
    intro a g hne
    rw [fR_pI, fR_sR, fR_pR, if_neg (fun e => hne e.1), fR_nO, if_neg hne]
  have HK : ∀ a, a ≠ q → hK (pI (sR (pR (nO h q 6) q 79 (some x)) arr l.length (some q)) r 78 (nI (l.length + 1))) a = hK h a := by
    intro a hne
    rw [hK_pI, hK_sR, hK_pR, hK_nO, if_neg hne]
  refine hQ _ ((((p.nO hq).pR hq0).sR n3).pI (Or.inl n1)) ⟨(HK r hrq).trans k1, ?_, ?_, k7, k8, arr, (FR r 77 hrq).trans ha, (HK arr haq).trans k5, ?_, fun i y hy => ?_⟩ ⟨n1, fun a e => ?_⟩ ?_ ?_ ⟨⟨Nat.le_succ _, Nat.le_add_right _ _⟩, HK r hrq, fun a hla hn hn2 => ?_, fun a e => Or.inl ((FR r 77 hrq).symm.trans e)⟩
  · rw [fI_pI, if_pos ⟨rfl, rfl⟩, List.length_append]; rfl
  · rw [List.length_append]; exact hl
  · rw [hL_pI, hL_sR, hL_pR, hL_nO]; exact k6
  · by_cases hi : i < l.length
    · rw [List.getElem?_append_left hi] at hy
      obtain ⟨sp, e1, e2, e3⟩ := k9 i y hy
      have hsq : sp ≠ q := fun e => by rw [e, hq] at e2; cases e2
      refine ⟨sp, ?_, (HK sp hsq).trans e2, (FR sp 79 hsq).trans e3⟩
      rw [aR_pI, aR_sR, if_neg (fun e => by omega), aR_pR, aR_nO]
      exact e1
    · rw [List.getElem?_append_right (by omega)] at hy
      have hi2 : i - l.length = 0 := by
        refine Classical.byContradiction fun hne => ?_
        rw [List.getElem?_eq_none (by simp; omega)] at hy
        cases hy
      rw [hi2] at hy
      cases hy
      have ei : i = l.length := by omega
      subst ei
      refine ⟨q, ?_, ?_, ?_⟩
      · rw [aR_pI, aR_sR, if_pos ⟨rfl, rfl⟩]
      · rw [hK_pI, hK_sR, hK_pR, hK_nO, if_pos rfl]
      · rw [fR_pI, fR_sR, fR_pR, if_pos ⟨rfl, rfl⟩]
  · cases (((FR r 77 hrq).symm.trans e).symm.trans ha)
    refine ⟨n3, n4, fun i sp e => ?_⟩
    rw [aR_pI, aR_sR] at e
    by_cases c : arr = arr ∧ i = l.length
    · rw [if_pos c] at e
      cases e
      exact ⟨hq0, by rw [hK_pI, hK_sR, hK_pR, hK_nO, if_pos rfl]⟩
    · rw [if_neg c, aR_pR, aR_nO] at e
      have := n5 i sp e
      exact ⟨this.1, (HK sp (fun e => by rw [e, hq] at this; cases this.2)).trans this.2⟩
  · rw [un_pI, un_sR, un_pR, un_nO]
    rfl
  · refine sA.le ?_
    refine ⟨⟨Nat.le_succ _, Nat.le_add_right _ _⟩, fun a ha' => ?_⟩
    have hna : a ≠ q := fun e => ha' (by rw [e]; exact hq)
    refine ⟨HK a hna, by rw [hL_pI, hL_sR, hL_pR, hL_nO], fun _ g hg => ⟨?_, ?_, FR a g hna⟩⟩
    · rw [fI_pI, if_neg ?_, fI_sR, fI_pR, fI_nO, if_neg hna]
      rintro ⟨_, rfl⟩
      exact absurd hg (by decide)
    · rw [fJ_pI, fJ_sR, fJ_pR, fJ_nO, if_neg hna]
  · have hna : a ≠ q := fun e => hla (by rw [e]; exact hq)
    have hnr : a ≠ arr := fun e => hn2 (by rw [e]; exact ha)
    refine ⟨HK a hna, by rw [hL_pI, hL_sR, hL_pR, hL_nO], rfl, rfl, ?_, fun g _ => ⟨?_, ?_, FR a g hna⟩⟩
    · funext y; rw [aR_pI, aR_sR, if_neg (fun e => hnr e.1), aR_pR, aR_nO]
    · rw [fI_pI, if_neg (fun e => hn e.1), fI_sR, fI_pR, fI_nO, if_neg hna]
    · rw [fJ_pI, fJ_sR, fJ_pR, fJ_nO, if_neg hna]
theorem FX.tr {h2 : AH} (a : FX h h' r) (b : FX h' h2 r) (hr : hK h r ≠ 0) : FX h h2 r := by
  obtain ⟨a1, a2, a3, a4⟩ := a
  obtain ⟨b1, b2, b3, b4⟩ := b
  refine ⟨⟨Nat.le_trans a1.1 b1.1, Nat.le_trans a1.2 b1.2⟩, b2.trans a2, fun x hx hne hn2 => ?_, fun x e => ?_⟩
  · obtain ⟨c1, c2, c3, c4, c5, c6⟩ := a3 x hx hne hn2
    have hx2 : fR h' r 77 ≠ some x := fun e => (a4 x e).elim hn2 hx
    obtain ⟨d1, d2, d3, d4, d5, d6⟩ := b3 x (by rw [c1]; exact hx) hne hx2
    refine ⟨d1.trans c1, d2.trans c2, d3.trans c3, d4.trans c4, d5.trans c5, fun g hg => ?_⟩
    obtain ⟨e1, e2, e3⟩ := c6 g hg
    obtain ⟨f1, f2, f3⟩ := d6 g hg
    exact ⟨f1.trans e1, f2.trans e2, f3.trans e3⟩
  · rcases b4 x e with e | e
    · exact a4 x e
    · refine Classical.byContradiction fun hn => ?_
      obtain ⟨q1, q2⟩ := not_or.mp hn
      by_cases hxr : x = r
      · rw [hxr, a2] at e
        exact hr e
      · exact q2 ((a3 x q2 hxr q1).1.symm.trans e)
theorem KP.fx (k : KP h h') (hr : hK h r ≠ 0) : FX h h' r := by
  refine ⟨k.1, (k.2 r hr).1, fun a ha _ _ => k.2 a ha, fun a e => Or.inl ?_⟩
  rw [((k.2 r hr).2.2.2.2.2 77 (by decide)).2.2] at e
  exact e
theorem Uk.tr {a : Nat} {h2 : AH} (x : Uk h h' a) (y : Uk h' h2 a) : Uk h h2 a := by
  obtain ⟨c1, c2, c3, c4, c5, c6⟩ := x
  obtain ⟨d1, d2, d3, d4, d5, d6⟩ := y
  refine ⟨d1.trans c1, d2.trans c2, d3.trans c3, d4.trans c4, d5.trans c5, fun g hg => ?_⟩
  obtain ⟨e1, e2, e3⟩ := c6 g hg
  obtain ⟨f1, f2, f3⟩ := d6 g hg
  exact ⟨f1.trans e1, f2.trans e2, f3.trans e3⟩
/-- the places of a greater array are filled -/
theorem row_24 {x q arr U : Nat} {Q : Outcome → AH → Prop} (ha0 : fR h r 77 = some arr) (hrl : hK h r = 6) (hq : hK h0 q = 0) (hNs : Ns (gW G) q) (hqf : hK h q = 0) (hn4 : 4 ≤ n) (hn : n < 100000) (hll : l.length = n) (hne : q ≠ arr) (hu : U + 17 ≤ UB) (hxl : hK h x ≠ 0)
    (hQ : ∀ h', KP h0 h' → RowC h' r (l ++ [x]) (2 * n) → RowN G h0 h' r → un h' = U + 17 → SoA G h' → FX h h' r → Q (.returned none) h') :
    ∀ f i h1, l.length - i < f → i ≤ l.length → KP h0 h1 → RowC h1 r l n → RowN G h0 h1 r → SoA G h1 → (hc h ≤ hc h1 ∧ hs h ≤ hs h1) → (∀ a, hK h a ≠ 0 → hK h1 a = hK h a) → (∀ a, hK h a ≠ 0 → a ≠ r → a ≠ arr → Uk h h1 a) → hK h1 q = 1004 → hL h1 q = 2 * n → fR h1 r 77 = some arr → (∀ j, j < i → aR h1 q j = aR h1 arr j) → (∀ j, i ≤ j → aR h1 q j = none) → un h1 = U →
    X G mX7_add (d + 2) none [] 24 [(0, .ref r), (1, .ref x), (2, .ref q), (3, .int (nI i))] [] h1 Q := by
  intro f
  induction f with
  | zero => intro i h1 hf; omega
  | succ f IH =>
    intro i h1 hf hi p k kn sA mo hkk fx qk ql qa qe qn hU
    obtain ⟨k1, k2, k3, k7, k8, arr', k4, k5, k6, k9⟩ := id k
    cases qa.symm.trans k4
    obtain ⟨n1, n2⟩ := id kn
    obtain ⟨n3, n4, n5⟩ := n2 arr qa
    have hra : r ≠ arr := fun e => by rw [e, k5] at k1; cases k1
    have hrq : r ≠ q := fun e => by rw [e, qk] at k1; cases k1
    refine bX7_add_24 G (d + 1) h1 _ _ _ _ _ ⟨k1, ?_⟩
    rw [k2, nI_leI (by omega) (by omega)]
    refine ⟨fun z => ?_, fun z => ?_⟩
    · rintro _ rfl
      have ei : i = l.length := by omega
      subst ei
      have FR : ∀ a g, ¬ (a = r ∧ g = 77) → fR (pR h1 r 77 (some q)) a g = fR h1 a g := fun a g hg => by rw [fR_pR, if_neg hg]
      have eq : fR (pR h1 r 77 (some q)) r 77 = some q := by rw [fR_pR, if_pos ⟨rfl, rfl⟩]
      have kc : RowC (pR h1 r 77 (some q)) r l (2 * n) := by
        refine ⟨k1, k2, by omega, by omega, by omega, q, eq, qk, ql, fun j y hy => ?_⟩
        obtain ⟨sp, e1, e2, e3⟩ := k9 j y hy
        have hj := (List.getElem?_eq_some_iff.mp hy).1
        exact ⟨sp, by rw [aR_pR, qe j hj]; exact e1, e2, (FR sp 79 (fun e => absurd e.2 (by decide))).trans e3⟩
      have kn2 : RowN G h0 (pR h1 r 77 (some q)) r := by
        refine ⟨n1, fun a e => ?_⟩
        cases eq.symm.trans e
        refine ⟨hq, hNs, fun j sp e => ?_⟩
        rw [aR_pR] at e
        by_cases hj : j < l.length
        · rw [qe j hj] at e; exact n5 j sp e
        · rw [qn j (by omega)] at e; cases e
      have sA2 : SoA G (pR h1 r 77 (some q)) := sA.le (pR_le (Or.inl (by decide)))
      refine ⟨q, eq, row_put kc kn2 (p.pR n1) sA2 eq (by omega) (show un (pR h1 r 77 (some q)) ≤ U by rw [un_pR]; omega) hu ?_ fun h' b1 b2 b3 b4 b5 b6 => hQ h' b1 b2 b3 (by rw [b4, un_pR, hU]) b5 ?_⟩
      · rw [hK_pR, hkk x hxl]; exact hxl
      · obtain ⟨c1, c2, c3, c4⟩ := b6
        refine ⟨⟨Nat.le_trans mo.1 c1.1, Nat.le_trans mo.2 c1.2⟩, ?_, fun a ha hn hn2 => ?_, fun a e => ?_⟩
        · rw [c2, hK_pR, hkk r (by rw [hrl]; decide)]
        · have hna : a ≠ arr := fun e => hn2 (by rw [e]; exact ha0)
          have hnq : a ≠ q := fun e => ha (by rw [e]; exact hqf)
          have u1 := fx a ha hn hna
          have u2 : Uk h1 (pR h1 r 77 (some q)) a := ⟨rfl, rfl, rfl, rfl, rfl, fun g _ => ⟨rfl, rfl, FR a g fun e => hn e.1⟩⟩
          have u3 := c3 a (by rw [hK_pR, hkk a ha]; exact ha) hn (by rw [eq]; intro e; cases e; exact hnq rfl)
          exact (u1.tr u2).tr u3
        · rcases c4 a e with e | e
          · cases eq.symm.trans e; exact Or.inr hqf
          · rw [hK_pR] at e
            exact Or.inr (Classical.byContradiction fun hn => hn ((hkk a hn).symm.trans e))
    · have hil : i < l.length := by omega
      obtain ⟨sp, e1, e2, e3⟩ := k9 i l[i] (List.getElem?_eq_getElem hil)
      rw [nI_cn (by omega)]
      refine ⟨arr, qa, k5, by rw [k6]; exact vp_in_nI (by omega) (by omega), sp, e1, qk, hNs, by rw [ql]; exact vp_in_nI (by omega) (by omega), Or.inl ⟨6, by decide, e2, Or.inl rfl⟩, ?_⟩
      rintro _ rfl _ rfl
      rw [nI_1]
      have AR : ∀ a j, ¬ (a = q ∧ j = i) → aR (sR h1 q i (some sp)) a j = aR h1 a j := fun a j hn => by rw [aR_sR, if_neg hn]
      refine IH (i + 1) _ (by omega) (by omega) (p.sR hq) ⟨k1, k2, k3, k7, k8, arr, qa, k5, k6, fun j y hy => ?_⟩ ⟨n1, fun a e => ?_⟩ (sA.le sR_le) mo hkk (fun a ha hn hn2 => ?_) qk ql qa (fun j hj => ?_) (fun j hj => ?_) hU
      · obtain ⟨sp', f1, f2, f3⟩ := k9 j y hy
        exact ⟨sp', by rw [AR arr j (fun e => hne e.1.symm)]; exact f1, f2, f3⟩
      · cases qa.symm.trans e
        exact ⟨n3, n4, fun j sp' e => n5 j sp' (by rw [← AR arr j (fun e => hne e.1.symm)]; exact e)⟩
      · have hnq : a ≠ q := fun e => ha (by rw [e]; exact hqf)
        obtain ⟨c1, c2, c3, c4, c5, c6⟩ := fx a ha hn hn2
        exact ⟨c1, c2, c3, c4, by rw [← c5]; funext y; exact AR a y (fun e => hnq e.1), c6⟩
      · rw [AR arr j (fun e => hne e.1.symm)]
        by_cases ej : j = i
        · subst ej
          rw [aR_sR, if_pos ⟨rfl, rfl⟩, e1]
        · rw [AR q j (fun e => ej e.2)]
          exact qe j (by omega)
      · rw [AR q j (fun e => by omega)]
        exact qn j (by omega)
/-- one more -/
theorem c_rowA {x U : Nat} (k : RowC h r l n) (kn : RowN G h0 h r) (p : KP h0 h) (sA : SoA G h) (hx : hK h x ≠ 0) (hn : l.length < 50000) (hU : un h + (12 * l.length - 6 * n) ≤ U) (hu : U + 29 ≤ UB) : C G mX7_add (d + 2) [.ref r, .ref x] h (fun o h' => o = .returned none ∧ KP h0 h' ∧ (∃ n', RowC h' r (l ++ [x]) n' ∧ un h' + (12 * (l.length + 1) - 6 * n') ≤ U + 29) ∧ RowN G h0 h' r ∧ SoA G h' ∧ FX h h' r) := by
  obtain ⟨k1, k2, k3, k7, k8, arr, k4, k5, k6, k9⟩ := id k
  refine bX7_add G (d + 1) h _ _ _ ⟨k1, arr, k4, k5, ?_⟩
  rw [k2, k6, show Int32.ofNat n = nI n from rfl, nI_eq (by omega) (by omega)]
  refine ⟨fun z => ?_, fun z => ?_⟩
  · have e2 : (2 : Int32) * nI l.length = nI (2 * l.length) := by
      rw [i_eq, i_mul, nI_toInt (by omega), nI_toInt (by omega)]
      · show (2 : Int) * _ = _; omega
      · rw [nI_toInt (by omega)]; show _ ≤ (2 : Int) * _; omega
      · rw [nI_toInt (by omega)]; show (2 : Int) * _ ≤ _; omega
    rw [e2, nI_cn (by omega)]
    have hr := un_rm (n := 2 * l.length) (h := h) (by omega)
    refine ⟨by rw [Int32.lt_iff_toInt_lt, nI_toInt (by omega)]; show ¬ (_ : Int) < 0; omega, hr.1, hr.2, fun q hq => ?_⟩
    rintro _ rfl
    have hne : q ≠ arr := fun e => by rw [← e, hq] at k5; cases k5
    have hrq : r ≠ q := fun e => by rw [e, hq] at k1; cases k1
    have pA : KP h (nA h q 4 (2 * l.length)) := KP.rf.nA hq
    refine row_24 (n := n) (h := h) (U := un h + 16 + 2 * l.length) k4 k1 (p.fresh hq) (sA.ns hq) hq k7 (by omega) z hne (by omega) hx (fun h' b1 b2 b3 b4 b5 b6 => ⟨rfl, b1, ⟨2 * n, b2, by rw [b4]; omega⟩, b3, b5, b6⟩) (l.length + 1) 0 _ (by omega) (by omega) (p.tr pA) (k.kp pA) (kn.kp k pA) (sA.le pA.le) pA.1 (fun a ha => (pA.2 a ha).1) (fun a ha _ _ => pA.2 a ha) ?_ ?_ ?_ (fun j hj => by omega) (fun j _ => ?_) ?_
    · rw [hK_nA, if_pos rfl]
    · rw [hL_nA, if_pos rfl, z]
    · rw [fR_nA]; exact k4
    · rw [aR_nA, if_pos rfl]
    · rw [un_nA]
  · refine ⟨arr, k4, ?_⟩
    have := row_put (d := d) (Q := fun o h' => o = .returned none ∧ KP h0 h' ∧ (∃ n', RowC h' r (l ++ [x]) n' ∧ un h' + (12 * (l.length + 1) - 6 * n') ≤ U + 29) ∧ RowN G h0 h' r ∧ SoA G h' ∧ FX h h' r) k kn p sA k4 (by omega) (Nat.le_refl _) (show un h + 17 ≤ UB by omega) hx fun h' b1 b2 b3 b4 b5 b6 => ⟨rfl, b1, ⟨n, b2, by rw [b4]; omega⟩, b3, b5, b6⟩
    rw [k2] at this
    exact this
theorem c_get {i x : Nat} (k : RowC h r l n) (hi : l[i]? = some x) : C G mX7_get d [.ref r, .int (nI i)] h (Ret (.ref x) h) := by
  obtain ⟨k1, k2, k3, k7, k8, arr, k4, k5, k6, k9⟩ := id k
  have hl := (List.getElem?_eq_some_iff.mp hi).1
  obtain ⟨sp, e1, e2, e3⟩ := k9 i x hi
  refine bX7_get G d h _ _ _ ⟨k1, arr, k4, k5, by rw [k6]; exact vp_in_nI (by omega) (by omega), sp, ?_, e2, x, e3, rfl, rfl⟩
  rw [nI_cn (by omega)]
  exact e1
end
