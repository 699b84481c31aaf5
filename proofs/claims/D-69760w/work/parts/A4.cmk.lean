/-! THE COMPONENT'S READER: new objects -/
/-- only the object q was written -/
def WQ (q : Nat) (h h' : AH) : Prop := (hc h' = hc h ∧ hs h' = hs h) ∧ (hK h' = hK h ∧ hL h' = hL h ∧ aI h' = aI h ∧ aJ h' = aJ h ∧ aR h' = aR h) ∧ ∀ a g, a ≠ q → fI h' a g = fI h a g ∧ fJ h' a g = fJ h a g ∧ fR h' a g = fR h a g
/-- trees and where they lie -/
def TL (ts : List (Nat × Nat × Nat)) (N : Nat → Prop) (h : AH) (l : List Tr) (bs : List Nat) : Prop := l.length = bs.length ∧ ∀ (i : Nat) (x : Tr) (b : Nat), l[i]? = some x → bs[i]? = some b → OT ts N h x 0 0 b
section
variable {G : Gh} {d : Nat} {h0 h h1 h' : AH} {ts : List (Nat × Nat × Nat)} {s : St} {D k i q a : Nat} {N N' : Nat → Prop}
theorem WQ.rf : WQ q h h := ⟨⟨rfl, rfl⟩, ⟨rfl, rfl, rfl, rfl, rfl⟩, fun _ _ _ => ⟨rfl, rfl, rfl⟩⟩
theorem WQ.pI {g : Nat} {v : Int32} (w : WQ q h h1) : WQ q h (pI h1 q g v) := by
  refine ⟨w.1, w.2.1, fun a g' hn => ?_⟩
  rw [fI_pI, if_neg (fun e => hn e.1), fJ_pI, fR_pI]
  exact w.2.2 a g' hn
theorem WQ.pR {g : Nat} {v : Option Nat} (w : WQ q h h1) : WQ q h (pR h1 q g v) := by
  refine ⟨w.1, w.2.1, fun a g' hn => ?_⟩
  rw [fR_pR, if_neg (fun e => hn e.1), fJ_pR, fI_pR]
  exact w.2.2 a g' hn
theorem WQ.uk (w : WQ q h h') (hn : a ≠ q) : Uk h h' a := by
  obtain ⟨w1, ⟨w2, w3, w4, w5, w6⟩, w7⟩ := w
  exact ⟨by rw [w2], by rw [w3], by rw [w4], by rw [w5], by rw [w6], fun g _ => w7 a g hn⟩
theorem WQ.kp (w : WQ q h h') (p : KP h0 h) (hq : hK h0 q = 0) : KP h0 h' := by
  refine ⟨by rw [w.1.1, w.1.2]; exact p.1, fun a ha => (p.2 a ha).tr (w.uk fun e => ha (by rw [e]; exact hq))⟩
theorem WQ.un (w : WQ q h h') : un h' = un h := by
  show hs h' + 16 * hc h' = hs h + 16 * hc h
  rw [w.1.1, w.1.2]
theorem WQ.ot {x : Tr} {b : Nat} (w : WQ q h h') (hN : ∀ a, N a → a ≠ q) (k : OT ts N h x 0 0 b) : OT ts N h' x 0 0 b :=
  OT.mv (fun a ha _ => ⟨w.uk (hN a ha), ha⟩) x 0 0 b (Or.inl rfl) (fun q => by omega) (fun q => by omega) (fun q => by omega) k
theorem WQ.cs (w : WQ q h h') (c : CS G h ts D s) (hn : ∀ i, i < 10 → gW G i ≠ q) : CS G h' ts D s := by
  have h7 := hn 7 (by decide)
  obtain ⟨c1, c2, c3, c4, c5, c6, c7⟩ := id c
  obtain ⟨w1, ⟨w2, w3, w4, w5, w6⟩, w7⟩ := w
  have so : ∀ i, i < 10 → So i (gW G) h' := by
    intro i hi
    have := c1.at hi
    refine ⟨by rw [w2]; exact this.1, fun j x hx hg => ?_⟩
    rw [(w7 (gW G i) x.1 (hn i hi)).2.2, w2, w3]
    exact this.2 j x hx hg
  refine ⟨⟨so 0 (by decide), so 1 (by decide), so 2 (by decide), so 3 (by decide), so 4 (by decide), so 5 (by decide), so 6 (by decide), so 7 (by decide), so 8 (by decide), so 9 (by decide)⟩, ⟨?_, fun i t ht => ?_⟩, c3, ⟨?_, c4.2⟩, ⟨?_, c5.2⟩, ⟨?_, c6.2⟩, ⟨?_, c7.2⟩⟩
  · rw [(w7 (gW G 1) 28 (hn 1 (by decide))).1]; exact c2.1
  · have := c2.2 i t ht
    unfold TokE at this ⊢
    rw [w4, w5]
    exact this
  · rw [(w7 (gW G 7) 115 h7).1]; exact c4.1
  · rw [(w7 (gW G 7) 116 h7).1]; exact c5.1
  · rw [(w7 (gW G 7) 117 h7).1]; exact c6.1
  · rw [(w7 (gW G 7) 118 h7).1]; exact c7.1
/-- a cell that is none of the objects of which there is one -/
theorem SoA.nw (sA : SoA G h) (hq : hK h q = 0) : ∀ i, i < 10 → gW G i ≠ q := by
  intro i hi e
  have := (sA.at hi).1
  rw [e, hq] at this
  have : ∀ i, i < 10 → swC.getD i 0 ≠ 0 := by decide +kernel
  exact this i hi (by omega)
theorem OT_ef {x : Tr} {m m' i i' : Nat} (e : ef m i = (m', i')) (hm : m' < 2000) : OT ts N h x m i a ↔ OT ts N h x m' i' a := by
  have e2 := ef_lt (i := i') hm
  cases x with
  | num v => unfold OT; rw [e, e2]
  | mulL k y => unfold OT; rw [e, e2]
  | add x y =>
    unfold OT
    rw [e, e2]
    simp only [show ¬ (2000 ≤ m') by omega, if_false]
  | var _ => unfold OT; exact Iff.rfl
  | sub _ _ => unfold OT; exact Iff.rfl
  | neg _ => unfold OT; exact Iff.rfl
  | mulR _ _ => unfold OT; exact Iff.rfl
theorem OT_c2 {x y : Tr} {m : Nat} (hm : 2000 ≤ m) (e : ef m 0 = (m, 0)) (hx : OT ts N h x ((cs ((m - 2000) / 8)).getD ((m - 2000) % 8) (7, 0)).1 ((cs ((m - 2000) / 8)).getD ((m - 2000) % 8) (7, 0)).2 a) (hy : OT ts N h y (m + 1) 0 a) : OT ts N h (.add x y) m 0 a := by
  unfold OT
  rw [e, if_neg (by omega), if_neg (by omega), if_pos hm]
  exact ⟨hx, hy⟩
/-- a node where a pointer leads -/
theorem OT_og {x : Tr} {m i b : Nat} (hm : m = 1 ∨ m = 2 ∨ m = 3 ∨ m = 5 ∨ m = 6) (e : og h m i a = some b) (k : OT ts N h x 0 0 b) : OT ts N h x m i a := by
  cases x with
  | mulL kk y =>
    unfold OT at k ⊢
    obtain ⟨b', k1, k2⟩ := k
    rw [ef_lt (by omega)] at k1 ⊢
    cases k1
    exact ⟨b, e, k2⟩
  | num v => unfold OT at k; rw [ef_lt (by omega)] at k; simp at k
  | add _ _ => unfold OT at k; rw [ef_lt (by omega)] at k; simp at k
  | var _ => unfold OT at k; exact k.elim
  | sub _ _ => unfold OT at k; exact k.elim
  | neg _ => unfold OT at k; exact k.elim
  | mulR _ _ => unfold OT at k; exact k.elim
theorem OT_f {x : Tr} {g b : Nat} (e : fR h a g = some b) (k : OT ts N h x 0 0 b) : OT ts N h x 1 g a := OT_og (Or.inl rfl) (by unfold og; rw [if_neg (by decide), if_pos (Or.inl rfl)]; exact e) k
theorem OT_f5 {x : Tr} {g b : Nat} (e : fR h a g = some b) (k : OT ts N h x 0 0 b) : OT ts N h x 5 g a := OT_og (by omega) (by unfold og; rw [if_neg (by decide), if_pos (Or.inr rfl)]; exact e) k
theorem OT_50 {g : Nat} (e : fR h a g = none) : OT ts N h (.num 0) 5 g a := by
  unfold OT
  rw [ef_lt (by decide)]
  simpa using e
theorem OT_7 {x : Tr} {i : Nat} (hx : (∃ v, x = .num v) ∨ ∃ y z, x = .add y z) : OT ts N h x 7 i a := by
  rcases hx with ⟨v, rfl⟩ | ⟨y, z, rfl⟩
  · unfold OT; rw [ef_lt (by decide)]; simp
  · unfold OT; rw [ef_lt (by decide)]; simp
theorem TL.cons {x : Tr} {l : List Tr} {b : Nat} {bs : List Nat} (k : TL ts N h (x :: l) (b :: bs)) : OT ts N h x 0 0 b ∧ TL ts N h l bs :=
  ⟨k.2 0 x b rfl rfl, by have := k.1; simpa using this, fun i y c hy hc => k.2 (i + 1) y c (by simpa using hy) (by simpa using hc)⟩
theorem TL.snoc {x : Tr} {l : List Tr} {b : Nat} {bs : List Nat} (k : TL ts N h l bs) (hx : OT ts N h x 0 0 b) : TL ts N h (l ++ [x]) (bs ++ [b]) := by
  refine ⟨by simp [k.1], fun i y c hy hc => ?_⟩
  by_cases hi : i < l.length
  · rw [List.getElem?_append_left hi] at hy
    rw [List.getElem?_append_left (by rw [← k.1]; exact hi)] at hc
    exact k.2 i y c hy hc
  · rw [List.getElem?_append_right (by omega)] at hy
    rw [List.getElem?_append_right (by rw [← k.1]; omega), ← k.1] at hc
    have : i - l.length = 0 := by
      refine Classical.byContradiction fun hne => ?_
      rw [List.getElem?_eq_none (by simp; omega)] at hy
      cases hy
    rw [this] at hy hc
    cases hy
    cases hc
    exact hx
theorem TL.nil : TL ts N h [] [] := ⟨rfl, fun i x b hx => by simp at hx⟩
theorem TL.mv {l : List Tr} {bs : List Nat} (hN : ∀ a, N a → hK h a ≠ 0 → Uk h h' a ∧ N' a) (k : TL ts N h l bs) : TL ts N' h' l bs :=
  ⟨k.1, fun i x b hx hb => OT.mv hN x 0 0 b (Or.inl rfl) (fun q => by omega) (fun q => by omega) (fun q => by omega) (k.2 i x b hx hb)⟩
theorem len_ls' (l : List Tr) : len (ls l) = l.length := len_ls l
/-- a list in an array -/
theorem OT_arr' {arr : Nat} : ∀ (l : List Tr) (bs : List Nat) (i : Nat), TL ts N h l bs → hL h arr = i + l.length → (∀ j b, bs[j]? = some b → aR h arr (i + j) = some b) → OT ts N h (ls l) 11 i arr := by
  intro l
  induction l with
  | nil =>
    intro bs i k hl _
    unfold ls OT
    rw [ef_lt (by decide)]
    simpa using hl
  | cons x l ih =>
    intro bs i k hl ha
    cases bs with
    | nil => have := k.1; simp at this
    | cons b bs =>
      obtain ⟨k1, k2⟩ := k.cons
      unfold ls OT
      rw [ef_lt (by decide)]
      simp only [show ¬ (11 = 7) by decide, show ¬ (1000 ≤ 11 ∧ 11 < 2000) by decide, show ¬ (2000 ≤ 11) by decide, if_false, if_true]
      refine ⟨OT_og (Or.inr (Or.inl rfl)) ?_ k1, ih bs (i + 1) k2 (by simp at hl; omega) fun j c hc => ?_⟩
      · have := ha 0 b rfl
        unfold og
        rw [if_neg (by decide), if_neg (by decide), if_pos rfl]
        exact this
      · have := ha (j + 1) c (by simpa using hc)
        rw [show i + 1 + j = i + (j + 1) by omega]
        exact this
theorem OT_arr {arr g : Nat} {l : List Tr} {bs : List Nat} (k : TL ts N h l bs) (hf : ArF N h a g arr) (hl : hL h arr = l.length) (ha : ∀ j b, bs[j]? = some b → aR h arr j = some b) : OT ts N h (ls l) 21 g a := by
  cases l with
  | nil =>
    unfold ls OT
    rw [ef_lt (by decide)]
    simp only [show ¬ (21 = 7 ∨ 1000 ≤ 21 ∧ 21 < 2000) by decide, show ¬ (21 = 5) by decide, show ¬ (21 = 11 ∨ 21 = 13) by decide, show ¬ (21 = 12) by decide, show (21 = 21 ∨ 21 = 23) by decide, if_false, if_true]
    exact ⟨trivial, arr, hf, hl⟩
  | cons x l =>
    have := OT_arr' (x :: l) bs 0 k (by rw [hl]; simp) (fun j b hb => by rw [Nat.zero_add]; exact ha j b hb)
    unfold ls OT at this ⊢
    rw [ef_lt (by decide)] at this ⊢
    simp only [show ¬ (11 = 7) by decide, show ¬ (1000 ≤ 11 ∧ 11 < 2000) by decide, show ¬ (2000 ≤ 11) by decide, if_false, if_true] at this
    simp only [show ¬ (21 = 7) by decide, show ¬ (1000 ≤ 21 ∧ 21 < 2000) by decide, show ¬ (2000 ≤ 21) by decide, show ¬ (21 = 11) by decide, show ¬ (21 = 12) by decide, show ¬ (21 = 13) by decide, show ¬ (21 = 30) by decide, if_false, if_true]
    exact ⟨arr, hf, this⟩
/-- a list in a row -/
theorem OT_row' {r : Nat} : ∀ (l : List Tr) (bs : List Nat) (i : Nat), TL ts N h l bs → fI h r 78 = nI (i + l.length) → (∀ j b, bs[j]? = some b → rowAt h r (i + j) = some b) → OT ts N h (ls l) 12 i r := by
  intro l
  induction l with
  | nil =>
    intro bs i k hl _
    unfold ls OT
    rw [ef_lt (by decide)]
    simpa using hl
  | cons x l ih =>
    intro bs i k hl ha
    cases bs with
    | nil => have := k.1; simp at this
    | cons b bs =>
      obtain ⟨k1, k2⟩ := k.cons
      unfold ls OT
      rw [ef_lt (by decide)]
      simp only [show ¬ (12 = 7) by decide, show ¬ (1000 ≤ 12 ∧ 12 < 2000) by decide, show ¬ (2000 ≤ 12) by decide, show ¬ (12 = 11) by decide, if_false, if_true]
      refine ⟨OT_og (Or.inr (Or.inr (Or.inl rfl))) ?_ k1, ih bs (i + 1) k2 (by rw [hl]; congr 1; simp; omega) fun j c hc => ?_⟩
      · have := ha 0 b rfl
        unfold og
        rw [if_neg (by decide), if_neg (by decide), if_neg (by decide), if_pos rfl]
        exact this
      · have := ha (j + 1) c (by simpa using hc)
        rw [show i + 1 + j = i + (j + 1) by omega]
        exact this
theorem RowC.at {r n : Nat} {bs : List Nat} (c : RowC h r bs n) {j b : Nat} (hb : bs[j]? = some b) : rowAt h r j = some b := by
  obtain ⟨k1, k2, k3, k7, k8, arr, k4, k5, k6, k9⟩ := c
  obtain ⟨sp, e1, e2, e3⟩ := k9 j b hb
  unfold rowAt
  rw [k4]
  show (aR h arr j).bind _ = _
  rw [e1]
  exact e3
theorem OT_row {r g n : Nat} {l : List Tr} {bs : List Nat} (k : TL ts N h l bs) (hf : fR h a g = some r) (c : RowC h r bs n) (hN : N r ∧ ∀ arr, fR h r 77 = some arr → N arr ∧ ∀ i sp, aR h arr i = some sp → N sp ∧ hK h sp = 7) : OT ts N h (ls l) 22 g a := by
  have hl : RowL N h r l.length := ⟨bs, n, k.1.symm, c, hN.1, hN.2⟩
  cases l with
  | nil =>
    unfold ls OT
    rw [ef_lt (by decide)]
    simp only [show ¬ (22 = 7 ∨ 1000 ≤ 22 ∧ 22 < 2000) by decide, show ¬ (22 = 5) by decide, show ¬ (22 = 11 ∨ 22 = 13) by decide, show ¬ (22 = 12) by decide, show ¬ (22 = 21 ∨ 22 = 23) by decide, if_false, if_true]
    exact ⟨trivial, r, hf, hl⟩
  | cons x l =>
    have := OT_row' (x :: l) bs 0 k (by rw [c.2.1, ← k.1]; simp) (fun j b hb => by rw [Nat.zero_add]; exact c.at hb)
    unfold ls OT at this ⊢
    rw [ef_lt (by decide)] at this ⊢
    simp only [show ¬ (12 = 7) by decide, show ¬ (1000 ≤ 12 ∧ 12 < 2000) by decide, show ¬ (2000 ≤ 12) by decide, show ¬ (12 = 11) by decide, if_false, if_true] at this
    simp only [show ¬ (22 = 7) by decide, show ¬ (1000 ≤ 22 ∧ 22 < 2000) by decide, show ¬ (2000 ≤ 22) by decide, show ¬ (22 = 11) by decide, show ¬ (22 = 12) by decide, show ¬ (22 = 13) by decide, show ¬ (22 = 30) by decide, show ¬ (22 = 21) by decide, show ¬ (22 = 23) by decide, if_false, if_true]
    exact ⟨r, hf, by rw [len_ls]; exact hl, this⟩
/-- a node: its children stand behind its token -/
theorem OT_ndg {t : Nat} {y : Tr} (hq : N q) (hk : hK h q ∈ kc k) (hx : EX ts N h k q (.add (.num t) y)) (hy : OT ts N h y (2000 + 8 * k) 0 q) (hk2 : k < 1000) (h19 : G19 N h k q) : OT ts N h (n1 k t y) 0 0 q := by
  unfold n1 OT
  rw [ef_lt (by decide)]
  have e : ((k : Nat) : Int).toNat = k := by omega
  rw [e]
  refine ⟨q, rfl, hq, by omega, hk, hx, ?_, h19⟩
  unfold OT
  rw [ef_lt (by omega)]
  simp only [show ¬ (1000 + k = 7) by omega, show 1000 ≤ 1000 + k ∧ 1000 + k < 2000 by omega, if_false, if_true, show 1000 + k - 1000 = k by omega]
  exact hy
theorem OT_nd {t : Nat} {y : Tr} (hq : N q) (hk : hK h q ∈ kc k) (hx : EX ts N h k q (.add (.num t) y)) (hy : OT ts N h y (2000 + 8 * k) 0 q) (hk2 : k < 1000) (h19 : k ≠ 19 := by decide) : OT ts N h (n1 k t y) 0 0 q := OT_ndg hq hk hx hy hk2 fun e => absurd e h19
theorem OT_nd0 {t : Nat} (hq : N q) (hk : hK h q ∈ kc k) (hx : EX ts N h k q (.num t)) (hk2 : k < 1000) (h19 : k ≠ 19 := by decide) : OT ts N h (n0 k t) 0 0 q := by
  unfold n0 OT
  rw [ef_lt (by decide)]
  have e : ((k : Nat) : Int).toNat = k := by omega
  rw [e]
  refine ⟨q, rfl, hq, by omega, hk, hx, ?_, fun e => absurd e h19⟩
  unfold OT
  rw [ef_lt (by omega)]
  simp only [show (1000 + k = 7 ∨ 1000 ≤ 1000 + k ∧ 1000 + k < 2000) by omega, if_true]
end
