/-! THE COMPONENT'S CHECKS OF CLAUSES: rows on the pile -/
/-- the pile from a place on was changed -/
def Pf (pa top : Nat) (h h' : AH) : Prop := (hK h' = hK h ∧ hL h' = hL h ∧ fI h' = fI h ∧ fJ h' = fJ h ∧ fR h' = fR h) ∧ (aJ h' = aJ h ∧ aR h' = aR h) ∧ (hc h' = hc h ∧ hs h' = hs h) ∧ ∀ a i, (a ≠ pa ∨ i < top) → aI h' a i = aI h a i
/-- the pile -/
def PiW (G : Gh) (h : AH) (pa : Nat) : Prop := SoA G h ∧ fR h (gW G 5) 103 = some pa ∧ hK h pa = 1000 ∧ Ns (gW G) pa ∧ hL h pa = 220000
/-- a row of shapes -/
def PRw (G : Gh) (h : AH) (nd np pa at' f : Nat) (r : List Tr) : Prop := ∀ (k : Nat) (y : Tr), r[k]? = some y → ∃ i, aI h pa (at' + k) = nI i ∧ SR G h nd np f y i
/-- rows of shapes -/
def MR (G : Gh) (h : AH) (nd np pa fr cols f : Nat) (rows : List (List Tr)) : Prop := ∀ (j : Nat) (r : List Tr), rows[j]? = some r → r.length = cols ∧ PRw G h nd np pa (fr + j * cols) f r
section
variable {G : Gh} {d nd np pa top top1 at' f f' cols fr n row ip q : Nat} {h h1 h2 h' : AH} {r ps : List Tr} {p : Tr} {rows : List (List Tr)}
theorem Pf.rf : Pf pa top h h := ⟨⟨rfl, rfl, rfl, rfl, rfl⟩, ⟨rfl, rfl⟩, ⟨rfl, rfl⟩, fun _ _ _ => rfl⟩
theorem Pf.tr (a : Pf pa top h h1) (b : Pf pa top1 h1 h2) (e : top ≤ top1) : Pf pa top h h2 := by
  obtain ⟨⟨a1, a2, a3, a4, a5⟩, ⟨a6, a7⟩, ⟨a8, a9⟩, a10⟩ := a
  obtain ⟨⟨b1, b2, b3, b4, b5⟩, ⟨b6, b7⟩, ⟨b8, b9⟩, b10⟩ := b
  exact ⟨⟨b1.trans a1, b2.trans a2, b3.trans a3, b4.trans a4, b5.trans a5⟩, ⟨b6.trans a6, b7.trans a7⟩, ⟨b8.trans a8, b9.trans a9⟩, fun a i hi => (b10 a i (hi.imp id fun z => by omega)).trans (a10 a i hi)⟩
theorem Pf.sI {i : Nat} {v : Int32} (a : Pf pa top h h1) (e : top ≤ i) : Pf pa top h (sI h1 pa i v) := by
  obtain ⟨a1, a2, a3, a4⟩ := a
  refine ⟨a1, a2, a3, fun a j hj => ?_⟩
  rw [aI_sI, if_neg fun z => by rcases hj with w | w; exact w z.1; omega]
  exact a4 a j hj
theorem Pf.le (a : Pf pa top h h') : Le h h' none := by
  obtain ⟨⟨a1, a2, a3, a4, a5⟩, -, ⟨a8, a9⟩, -⟩ := a
  refine ⟨⟨by rw [a8]; exact Nat.le_refl _, by rw [a9]; exact Nat.le_refl _⟩, fun x _ => ⟨by rw [a1], by rw [a2], fun _ g _ => ⟨by rw [a3], by rw [a4], by rw [a5]⟩⟩⟩
theorem Pf.pw (a : Pf pa top h h') (k : PiW G h pa) : PiW G h' pa := by
  obtain ⟨k1, k2, k3, k4, k5⟩ := k
  exact ⟨k1.le a.le, by rw [a.1.2.2.2.2]; exact k2, by rw [a.1.1]; exact k3, k4, by rw [a.1.2.1]; exact k5⟩
theorem PiW.ne (k : PiW G h pa) : ∀ i, i ∈ [1096, 1097, 1098, 1099, 1100] → gW G i ≠ pa := by
  intro i hi e
  have w : ∀ i, i ∈ [1096, 1097, 1098, 1099, 1100] → SA.testBit (i - 1000) = true ∧ i = 1000 + (i - 1000) := by decide +kernel
  obtain ⟨w1, w2⟩ := w i hi
  exact k.2.2.2.1 _ w1 (by rw [← w2]; exact e.symm)
theorem Pf.sm (a : Pf pa top h h') (k : PiW G h pa) : Sm G nd np h h' := ⟨fun i _ => ⟨a.2.2.2 _ _ (Or.inl (k.ne _ (by decide))), a.2.2.2 _ _ (Or.inl (k.ne _ (by decide))), a.2.2.2 _ _ (Or.inl (k.ne _ (by decide))), a.2.2.2 _ _ (Or.inl (k.ne _ (by decide)))⟩, fun i _ => a.2.2.2 _ _ (Or.inl (k.ne _ (by decide)))⟩
theorem Pf.sr (a : Pf pa top h h') (k : PiW G h pa) {x : Tr} {i : Nat} (s : SR G h nd np f x i) : SR G h' nd np f x i := SR.mv (a.sm k) (Nat.le_refl _) (Nat.le_refl _) _ _ _ s
theorem Pf.pr (a : Pf pa top h h') (k : PiW G h pa) (s : PRw G h nd np pa at' f r) (e : at' + r.length ≤ top) : PRw G h' nd np pa at' f r := fun j y hy => by
  obtain ⟨i, i1, i2⟩ := s j y hy
  have := (List.getElem?_eq_some_iff.mp hy).1
  exact ⟨i, by rw [a.2.2.2 pa _ (Or.inr (by omega))]; exact i1, a.sr k i2⟩
theorem row_le {j m c : Nat} (h : j < m) : j * c + c ≤ m * c := by
  rw [← Nat.succ_mul]
  exact Nat.mul_le_mul_right _ h
theorem Pf.mr (a : Pf pa top h h') (k : PiW G h pa) (s : MR G h nd np pa fr cols f rows) (e : fr + rows.length * cols ≤ top) : MR G h' nd np pa fr cols f rows := fun j r hr => by
  obtain ⟨s1, s2⟩ := s j r hr
  have hj := (List.getElem?_eq_some_iff.mp hr).1
  have := row_le (c := cols) hj
  exact ⟨s1, a.pr k s2 (by omega)⟩
/-- a row's parts are laid -/
theorem c_laid (k0 : PiW G h pa) (hps : ps.length = n) (hsh : (ip = 0 ∧ ∀ y, y ∈ ps → y = .num 0) ∨ (0 < ip ∧ ip < 1000 ∧ ∃ fs, aI h (gW G 1098) ip = nI fs ∧ fs + n ≤ 1000 ∧ ∀ (k : Nat) (y : Tr), ps[k]? = some y → ∃ j, aI h (gW G 1100) (fs + k) = nI j ∧ SR G h nd np f y j)) (hf : 1 ≤ f) (hr : PRw G h nd np pa row f (p :: r)) (h1 : row + r.length + 1 ≤ at') (h2 : at' + n + r.length ≤ 220000) : C G mX10_laid d [.ref (gW G 5), .int (nI ip), .int (nI n), .int (nI row), .int (nI (r.length + 1)), .int (nI at')] h (fun o h' => o = .returned (some (.int (nI (at' + n + r.length)))) ∧ Pf pa at' h h' ∧ PRw G h' nd np pa at' f (ps ++ r)) := by
  have lp2 : ∀ (e k : Nat) (hh : AH), k + 1 + e = r.length + 1 → Pf pa at' h hh → (∀ (j : Nat) (y : Tr), j < n + k → (ps ++ r)[j]? = some y → ∃ i, aI hh pa (at' + j) = nI i ∧ SR G hh nd np f y i) →
      X G mX10_laid d none [] 54 [(0, .ref (gW G 5)), (3, .int (nI row)), (4, .int (nI (r.length + 1))), (6, .int (nI (at' + n + k))), (7, .int (nI (k + 1)))] [] hh (fun o h' => o = .returned (some (.int (nI (at' + n + r.length)))) ∧ Pf pa at' h h' ∧ PRw G h' nd np pa at' f (ps ++ r)) := by
    intro e
    induction e with
    | zero =>
      intro k hh he P hk
      have kk := P.pw k0
      have ek : k = r.length := by omega
      refine bX10_laid_54 G d hh _ _ _ _ _ (kk.1.at (by decide)) ?_
      rw [nI_leI (by omega) (by omega)]
      refine ⟨fun _ => ⟨by rw [ek], P, fun j y hy => ?_⟩, fun z => absurd (by omega) z⟩
      have := (List.getElem?_eq_some_iff.mp hy).1
      rw [List.length_append, hps] at this
      exact hk j y (by omega) hy
    | succ e IH =>
      intro k hh he P hk
      have kk := P.pw k0
      obtain ⟨w1, w2, w3, w4, w5⟩ := id kk
      obtain ⟨y, hy⟩ : ∃ y, r[k]? = some y := ⟨_, List.getElem?_eq_getElem (by omega)⟩
      obtain ⟨i, i1, i2⟩ := hr (k + 1) y (by rw [List.getElem?_cons_succ]; exact hy)
      refine bX10_laid_54 G d hh _ _ _ _ _ (kk.1.at (by decide)) ?_
      rw [nI_leI (by omega) (by omega)]
      refine ⟨fun z => by omega, fun _ => ⟨pa, w2, pa, w2, w3, ?_⟩⟩
      rw [nI_add, nI_cn (by omega), nI_cn (by omega), w5]
      refine ⟨vp_i (by omega) (by omega), w3, w4, vp_i (by omega) (by omega), ?_⟩
      rintro h10 e10 _ rfl _ rfl
      rw [nI_1, nI_1]
      rw [P.2.2.2 pa _ (Or.inr (by omega)), i1] at e10
      have P10 : Pf pa at' h h10 := by rw [e10]; exact P.sI (by omega)
      have Ph : Pf pa (at' + n + k) hh h10 := by rw [e10]; exact Pf.rf.sI (Nat.le_refl _)
      refine IH (k + 1) h10 (by omega) P10 fun j z hj hz => ?_
      by_cases c : j = n + k
      · rw [c, List.getElem?_append_right (by omega), show n + k - ps.length = k by omega, hy] at hz
        cases hz
        exact ⟨i, by rw [e10, aI_sI, if_pos ⟨rfl, by omega⟩], P10.sr k0 i2⟩
      · obtain ⟨i', j1, j2⟩ := hk j z (by omega) hz
        exact ⟨i', by rw [Ph.2.2.2 pa _ (Or.inr (by omega))]; exact j1, Ph.sr kk j2⟩
  have lp1 : ∀ (e k : Nat) (hh : AH), k + e = n → Pf pa at' h hh → (∀ (j : Nat) (y : Tr), j < k → ps[j]? = some y → ∃ i, aI hh pa (at' + j) = nI i ∧ SR G hh nd np f y i) →
      X G mX10_laid d none [] 7 [(0, .ref (gW G 5)), (1, .int (nI ip)), (2, .int (nI n)), (3, .int (nI row)), (4, .int (nI (r.length + 1))), (6, .int (nI (at' + k))), (7, .int (nI k))] [] hh (fun o h' => o = .returned (some (.int (nI (at' + n + r.length)))) ∧ Pf pa at' h h' ∧ PRw G h' nd np pa at' f (ps ++ r)) := by
    intro e
    induction e with
    | zero =>
      intro k hh he P hk
      have kk := P.pw k0
      have ek : k = n := by omega
      refine bX10_laid_7 G d hh _ _ _ _ _ _ _ (kk.1.at (by decide)) ?_
      rw [nI_leI (by omega) (by omega)]
      refine ⟨fun _ => ?_, fun z => absurd (by omega) z⟩
      have := lp2 r.length 0 hh (by omega) P (fun j y hj hy => hk j y (by omega) (by rw [List.getElem?_append_left (by omega)] at hy; exact hy))
      rw [Nat.add_zero] at this
      rw [ek]
      exact this
    | succ e IH =>
      intro k hh he P hk
      have kk := P.pw k0
      obtain ⟨w1, w2, w3, w4, w5⟩ := id kk
      obtain ⟨y, hy⟩ : ∃ y, ps[k]? = some y := ⟨_, List.getElem?_eq_getElem (by omega)⟩
      refine bX10_laid_7 G d hh _ _ _ _ _ _ _ (kk.1.at (by decide)) ?_
      rw [nI_leI (by omega) (by omega)]
      refine ⟨fun z => by omega, fun _ => ⟨pa, w2, ?_⟩⟩
      have go : ∀ (h9 : AH) (i : Nat), h9 = sI hh pa (at' + k) (nI i) → SR G hh nd np f y i → X G mX10_laid d none [] 7 [(0, .ref (gW G 5)), (1, .int (nI ip)), (2, .int (nI n)), (3, .int (nI row)), (4, .int (nI (r.length + 1))), (6, .int (nI (at' + (k + 1)))), (7, .int (nI (k + 1)))] [] h9 (fun o h' => o = .returned (some (.int (nI (at' + n + r.length)))) ∧ Pf pa at' h h' ∧ PRw G h' nd np pa at' f (ps ++ r)) := by
        intro h9 i e9 si
        have P9 : Pf pa at' h h9 := by rw [e9]; exact P.sI (by omega)
        have Ph : Pf pa (at' + k) hh h9 := by rw [e9]; exact Pf.rf.sI (Nat.le_refl _)
        refine IH (k + 1) h9 (by omega) P9 fun j z hj hz => ?_
        by_cases c : j = k
        · rw [c, hy] at hz
          cases hz
          exact ⟨i, by rw [e9, aI_sI, if_pos ⟨rfl, by omega⟩], Ph.sr kk si⟩
        · obtain ⟨i', j1, j2⟩ := hk j z (by omega) hz
          exact ⟨i', by rw [Ph.2.2.2 pa _ (Or.inr (by omega))]; exact j1, Ph.sr kk j2⟩
      rw [nI_cn (by omega), w5]
      rcases hsh with ⟨e0, hs⟩ | ⟨e0, e1, fs, e2, e3, hs⟩
      · refine ⟨fun _ => ⟨w3, w4, vp_i (by omega) (by omega), ?_⟩, fun z => absurd (by rw [e0]; rfl) z⟩
        rintro h16 e16 _ rfl _ rfl
        rw [nI_1, nI_1, Nat.add_assoc]
        refine go h16 0 e16 ?_
        rw [hs y (List.mem_of_getElem? hy)]
        cases f with
        | zero => omega
        | succ f => exact Or.inl ⟨rfl, rfl⟩
      · refine ⟨fun z => absurd z (nI_ne0 e0 (by omega)), fun _ => ⟨vp_i e1 (by omega), ?_⟩⟩
        obtain ⟨j, j1, j2⟩ := hs k y hy
        have m := P.sm (nd := nd) (np := 1000) k0
        have e98 : aI hh (gW G 1098) ip = nI fs := by rw [P.2.2.2 _ _ (Or.inl (k0.ne 1098 (by decide)))]; exact e2
        have e00 : aI hh (gW G 1100) (fs + k) = nI j := by rw [P.2.2.2 _ _ (Or.inl (k0.ne 1100 (by decide)))]; exact j1
        rw [nI_cn (by omega), e98, nI_add, nI_cn (by omega), e00]
        refine ⟨vp_i (by omega) (by omega), w3, w4, vp_i (by omega) (by omega), ?_⟩
        rintro h9 e9 _ rfl _ rfl
        rw [nI_1, nI_1, Nat.add_assoc]
        exact go h9 j e9 (P.sr k0 j2)
  exact bX10_laid G d h _ _ _ _ _ _ (lp1 n 0 h (by omega) Pf.rf fun j y hj => by omega)
end
