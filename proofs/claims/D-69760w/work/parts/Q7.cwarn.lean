/-! THE COMPONENT'S CHECKS OF CLAUSES: warnings -/
def wAt (ws : List (Nat × Nat)) (p : Nat) : Nat → Nat
  | 0 => 0
  | k + 1 => if p < (ws.getD k (0, 0)).1 then wAt ws p k else k + 1
/-- a warning comes in, behind all that stand no later -/
def wIns (ws : List (Nat × Nat)) (x : Nat × Nat) : List (Nat × Nat) := ws.take (wAt ws x.1 ws.length) ++ x :: ws.drop (wAt ws x.1 ws.length)
def MsW (G : Gh) (h : AH) (ws : List (Nat × Nat)) : Prop := fI h (gW G 5) 106 = nI ws.length ∧ ws.length ≤ 1900 ∧ (∀ x, x ∈ ws → x.1 < 5000 ∧ x.2 < 5000) ∧ ∀ (i : Nat) (x : Nat × Nat), ws[i]? = some x → aI h (gW G 1104) i = nI x.1 ∧ aI h (gW G 1105) i = nI x.2
def MaD : List Nat := [5, 1096, 1097, 1098, 1099, 1100, 1104, 1105, 1107]
/-- what the checks leave -/
def FMa (G : Gh) (h h' : AH) : Prop := (∀ a, hK h a ≠ 0 → (∀ i, i ∈ MaD → a ≠ gW G i) → fR h (gW G 5) 103 ≠ some a → Uf h h' a) ∧ (∀ g, fR h' (gW G 5) g = fR h (gW G 5) g) ∧ Le h h' none
section
variable {G : Gh} {d nd np pa top : Nat} {h h1 h2 h' : AH} {ws : List (Nat × Nat)} {x : Nat × Nat}
theorem wAt_le : ∀ k, wAt ws x.1 k ≤ k := by
  intro k
  induction k with
  | zero => exact Nat.le_refl _
  | succ k ih =>
    unfold wAt
    split <;> omega
theorem wIns_len : (wIns ws x).length = ws.length + 1 := by
  have := wAt_le (ws := ws) (x := x) ws.length
  unfold wIns
  rw [List.length_append, List.length_cons, List.length_take, List.length_drop]
  omega
theorem wIns_mem {y : Nat × Nat} (h : y ∈ wIns ws x) : y = x ∨ y ∈ ws := by
  unfold wIns at h
  rcases List.mem_append.mp h with e | e
  · exact Or.inr (List.mem_of_mem_take e)
  · rcases List.mem_cons.mp e with e | e
    · exact Or.inl e
    · exact Or.inr (List.mem_of_mem_drop e)
theorem FMa.rf : FMa G h h := ⟨fun _ _ _ _ => Uf.rf, fun _ => rfl, Le.rf⟩
theorem FMa.tr (a : FMa G h h1) (b : FMa G h1 h2) : FMa G h h2 := ⟨fun x hx hn hp => (a.1 x hx hn hp).tr (b.1 x (by rw [(a.1 x hx hn hp).1]; exact hx) hn (by rw [a.2.1]; exact hp)), fun g => (b.2.1 g).trans (a.2.1 g), a.2.2.tr b.2.2⟩
theorem Fg.fm (F : Fg G nd np h h') : FMa G h h' := ⟨fun a ha hn _ => F.1 a ha fun i hi => hn i (by
  have : ∀ i, i ∈ ShC → i ∈ MaD := by decide
  exact this i hi), F.2.2.2.2.1, F.2.2.2.2.2⟩
theorem Pf.fm (P : Pf pa top h h') (hp : fR h (gW G 5) 103 = some pa) : FMa G h h' := ⟨fun a _ _ hn => by
    have hne : a ≠ pa := fun e => hn (by rw [e]; exact hp)
    exact ⟨by rw [P.1.1], by rw [P.1.2.1], by funext i; exact P.2.2.2 a i (Or.inl hne), by rw [P.2.1.1], by rw [P.2.1.2], fun g => ⟨by rw [P.1.2.2.1], by rw [P.1.2.2.2.1], by rw [P.1.2.2.2.2]⟩⟩, fun g => by rw [P.1.2.2.2.2], P.le⟩
theorem FMa.uw (F : FMa G h h') {a : Nat} (ha : FIx G h a) : Uf h h' a := F.1 a ha.1 (fun i hi => ha.2.2.1 i (List.mem_append_right _ (by
  have : ∀ i, i ∈ MaD → i ∈ MaC := by decide
  exact this i hi))) ha.2.2.2
theorem FMa.fx (F : FMa G h h') {a : Nat} (ha : FIx G h a) : FIx G h' a := by
  have u := F.uw ha
  exact ⟨by rw [u.1]; exact ha.1, by rw [u.1]; exact ha.2.1, ha.2.2.1, by rw [F.2.1]; exact ha.2.2.2⟩
theorem MaD_k (sA : SoA G h) : ∀ i, i ∈ MaD → hK h (gW G i) = 9 ∨ hK h (gW G i) = 1000 := by
  have s5 := sA.at (i := 5) (by decide)
  intro i hi
  unfold MaD at hi
  simp only [List.mem_cons, List.not_mem_nil, or_false] at hi
  rcases hi with rfl | rfl | rfl | rfl | rfl | rfl | rfl | rfl | rfl
  · exact Or.inl s5.1
  · exact Or.inr (kw1096 s5)
  · exact Or.inr (kw1097 s5)
  · exact Or.inr (kw1098 s5)
  · exact Or.inr (kw1099 s5)
  · exact Or.inr (kw1100 s5)
  · exact Or.inr (kw1104 s5)
  · exact Or.inr (kw1105 s5)
  · exact Or.inr (kw1107 s5)
theorem FMa.uo (F : FMa G h h') (sA : SoA G h) (hp : ∀ x, fR h (gW G 5) 103 = some x → hK h x = 1000) {a : Nat} (h0 : hK h a ≠ 0) (h9 : hK h a ≠ 9) (h10 : hK h a ≠ 1000) : Uf h h' a := F.1 a h0 (fun i hi e => by
  rcases MaD_k sA i hi with w | w
  · exact h9 (by rw [e]; exact w)
  · exact h10 (by rw [e]; exact w)) fun e => h10 (hp a e)
theorem MaD_ne (hD : DW (gW G)) : ∀ i j, i ∈ MaD → j ∈ MaD → i ≠ j → gW G i ≠ gW G j := by
  intro i j hi hj hn e
  have w : ∀ i, i ∈ MaD → IW.testBit i = true := by decide +kernel
  exact hn (hD i j (w i hi) (w j hj) e)
theorem MsW.fg (k : MsW G h ws) (F : Fg G nd np h h') (sA : SoA G h) (hD : DW (gW G)) : MsW G h' ws := by
  obtain ⟨k1, k2, k3, k4⟩ := k
  have s5 := sA.at (i := 5) (by decide)
  have ne := MaD_ne hD
  have sub : ∀ i, i ∈ ShC → i ∈ MaD ∧ i ≠ 1104 ∧ i ≠ 1105 := by decide
  have u4 := F.1 (gW G 1104) (by rw [kw1104 s5]; decide) fun i hi => ne 1104 i (by decide) (sub i hi).1 (Ne.symm (sub i hi).2.1)
  have u5 := F.1 (gW G 1105) (by rw [kw1105 s5]; decide) fun i hi => ne 1105 i (by decide) (sub i hi).1 (Ne.symm (sub i hi).2.2)
  exact ⟨by rw [F.2.2.2.1 106 (by decide) (by decide)]; exact k1, k2, k3, fun i x hx => by rw [u4.2.2.1, u5.2.2.1]; exact k4 i x hx⟩
theorem MsW.pf (k : MsW G h ws) (P : Pf pa top h h') (w : PiW G h pa) : MsW G h' ws := by
  obtain ⟨k1, k2, k3, k4⟩ := k
  have n4 : gW G 1104 ≠ pa := fun e => w.2.2.2.1 104 (by decide +kernel) e.symm
  have n5 : gW G 1105 ≠ pa := fun e => w.2.2.2.1 105 (by decide +kernel) e.symm
  exact ⟨by rw [P.1.2.2.1]; exact k1, k2, k3, fun i x hx => by rw [P.2.2.2 _ _ (Or.inl n4), P.2.2.2 _ _ (Or.inl n5)]; exact k4 i x hx⟩
/-- a warning -/
theorem c_warn (sA : SoA G h) (hD : DW (gW G)) (k0 : MsW G h ws) (hl : ws.length < 1900) (hx : x.1 < 5000 ∧ x.2 < 5000) : C G mX10_warn d [.ref (gW G 5), .int (nI x.1), .int (nI x.2)] h (fun o h' => o = .returned none ∧ MsW G h' (wIns ws x) ∧ FMa G h h' ∧ un h' = un h ∧ (∀ g, g ≠ 106 → fI h' (gW G 5) g = fI h (gW G 5) g) ∧ ∀ a, a ≠ gW G 1104 → a ≠ gW G 1105 → aI h' a = aI h a) := by
  obtain ⟨k1, k2, k3, k4⟩ := k0
  have s5 := sA.at (i := 5) (by decide)
  have n45 := MaD_ne hD 1104 1105 (by decide) (by decide) (by decide)
  have la := wAt_le (ws := ws) (x := x) ws.length
  -- the end: the warning is written at its place
  have fin : ∀ (a : Nat) (hh h3 h6 : AH), a ≤ ws.length → a = wAt ws x.1 ws.length → h3 = sI hh (gW G 1104) a (nI x.1) → h6 = sI h3 (gW G 1105) a (nI x.2) → FMa G h hh → un hh = un h → fI hh (gW G 5) 106 = nI (ws.length + 1) → (∀ g, g ≠ 106 → fI hh (gW G 5) g = fI h (gW G 5) g) → (∀ b, b ≠ gW G 1104 → b ≠ gW G 1105 → aI hh b = aI h b) → (∀ (i : Nat) (y : Nat × Nat), ws[i]? = some y → aI hh (gW G 1104) (if i < a then i else i + 1) = nI y.1 ∧ aI hh (gW G 1105) (if i < a then i else i + 1) = nI y.2) →
      (Outcome.returned none = Outcome.returned none ∧ MsW G h6 (wIns ws x) ∧ FMa G h h6 ∧ un h6 = un h ∧ (∀ g, g ≠ 106 → fI h6 (gW G 5) g = fI h (gW G 5) g) ∧ ∀ b, b ≠ gW G 1104 → b ≠ gW G 1105 → aI h6 b = aI h b) := by
    intro a hh h3 h6 ha ea e3 e6 F hu f1 f2 f3 f4
    have A : ∀ b j, aI h6 b j = if b = gW G 1105 ∧ j = a then nI x.2 else if b = gW G 1104 ∧ j = a then nI x.1 else aI hh b j := fun b j => by rw [e6, aI_sI, e3, aI_sI]
    refine ⟨rfl, ⟨by rw [wIns_len, e6, fI_sI, e3, fI_sI]; exact f1, by rw [wIns_len]; omega, fun y hy => ?_, fun i y hy => ?_⟩, F.tr ⟨fun b hb hn _ => ⟨by rw [e6, hK_sI, e3, hK_sI], by rw [e6, hL_sI, e3, hL_sI], by funext j; rw [A, if_neg fun z => hn 1105 (by decide) z.1, if_neg fun z => hn 1104 (by decide) z.1], by rw [e6, aJ_sI, e3, aJ_sI], by rw [e6, aR_sI, e3, aR_sI], fun g => ⟨by rw [e6, fI_sI, e3, fI_sI], by rw [e6, fJ_sI, e3, fJ_sI], by rw [e6, fR_sI, e3, fR_sI]⟩⟩, fun g => by rw [e6, fR_sI, e3, fR_sI], (show Le hh h3 none by rw [e3]; exact sI_le).tr (show Le h3 h6 none by rw [e6]; exact sI_le)⟩, by rw [e6, un_sI, e3, un_sI]; exact hu, fun g hg => by rw [e6, fI_sI, e3, fI_sI]; exact f2 g hg, fun b h1 h2 => by funext j; rw [A, if_neg fun z => h2 z.1, if_neg fun z => h1 z.1, f3 b h1 h2]⟩
    · rcases wIns_mem hy with e | e
      · rw [e]; exact hx
      · exact k3 y e
    · unfold wIns at hy
      rw [← ea] at hy
      have lt : (ws.take a).length = a := by rw [List.length_take]; omega
      by_cases c1 : i < a
      · rw [List.getElem?_append_left (by omega), List.getElem?_take, if_pos c1] at hy
        have := f4 i y hy
        rw [if_pos c1] at this
        rw [A, A, if_neg fun z => by omega, if_neg fun z => by omega, if_neg fun z => by omega, if_neg fun z => by omega]
        exact this
      · rw [List.getElem?_append_right (by omega), lt] at hy
        by_cases c2 : i = a
        · rw [c2, Nat.sub_self] at hy
          cases hy
          rw [A, A, c2, if_neg fun z => n45 z.1, if_pos ⟨rfl, rfl⟩, if_pos ⟨rfl, rfl⟩]
          exact ⟨rfl, rfl⟩
        · rw [show i - a = (i - a - 1) + 1 by omega, List.getElem?_cons_succ, List.getElem?_drop, show a + (i - a - 1) = i - 1 by omega] at hy
          have := f4 (i - 1) y hy
          rw [if_neg (by omega), show i - 1 + 1 = i by omega] at this
          rw [A, A, if_neg fun z => by omega, if_neg fun z => by omega, if_neg fun z => by omega, if_neg fun z => by omega]
          exact this
  have lp : ∀ (a : Nat) (hh : AH), a ≤ ws.length → wAt ws x.1 a = wAt ws x.1 ws.length → FMa G h hh → un hh = un h → fI hh (gW G 5) 106 = nI (ws.length + 1) → (∀ g, g ≠ 106 → fI hh (gW G 5) g = fI h (gW G 5) g) → (∀ b, b ≠ gW G 1104 → b ≠ gW G 1105 → aI hh b = aI h b) → (∀ (i : Nat) (y : Nat × Nat), ws[i]? = some y → aI hh (gW G 1104) (if i < a then i else i + 1) = nI y.1 ∧ aI hh (gW G 1105) (if i < a then i else i + 1) = nI y.2) →
      X G mX10_warn d none [] 15 [(0, .ref (gW G 5)), (1, .int (nI x.1)), (2, .int (nI x.2)), (3, .int (nI a))] [] hh (fun o h' => o = .returned none ∧ MsW G h' (wIns ws x) ∧ FMa G h h' ∧ un h' = un h ∧ (∀ g, g ≠ 106 → fI h' (gW G 5) g = fI h (gW G 5) g) ∧ ∀ a, a ≠ gW G 1104 → a ≠ gW G 1105 → aI h' a = aI h a) := by
    intro a
    induction a with
    | zero =>
      intro hh ha ea F hu f1 f2 f3 f4
      refine bX10_warn_15 G d hh _ _ _ _ ((sA.le F.2.2).at (by decide)) ⟨fun _ => ⟨vp_i (n := 0) (by decide) (by decide), fun h3 e3 => ⟨vp_i (n := 0) (by decide) (by decide), fun h6 e6 => fin 0 hh h3 h6 ha ea e3 e6 F hu f1 f2 f3 f4⟩⟩, fun z => absurd (by decide) z⟩
    | succ a IH =>
      intro hh ha ea F hu f1 f2 f3 f4
      obtain ⟨y, hy⟩ : ∃ y, ws[a]? = some y := ⟨_, List.getElem?_eq_getElem (by omega)⟩
      obtain ⟨g1, g2⟩ := f4 a y hy
      rw [if_pos (by omega)] at g1 g2
      have hyb := k3 y (List.mem_of_getElem? hy)
      have hgd : ws.getD a (0, 0) = y := by rw [List.getD, hy]; rfl
      refine bX10_warn_15 G d hh _ _ _ _ ((sA.le F.2.2).at (by decide)) ⟨fun z => absurd z (nI_nle (by omega) (by omega)), fun _ => ?_⟩
      rw [nI_sub1 (by omega), nI_cn (by omega), nI_cn (by omega), g1, nI_leI (by omega) (by omega)]
      refine ⟨vp_i (by omega) (by omega), fun hc => ?_, fun hc => ?_⟩
      · have ea' : a + 1 = wAt ws x.1 ws.length := by
          rw [← ea]
          unfold wAt
          rw [hgd, if_neg (by omega)]
        exact ⟨vp_i (by omega) (by omega), fun h3 e3 => ⟨vp_i (by omega) (by omega), fun h6 e6 => fin (a + 1) hh h3 h6 ha ea' e3 e6 F hu f1 f2 f3 f4⟩⟩
      · refine ⟨vp_i (by omega) (by omega), vp_i (by omega) (by omega), fun h18 e18 => ⟨vp_i (by omega) (by omega), vp_i (by omega) (by omega), ?_⟩⟩
        have e5 : aI h18 (gW G 1105) a = nI y.2 := by rw [e18, aI_sI, if_neg fun z => n45 z.1.symm]; exact g2
        rw [e5]
        intro h22 e22
        rintro _ rfl
        rw [show nI (a + 1) + (-1) = nI (a + 1) - 1 from (Int32.sub_eq_add_neg ..).symm, nI_sub1 (by omega)]
        have A : ∀ b j, aI h22 b j = if b = gW G 1105 ∧ j = a + 1 then nI y.2 else if b = gW G 1104 ∧ j = a + 1 then nI y.1 else aI hh b j := fun b j => by rw [e22, aI_sI, e18, aI_sI]
        refine IH h22 (by omega) ?_ (F.tr ⟨fun b hb hn _ => ⟨by rw [e22, hK_sI, e18, hK_sI], by rw [e22, hL_sI, e18, hL_sI], by funext j; rw [A, if_neg fun z => hn 1105 (by decide) z.1, if_neg fun z => hn 1104 (by decide) z.1], by rw [e22, aJ_sI, e18, aJ_sI], by rw [e22, aR_sI, e18, aR_sI], fun g => ⟨by rw [e22, fI_sI, e18, fI_sI], by rw [e22, fJ_sI, e18, fJ_sI], by rw [e22, fR_sI, e18, fR_sI]⟩⟩, fun g => by rw [e22, fR_sI, e18, fR_sI], (show Le hh h18 none by rw [e18]; exact sI_le).tr (show Le h18 h22 none by rw [e22]; exact sI_le)⟩) (by rw [e22, un_sI, e18, un_sI]; exact hu) (by rw [e22, fI_sI, e18, fI_sI]; exact f1) (fun g hg => by rw [e22, fI_sI, e18, fI_sI]; exact f2 g hg) (fun b h1 h2 => by funext j; rw [A, if_neg fun z => h2 z.1, if_neg fun z => h1 z.1, f3 b h1 h2]) (fun i z hz => ?_)
        · rw [← ea]
          conv => rhs; unfold wAt
          rw [hgd, if_pos (by omega)]
        · obtain ⟨m1, m2⟩ := f4 i z hz
          by_cases c1 : i < a
          · rw [if_pos (by omega)] at m1 m2
            rw [if_pos c1, A, A, if_neg fun z => by omega, if_neg fun z => by omega, if_neg fun z => by omega, if_neg fun z => by omega]
            exact ⟨m1, m2⟩
          · by_cases c2 : i = a
            · rw [c2] at hz
              cases hy.symm.trans hz
              rw [if_neg c1, c2, A, A, if_neg fun z => n45 z.1, if_pos ⟨rfl, rfl⟩, if_pos ⟨rfl, rfl⟩]
              exact ⟨rfl, rfl⟩
            · rw [if_neg (by omega)] at m1 m2
              rw [if_neg c1, A, A, if_neg fun z => by omega, if_neg fun z => by omega, if_neg fun z => by omega, if_neg fun z => by omega]
              exact ⟨m1, m2⟩
  refine bX10_warn G d h _ _ _ s5 ?_
  rintro _ rfl
  rw [k1, nI_1]
  intro h2 e2
  have w2 : WQ (gW G 5) h h2 := by rw [e2]; exact WQ.rf.pI
  have A2 : aI h2 = aI h := by rw [e2]; rfl
  refine lp ws.length h2 (Nat.le_refl _) rfl ⟨fun b _ hn _ => w2.uf (hn 5 (by decide)), fun g => by rw [e2, fR_pI], by rw [e2]; exact pI_le (Or.inl (by decide))⟩ w2.un (by rw [e2, fI_pI, if_pos ⟨rfl, rfl⟩]) (fun g hg => by rw [e2, fI_pI, if_neg fun z => hg z.2]) (fun b _ _ => by rw [A2]) (fun i y hy => ?_)
  rw [if_pos (List.getElem?_eq_some_iff.mp hy).1, A2]
  exact k4 i y hy
end
