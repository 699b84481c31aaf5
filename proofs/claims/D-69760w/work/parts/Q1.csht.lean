/-! THE COMPONENT'S CHECKS OF CLAUSES: the table of shapes -/
def ShC : List Nat := [5, 1096, 1097, 1098, 1099, 1100, 1107]
def Shs (G : Gh) (h : AH) (nd np : Nat) : Prop := fI h (gW G 5) 101 = nI nd ∧ fI h (gW G 5) 102 = nI np ∧ 1 ≤ nd ∧ nd ≤ 1000 ∧ np ≤ 1000
/-- shapes in the table -/
def SR (G : Gh) (h : AH) (nd np : Nat) : Nat → Tr → Nat → Prop
  | 0, _, _ => False
  | f + 1, x, i => (x = .num 0 ∧ i = 0) ∨ ∃ hd al l fs, x = sN hd al l ∧ (0 < i ∧ i < nd) ∧ (aI h (gW G 1096) i).toInt = hd ∧ (aI h (gW G 1097) i).toInt = al ∧ aI h (gW G 1098) i = nI fs ∧ aI h (gW G 1099) i = nI l.length ∧ fs + l.length ≤ np ∧ ∀ (k : Nat) (y : Tr), l[k]? = some y → ∃ j, aI h (gW G 1100) (fs + k) = nI j ∧ SR G h nd np f y j
/-- what stays when shapes come in -/
def Fg (G : Gh) (nd np : Nat) (h h' : AH) : Prop := (∀ a, hK h a ≠ 0 → (∀ i, i ∈ ShC → a ≠ gW G i) → Uf h h' a) ∧ (∀ i, i < nd → aI h' (gW G 1096) i = aI h (gW G 1096) i ∧ aI h' (gW G 1097) i = aI h (gW G 1097) i ∧ aI h' (gW G 1098) i = aI h (gW G 1098) i ∧ aI h' (gW G 1099) i = aI h (gW G 1099) i) ∧ (∀ i, i < np → aI h' (gW G 1100) i = aI h (gW G 1100) i) ∧ (∀ g, g ≠ 101 → g ≠ 102 → fI h' (gW G 5) g = fI h (gW G 5) g) ∧ (∀ g, fR h' (gW G 5) g = fR h (gW G 5) g) ∧ Le h h' none
/-- the table of shapes stays, as far as it was -/
def Sm (G : Gh) (nd np : Nat) (h h' : AH) : Prop := (∀ i, i < nd → aI h' (gW G 1096) i = aI h (gW G 1096) i ∧ aI h' (gW G 1097) i = aI h (gW G 1097) i ∧ aI h' (gW G 1098) i = aI h (gW G 1098) i ∧ aI h' (gW G 1099) i = aI h (gW G 1099) i) ∧ ∀ i, i < np → aI h' (gW G 1100) i = aI h (gW G 1100) i
theorem vp_i {n N : Nat} (h : n < N) (hn : n < 2147483648) : vp_in (nI n) N := fun c => c.elim (nI_pos hn) fun w => by rw [nI_cn hn] at w; omega
theorem nI_mul (a b : Nat) : nI a * nI b = nI (a * b) := (Int32.ofNat_mul a b).symm
section
variable {G : Gh} {d nd np nd1 np1 nd' np' of fr f : Nat} {h h1 h2 h' : AH} {x : Tr} {l : List Tr} {js : List Nat} {hd al : Int32}
theorem Fg.rf : Fg G nd np h h := ⟨fun _ _ _ => Uf.rf, fun _ _ => ⟨rfl, rfl, rfl, rfl⟩, fun _ _ => rfl, fun _ _ _ => rfl, fun _ => rfl, Le.rf⟩
theorem Fg.tr (a : Fg G nd np h h1) (b : Fg G nd1 np1 h1 h2) (e1 : nd ≤ nd1) (e2 : np ≤ np1) : Fg G nd np h h2 := by
  obtain ⟨a1, a2, a3, a4, a5, a6⟩ := a
  obtain ⟨b1, b2, b3, b4, b5, b6⟩ := b
  refine ⟨fun x hx hn => (a1 x hx hn).tr (b1 x (by rw [(a1 x hx hn).1]; exact hx) hn), fun i hi => ?_, fun i hi => (b3 i (by omega)).trans (a3 i hi), fun g h1 h2 => (b4 g h1 h2).trans (a4 g h1 h2), fun g => (b5 g).trans (a5 g), a6.tr b6⟩
  obtain ⟨p1, p2, p3, p4⟩ := a2 i hi
  obtain ⟨q1, q2, q3, q4⟩ := b2 i (by omega)
  exact ⟨q1.trans p1, q2.trans p2, q3.trans p3, q4.trans p4⟩
theorem Fg.sm (F : Fg G nd np h h') : Sm G nd np h h' := ⟨F.2.1, F.2.2.1⟩
theorem SR.mv (F : Sm G nd np h h') (e1 : nd ≤ nd') (e2 : np ≤ np') : ∀ (f : Nat) (x : Tr) (i : Nat), SR G h nd np f x i → SR G h' nd' np' f x i := by
  intro f
  induction f with
  | zero => intro x i k; exact k.elim
  | succ f ih =>
    rintro x i (k | ⟨hd, al, l, fs, k1, k2, k3, k4, k5, k6, k7, k8⟩)
    · exact Or.inl k
    · obtain ⟨q1, q2, q3, q4⟩ := F.1 i k2.2
      refine Or.inr ⟨hd, al, l, fs, k1, ⟨k2.1, by omega⟩, by rw [q1]; exact k3, by rw [q2]; exact k4, by rw [q3]; exact k5, by rw [q4]; exact k6, by omega, fun k y hy => ?_⟩
      obtain ⟨j, j1, j2⟩ := k8 k y hy
      have hk : k < l.length := (List.getElem?_eq_some_iff.mp hy).1
      exact ⟨j, by rw [F.2 (fs + k) (by omega)]; exact j1, ih y j j2⟩
theorem SR.up : ∀ (f : Nat) (x : Tr) (i : Nat), SR G h nd np f x i → ∀ f', f ≤ f' → SR G h nd np f' x i := by
  intro f
  induction f with
  | zero => intro x i k; exact k.elim
  | succ f ih =>
    rintro x i k f' hf
    cases f' with
    | zero => omega
    | succ f' =>
      rcases k with k | ⟨hd, al, l, fs, k1, k2, k3, k4, k5, k6, k7, k8⟩
      · exact Or.inl k
      · refine Or.inr ⟨hd, al, l, fs, k1, k2, k3, k4, k5, k6, k7, fun k y hy => ?_⟩
        obtain ⟨j, j1, j2⟩ := k8 k y hy
        exact ⟨j, j1, ih y j j2 f' (by omega)⟩
theorem SR.lt {i : Nat} (k : SR G h nd np f x i) (hn : 1 ≤ nd) : i < nd := by
  cases f with
  | zero => exact k.elim
  | succ f =>
    rcases k with ⟨-, k⟩ | ⟨hd, al, l, fs, k1, k2, -⟩
    · omega
    · exact k2.2
theorem ShC_ne (hD : DW (gW G)) : ∀ i j, i ∈ ShC → j ∈ ShC → i ≠ j → gW G i ≠ gW G j := by
  intro i j hi hj hn e
  have w : ∀ i, i ∈ ShC → IW.testBit i = true := by decide +kernel
  exact hn (hD i j (w i hi) (w j hj) e)
/-- a shape comes in -/
theorem c_node2 (sA : SoA G h) (hD : DW (gW G)) (S : Shs G h nd np) (hk : hK h of = 1000) (hof : js = [] ∨ ∀ i, i ∈ [1096, 1097, 1098, 1099, 1100] → of ≠ gW G i) (hlen : fr + js.length ≤ hL h of) (hfr : fr < 100000) (hj : ∀ (k j : Nat), js[k]? = some j → aI h of (fr + k) = nI j) (hl : l.length = js.length) (hsr : ∀ (k j : Nat) (y : Tr), l[k]? = some y → js[k]? = some j → SR G h nd np f y j) (h1 : nd < 1000) (h2 : np + js.length ≤ 1000) : C G mX10_node_2 d [.ref (gW G 5), .int hd, .int al, .ref of, .int (nI fr), .int (nI js.length)] h (fun o h' => o = .returned (some (.int (nI nd))) ∧ Shs G h' (nd + 1) (np + js.length) ∧ Fg G nd np h h' ∧ un h' = un h ∧ SR G h' (nd + 1) (np + js.length) (f + 1) (sN hd.toInt al.toInt l) nd) := by
  have s5 := sA.at (i := 5) (by decide)
  have k5 : hK h (gW G 5) = 9 := s5.1
  have ne := ShC_ne hD
  obtain ⟨S1, S2, S3, S4, S5⟩ := S
  have n6 := ne 1096 1097 (by decide) (by decide) (by decide)
  have n7 := ne 1096 1098 (by decide) (by decide) (by decide)
  have n8 := ne 1096 1099 (by decide) (by decide) (by decide)
  have n9 := ne 1096 1100 (by decide) (by decide) (by decide)
  have m8 := ne 1097 1098 (by decide) (by decide) (by decide)
  have m9 := ne 1097 1099 (by decide) (by decide) (by decide)
  have m0 := ne 1097 1100 (by decide) (by decide) (by decide)
  have p9 := ne 1098 1099 (by decide) (by decide) (by decide)
  have p0 := ne 1098 1100 (by decide) (by decide) (by decide)
  have r0 := ne 1099 1100 (by decide) (by decide) (by decide)
  have lp : ∀ (r k : Nat) (hh : AH), js.length = k + r → Fg G nd np h hh → un hh = un h → fI hh (gW G 5) 101 = nI nd → fI hh (gW G 5) 102 = nI (np + k) → aI hh (gW G 1096) nd = hd → aI hh (gW G 1097) nd = al → aI hh (gW G 1098) nd = nI np → aI hh (gW G 1099) nd = nI js.length → (∀ (j x : Nat), j < k → js[j]? = some x → aI hh (gW G 1100) (np + j) = nI x) → (js = [] ∨ aI hh of = aI h of) →
      X G mX10_node_2 d none [] 47 [(0, .ref (gW G 5)), (3, .ref of), (4, .int (nI fr)), (5, .int (nI js.length)), (6, .int (nI k))] [] hh (fun o h' => o = .returned (some (.int (nI nd))) ∧ Shs G h' (nd + 1) (np + js.length) ∧ Fg G nd np h h' ∧ un h' = un h ∧ SR G h' (nd + 1) (np + js.length) (f + 1) (sN hd.toInt al.toInt l) nd) := by
    intro r
    induction r with
    | zero =>
      intro k hh hr F hu e1 e2 a6 a7 a8 a9 a0 ao
      have ek : k = js.length := by omega
      refine bX10_node_2_47 G d hh _ _ _ _ _ ((sA.le F.2.2.2.2.2).at (by decide)) ?_
      rw [nI_leI (by omega) (by omega)]
      refine ⟨fun _ hq eq => ?_, fun z => absurd (by omega) z⟩
      have w : WQ (gW G 5) hh hq := by rw [eq]; exact WQ.rf.pI
      have A : aI hq = aI hh := by rw [eq]; rfl
      have e3 : fI hq (gW G 5) 101 = nI (nd + 1) := by rw [eq, fI_pI, if_pos ⟨rfl, rfl⟩, e1, nI_1]
      have F2 : Fg G nd np h hq := ⟨fun a ha hn => (F.1 a ha hn).tr (w.uf (hn 5 (by decide))), fun i hi => by rw [A]; exact F.2.1 i hi, fun i hi => by rw [A]; exact F.2.2.1 i hi, fun g g1 g2 => by rw [eq, fI_pI, if_neg (fun z => g1 z.2)]; exact F.2.2.2.1 g g1 g2, fun g => by rw [eq, fR_pI]; exact F.2.2.2.2.1 g, F.2.2.2.2.2.tr (by rw [eq]; exact pI_le (Or.inl (by decide)))⟩
      refine ⟨by rw [e3, nI_sub1 (by omega)], ⟨e3, by rw [eq, fI_pI, if_neg (fun z => absurd z.2 (by decide)), e2, ek], by omega, by omega, by omega⟩, F2, by rw [w.un]; exact hu, Or.inr ⟨_, _, l, np, rfl, ⟨by omega, by omega⟩, by rw [A, a6], by rw [A, a7], by rw [A, a8], by rw [A, a9, hl], by omega, fun k' y hy => ?_⟩⟩
      have hk' : k' < l.length := (List.getElem?_eq_some_iff.mp hy).1
      obtain ⟨x, hx⟩ : ∃ x, js[k']? = some x := ⟨_, List.getElem?_eq_getElem (by omega)⟩
      exact ⟨x, by rw [A]; exact a0 k' x (by omega) hx, SR.mv F2.sm (by omega) (by omega) _ _ _ (hsr k' x y hy hx)⟩
    | succ r IH =>
      intro k hh hr F hu e1 e2 a6 a7 a8 a9 a0 ao
      have hne : js ≠ [] := fun e => by rw [e] at hr; simp at hr
      have hof' := hof.resolve_left hne
      have ao' := ao.resolve_left hne
      have le := F.2.2.2.2.2
      obtain ⟨q1, q2, -⟩ := le.2 of (by rw [hk]; decide)
      obtain ⟨x, hx⟩ : ∃ x, js[k]? = some x := ⟨_, List.getElem?_eq_getElem (by omega)⟩
      refine bX10_node_2_47 G d hh _ _ _ _ _ ((sA.le le).at (by decide)) ?_
      rw [nI_leI (by omega) (by omega)]
      refine ⟨fun z => by omega, fun _ => ⟨q1.trans hk, ?_⟩⟩
      rw [e2, nI_add, nI_cn (by omega), nI_cn (by omega), q2, ao', hj k x hx]
      refine ⟨vp_i (by omega) (by omega), vp_in_nI (by omega) (by decide), ?_⟩
      rintro h7 e7 h9 e9 _ rfl
      rw [nI_1]
      have f7 : fI h7 = fI hh := by rw [e7]; rfl
      rw [f7, e2, nI_1] at e9
      have A9 : ∀ a j, aI h9 a j = if a = gW G 1100 ∧ j = np + k then nI x else aI hh a j := fun a j => by rw [e9, aI_pI, e7, aI_sI]
      have u9 : ∀ a, a ≠ gW G 1100 → a ≠ gW G 5 → Uf hh h9 a := fun a z1 z2 => by
        refine ⟨by rw [e9, hK_pI, e7, hK_sI], by rw [e9, hL_pI, e7, hL_sI], by funext j; rw [A9, if_neg fun z => z1 z.1], by rw [e9, aJ_pI, e7, aJ_sI], by rw [e9, aR_pI, e7, aR_sI], fun g => ⟨by rw [e9, fI_pI, if_neg (fun z => z2 z.1), f7], by rw [e9, fJ_pI, e7, fJ_sI], by rw [e9, fR_pI, e7, fR_sI]⟩⟩
      have le9 : Le hh h9 none := (show Le hh h7 none by rw [e7]; exact sI_le).tr (show Le h7 h9 none by rw [e9]; exact pI_le (Or.inl (by decide)))
      refine IH (k + 1) h9 (by omega) ⟨fun a ha hn => (F.1 a ha hn).tr (u9 a (hn 1100 (by decide)) (hn 5 (by decide))), fun i hi => ?_, fun i hi => ?_, fun g g1 g2 => ?_, fun g => ?_, le.tr le9⟩ (by rw [e9, un_pI, e7, un_sI]; exact hu) ?_ ?_ ?_ ?_ ?_ ?_ (fun j y hj' hy => ?_) (Or.inr ?_)
      · rw [A9, A9, A9, A9, if_neg fun z => n9 z.1, if_neg fun z => m0 z.1, if_neg fun z => p0 z.1, if_neg fun z => r0 z.1]
        exact F.2.1 i hi
      · rw [A9, if_neg fun z => by omega]
        exact F.2.2.1 i hi
      · rw [e9, fI_pI, if_neg (fun z => g2 z.2), f7]
        exact F.2.2.2.1 g g1 g2
      · rw [e9, fR_pI, e7, fR_sI]
        exact F.2.2.2.2.1 g
      · rw [e9, fI_pI, if_neg (fun z => absurd z.2 (by decide)), f7]; exact e1
      · rw [e9, fI_pI, if_pos ⟨rfl, rfl⟩]; rfl
      · rw [A9, if_neg fun z => n9 z.1]; exact a6
      · rw [A9, if_neg fun z => m0 z.1]; exact a7
      · rw [A9, if_neg fun z => p0 z.1]; exact a8
      · rw [A9, if_neg fun z => r0 z.1]; exact a9
      · rw [A9]
        by_cases c : j = k
        · rw [c] at hy ⊢
          rw [hx] at hy
          cases hy
          rw [if_pos ⟨rfl, rfl⟩]
        · rw [if_neg fun z => by omega]
          exact a0 j y (by omega) hy
      · rw [← ao']
        funext j
        rw [A9, if_neg fun z => hof' 1100 (by decide) z.1]
  refine bX10_node_2 G d h _ _ _ _ _ _ s5 ?_
  rw [S1, nI_cn (by omega)]
  refine ⟨vp_in_nI (by omega) (by decide), fun h2 e2 => ?_⟩
  have f2 : fI h2 = fI h := by rw [e2]; rfl
  rw [f2, S1, nI_cn (by omega)]
  refine ⟨vp_in_nI (by omega) (by decide), fun h5 e5 => ?_⟩
  have f5 : fI h5 = fI h := by rw [e5]; exact f2
  rw [f5, S1, S2, nI_cn (by omega)]
  refine ⟨vp_in_nI (by omega) (by decide), fun h8 e8 => ?_⟩
  have f8 : fI h8 = fI h := by rw [e8]; exact f5
  rw [f8, S1, nI_cn (by omega)]
  refine ⟨vp_in_nI (by omega) (by decide), fun h11 e11 => ?_⟩
  have f11 : fI h11 = fI h := by rw [e11]; exact f8
  have A : ∀ a j, aI h11 a j = if a = gW G 1099 ∧ j = nd then nI js.length else if a = gW G 1098 ∧ j = nd then nI np else if a = gW G 1097 ∧ j = nd then al else if a = gW G 1096 ∧ j = nd then hd else aI h a j := fun a j => by rw [e11, aI_sI, e8, aI_sI, e5, aI_sI, e2, aI_sI]
  have A0 : ∀ a j, a ≠ gW G 1096 → a ≠ gW G 1097 → a ≠ gW G 1098 → a ≠ gW G 1099 → aI h11 a j = aI h a j := fun a j z1 z2 z3 z4 => by rw [A, if_neg fun z => z4 z.1, if_neg fun z => z3 z.1, if_neg fun z => z2 z.1, if_neg fun z => z1 z.1]
  have A1 : ∀ a j, j ≠ nd → aI h11 a j = aI h a j := fun a j z1 => by rw [A, if_neg fun z => z1 z.2, if_neg fun z => z1 z.2, if_neg fun z => z1 z.2, if_neg fun z => z1 z.2]
  have le11 : Le h h11 none := (((show Le h h2 none by rw [e2]; exact sI_le).tr (show Le h2 h5 none by rw [e5]; exact sI_le)).tr (show Le h5 h8 none by rw [e8]; exact sI_le)).tr (show Le h8 h11 none by rw [e11]; exact sI_le)
  refine lp js.length 0 h11 (by omega) ⟨fun a ha hn => ?_, fun i hi => ?_, fun i hi => ?_, fun g _ _ => by rw [f11], fun g => by rw [e11, fR_sI, e8, fR_sI, e5, fR_sI, e2, fR_sI], le11⟩ (by rw [e11, un_sI, e8, un_sI, e5, un_sI, e2, un_sI]) (by rw [f11]; exact S1) (by rw [f11]; exact S2) ?_ ?_ ?_ ?_ (fun j x z => by omega) ?_
  · refine ⟨by rw [e11, hK_sI, e8, hK_sI, e5, hK_sI, e2, hK_sI], by rw [e11, hL_sI, e8, hL_sI, e5, hL_sI, e2, hL_sI], by funext j; exact A0 a j (hn _ (by decide)) (hn _ (by decide)) (hn _ (by decide)) (hn _ (by decide)), by rw [e11, aJ_sI, e8, aJ_sI, e5, aJ_sI, e2, aJ_sI], by rw [e11, aR_sI, e8, aR_sI, e5, aR_sI, e2, aR_sI], fun g => ⟨by rw [f11], by rw [e11, fJ_sI, e8, fJ_sI, e5, fJ_sI, e2, fJ_sI], by rw [e11, fR_sI, e8, fR_sI, e5, fR_sI, e2, fR_sI]⟩⟩
  · exact ⟨A1 _ _ (by omega), A1 _ _ (by omega), A1 _ _ (by omega), A1 _ _ (by omega)⟩
  · exact A0 _ _ (Ne.symm n9) (Ne.symm m0) (Ne.symm p0) (Ne.symm r0)
  · rw [A, if_neg fun z => n8 z.1, if_neg fun z => n7 z.1, if_neg fun z => n6 z.1, if_pos ⟨rfl, rfl⟩]
  · rw [A, if_neg fun z => m9 z.1, if_neg fun z => m8 z.1, if_pos ⟨rfl, rfl⟩]
  · rw [A, if_neg fun z => p9 z.1, if_pos ⟨rfl, rfl⟩]
  · rw [A, if_pos ⟨rfl, rfl⟩]
  · rcases hof with e | e
    · exact Or.inl e
    · refine Or.inr ?_
      funext j
      exact A0 _ _ (e _ (by decide)) (e _ (by decide)) (e _ (by decide)) (e _ (by decide))
/-- the end of a shape -/
def shQ (G : Gh) (h : AH) (nd np : Nat) (x : Tr) (w u : Nat) : Outcome → AH → Prop := fun o h' => ∃ i nd' np' f, o = .returned (some (.int (nI i))) ∧ SR G h' nd' np' f x i ∧ Shs G h' nd' np' ∧ (nd ≤ nd' ∧ nd' ≤ nd + w) ∧ (np ≤ np' ∧ np' ≤ np + pq x) ∧ Fg G nd np h h' ∧ un h' ≤ un h + u
theorem c_node0 (sA : SoA G h) (hD : DW (gW G)) (S : Shs G h nd np) (h1 : nd < 1000) : C G mX10_node (d + 1) [.ref (gW G 5), .int hd, .int al] h (shQ G h nd np (sN hd.toInt al.toInt []) 1 0) := by
  have s5 := sA.at (i := 5) (by decide)
  have S' := S
  obtain ⟨S1, S2, S3, S4, S5⟩ := S'
  refine bX10_node G d h _ _ _ s5 (C.mono (c_node2 (l := []) (js := []) (f := 0) (fr := 0) (hd := hd) (al := al) sA hD S (kw1100 s5) (Or.inl rfl) (by simp) (by decide) (fun k j hj => by simp at hj) rfl (fun k j y hy => by simp at hy) h1 (by simpa using S5)) ?_)
  rintro _ h' ⟨rfl, S', F, u, sr⟩
  exact KI.i ⟨nd, nd + 1, np, 1, rfl, sr, S', ⟨by omega, by omega⟩, ⟨by omega, by omega⟩, F, by omega⟩
/-- one part -/
theorem c_one {i : Nat} (sA : SoA G h) (hD : DW (gW G)) (S : Shs G h nd np) (sr : SR G h nd np f x i) (h1 : nd < 1000) (h2 : np + 1 ≤ 1000) : C G mX10_one (d + 1) [.ref (gW G 5), .int hd, .int al, .int (nI i)] h (fun o h' => o = .returned (some (.int (nI nd))) ∧ Shs G h' (nd + 1) (np + 1) ∧ Fg G nd np h h' ∧ un h' = un h ∧ SR G h' (nd + 1) (np + 1) (f + 1) (sN hd.toInt al.toInt [x]) nd) := by
  have s5 := sA.at (i := 5) (by decide)
  have ne := ShC_ne hD
  refine bX10_one G d h _ _ _ _ s5 ⟨vp_i (n := 197) (by decide) (by decide), fun h2' e2 => ?_⟩
  have c197 : (197 : Int32).toNatClampNeg = 197 := by decide
  rw [c197] at e2
  have A : ∀ a j, aI h2' a j = if a = gW G 1107 ∧ j = 197 then nI i else aI h a j := fun a j => by rw [e2, aI_sI]
  have le2 : Le h h2' none := by rw [e2]; exact sI_le
  have F : Fg G nd np h h2' := by
    refine ⟨fun a ha hn => ⟨by rw [e2, hK_sI], by rw [e2, hL_sI], by funext j; rw [A, if_neg fun z => hn 1107 (by decide) z.1], by rw [e2, aJ_sI], by rw [e2, aR_sI], fun g => ⟨by rw [e2, fI_sI], by rw [e2, fJ_sI], by rw [e2, fR_sI]⟩⟩, fun i _ => ?_, fun i _ => ?_, fun g _ _ => by rw [e2, fI_sI], fun g => by rw [e2, fR_sI], le2⟩
    · rw [A, A, A, A, if_neg fun z => ne 1096 1107 (by decide) (by decide) (by decide) z.1, if_neg fun z => ne 1097 1107 (by decide) (by decide) (by decide) z.1, if_neg fun z => ne 1098 1107 (by decide) (by decide) (by decide) z.1, if_neg fun z => ne 1099 1107 (by decide) (by decide) (by decide) z.1]
      exact ⟨rfl, rfl, rfl, rfl⟩
    · rw [A, if_neg fun z => ne 1100 1107 (by decide) (by decide) (by decide) z.1]
  have k7 : hK h2' (gW G 1107) = 1000 := by rw [e2, hK_sI]; exact kw1107 s5
  have l7 : hL h2' (gW G 1107) = 200 := by rw [e2, hL_sI]; exact lw1107 s5
  have S2 : Shs G h2' nd np := by
    obtain ⟨S1, S2, S3⟩ := S
    exact ⟨by rw [e2, fI_sI]; exact S1, by rw [e2, fI_sI]; exact S2, S3⟩
  refine C.mono (c_node2 (l := [x]) (js := [i]) (f := f) (fr := 197) (hd := hd) (al := al) (sA.le le2) hD S2 k7 (Or.inr fun j hj => ?_) (by rw [l7]; show 197 + 1 ≤ 200; decide) (by decide) (fun k j hj => ?_) rfl (fun k j y hy hj => ?_) h1 h2) ?_
  · exact ne 1107 j (by decide) (by simp only [List.mem_cons, List.not_mem_nil, or_false] at hj; rcases hj with rfl | rfl | rfl | rfl | rfl <;> decide) (by simp only [List.mem_cons, List.not_mem_nil, or_false] at hj; omega)
  · cases k with
    | zero =>
      cases hj
      rw [A, if_pos ⟨rfl, rfl⟩]
    | succ k => simp at hj
  · cases k with
    | zero =>
      cases hj
      cases hy
      exact SR.mv F.sm (Nat.le_refl _) (Nat.le_refl _) _ _ _ sr
    | succ k => simp at hj
  · rintro _ h' ⟨rfl, S', F', u, sr'⟩
    exact KI.i ⟨rfl, S', F.tr F' (Nat.le_refl _) (Nat.le_refl _), by rw [u, e2, un_sI], sr'⟩
/-- a pair -/
theorem c_pair {i i2 : Nat} {y : Tr} (sA : SoA G h) (hD : DW (gW G)) (S : Shs G h nd np) (sr : SR G h nd np f x i) (sr2 : SR G h nd np f y i2) (h1 : nd < 1000) (h2 : np + 2 ≤ 1000) : C G mX10_pair (d + 1) [.ref (gW G 5), .int (nI i), .int (nI i2)] h (fun o h' => o = .returned (some (.int (nI nd))) ∧ Shs G h' (nd + 1) (np + 2) ∧ Fg G nd np h h' ∧ un h' = un h ∧ SR G h' (nd + 1) (np + 2) (f + 1) (sN 1 2 [x, y]) nd) := by
  have s5 := sA.at (i := 5) (by decide)
  have ne := ShC_ne hD
  refine bX10_pair G d h _ _ _ s5 ⟨vp_i (n := 198) (by decide) (by decide), fun h2' e2 => ⟨vp_i (n := 199) (by decide) (by decide), fun h3 e3 => ?_⟩⟩
  have c197 : (198 : Int32).toNatClampNeg = 198 := by decide
  have c199 : (199 : Int32).toNatClampNeg = 199 := by decide
  rw [c197] at e2
  rw [c199] at e3
  have A : ∀ a j, aI h3 a j = if a = gW G 1107 ∧ j = 199 then nI i2 else if a = gW G 1107 ∧ j = 198 then nI i else aI h a j := fun a j => by rw [e3, aI_sI, e2, aI_sI]
  have A0 : ∀ a j, a ≠ gW G 1107 → aI h3 a j = aI h a j := fun a j z => by rw [A, if_neg fun w => z w.1, if_neg fun w => z w.1]
  have le2 : Le h h3 none := (show Le h h2' none by rw [e2]; exact sI_le).tr (show Le h2' h3 none by rw [e3]; exact sI_le)
  have F : Fg G nd np h h3 := by
    refine ⟨fun a ha hn => ⟨by rw [e3, hK_sI, e2, hK_sI], by rw [e3, hL_sI, e2, hL_sI], by funext j; exact A0 a j (hn 1107 (by decide)), by rw [e3, aJ_sI, e2, aJ_sI], by rw [e3, aR_sI, e2, aR_sI], fun g => ⟨by rw [e3, fI_sI, e2, fI_sI], by rw [e3, fJ_sI, e2, fJ_sI], by rw [e3, fR_sI, e2, fR_sI]⟩⟩, fun i _ => ?_, fun i _ => ?_, fun g _ _ => by rw [e3, fI_sI, e2, fI_sI], fun g => by rw [e3, fR_sI, e2, fR_sI], le2⟩
    · exact ⟨A0 _ _ (ne 1096 1107 (by decide) (by decide) (by decide)), A0 _ _ (ne 1097 1107 (by decide) (by decide) (by decide)), A0 _ _ (ne 1098 1107 (by decide) (by decide) (by decide)), A0 _ _ (ne 1099 1107 (by decide) (by decide) (by decide))⟩
    · exact A0 _ _ (ne 1100 1107 (by decide) (by decide) (by decide))
  have k7 : hK h3 (gW G 1107) = 1000 := by rw [e3, hK_sI, e2, hK_sI]; exact kw1107 s5
  have l7 : hL h3 (gW G 1107) = 200 := by rw [e3, hL_sI, e2, hL_sI]; exact lw1107 s5
  have S2 : Shs G h3 nd np := by
    obtain ⟨S1, S2, S3⟩ := S
    exact ⟨by rw [e3, fI_sI, e2, fI_sI]; exact S1, by rw [e3, fI_sI, e2, fI_sI]; exact S2, S3⟩
  refine C.mono (c_node2 (l := [x, y]) (js := [i, i2]) (f := f) (fr := 198) (hd := 1) (al := 2) (sA.le le2) hD S2 k7 (Or.inr fun j hj => ?_) (by rw [l7]; show 198 + 2 ≤ 200; decide) (by decide) (fun k j hj => ?_) rfl (fun k j z hy hj => ?_) h1 h2) ?_
  · exact ne 1107 j (by decide) (by simp only [List.mem_cons, List.not_mem_nil, or_false] at hj; rcases hj with rfl | rfl | rfl | rfl | rfl <;> decide) (by simp only [List.mem_cons, List.not_mem_nil, or_false] at hj; omega)
  · cases k with
    | zero =>
      cases hj
      rw [A, if_neg (by omega), if_pos ⟨rfl, rfl⟩]
    | succ k =>
      cases k with
      | zero =>
        cases hj
        rw [A, if_pos ⟨rfl, rfl⟩]
      | succ k => simp at hj
  · cases k with
    | zero =>
      cases hj
      cases hy
      exact SR.mv F.sm (Nat.le_refl _) (Nat.le_refl _) _ _ _ sr
    | succ k =>
      cases k with
      | zero =>
        cases hj
        cases hy
        exact SR.mv F.sm (Nat.le_refl _) (Nat.le_refl _) _ _ _ sr2
      | succ k => simp at hj
  · rintro _ h' ⟨rfl, S', F', u, sr'⟩
    exact KI.i ⟨rfl, S', F.tr F' (Nat.le_refl _) (Nat.le_refl _), by rw [u, e3, un_sI, e2, un_sI], sr'⟩
end
