/-! THE COMPONENT'S CHECKS OF CLAUSES: the shapes of patterns -/
/-- constructors as the checks see them -/
def CkW (Z : Zt) (Ct : Ctb) (Dt : Dtb) (h : AH) : Prop := ∀ (c : Nat) (x : Nat × Nat × Nat × Tr), Ct[c]? = some x → hK h (Z.2.1 c) = 54 ∧ fI h (Z.2.1 c) 369 = nI x.2.2.1 ∧ fR h (Z.2.1 c) 368 = some (Z.2.2 x.2.1) ∧ ∃ y : Nat × Nat × Nat × Nat, Dt[x.2.1]? = some y ∧ hK h (Z.2.2 x.2.1) = 4 ∧ fI h (Z.2.2 x.2.1) 54 = nI y.2.2.1 ∧ x.2.2.1 < y.2.2.1 ∧ y.2.2.1 < 5000
def ShI (G : Gh) (W : Nat → Prop) (ts : List (Nat × Nat × Nat)) (O : List (Nat × Nat) × List (Nat × Nat)) (Z : Zt) (D : Dm) (N : Nat) (Ct : Ctb) (Dt : Dtb) (rc n d : Nat) : Prop := ∀ (p : Tr) (q lo hi : Nat) (h : AH) (nd np : Nat), sPt N Ct rc n p → rc ≤ Ct.length → TR lo hi p → OTG (XA ts W O Z D h) W h p 0 0 q → SoA G h → CkW Z Ct Dt h → (∀ a, W a → FIx G h a) → Shs G h nd np → nd + 1 + pq (shp Ct Dt n p) ≤ 1000 → np + pq (shp Ct Dt n p) ≤ 1000 → un h + 6 * (nw p - 1) + 16 ≤ UB →
  ∃ (k : Nat) (ν : Mu), VT ⟨"LetMill$Pat", "shape", "(LLetMill$Matches;)I"⟩ VMPat_shape k ν ∧ hK h q = k + 1 ∧ C G ν d [.ref q, .ref (gW G 5)] h (shQ G h nd np (shp Ct Dt n p) (1 + pq (shp Ct Dt n p)) (6 * (nw p - 1)))
section
variable {G : Gh} {W : Nat → Prop} {ts : List (Nat × Nat × Nat)} {O : List (Nat × Nat) × List (Nat × Nat)} {Z : Zt} {D : Dm} {d n N rc nd np q lo hi t : Nat} {Ct : Ctb} {Dt : Dtb} {h h' : AH} {x y : Tr} {l : List Tr}
theorem Fg.uw (F : Fg G nd np h h') {a : Nat} (ha : FIx G h a) : Uf h h' a := F.1 a ha.1 fun i hi => ha.2.2.1 i (List.mem_append_right _ (by
  have : ∀ i, i ∈ ShC → i ∈ MaC := by decide
  exact this i hi))
theorem Fg.uo (F : Fg G nd np h h') (sA : SoA G h) {a : Nat} (h0 : hK h a ≠ 0) (h9 : hK h a ≠ 9) (h10 : hK h a ≠ 1000) : Uf h h' a := by
  have s5 := sA.at (i := 5) (by decide)
  refine F.1 a h0 fun i hi e => ?_
  unfold ShC at hi
  simp only [List.mem_cons, List.not_mem_nil, or_false] at hi
  rcases hi with rfl | rfl | rfl | rfl | rfl | rfl | rfl
  · exact h9 (by rw [e]; exact s5.1)
  · exact h10 (by rw [e]; exact kw1096 s5)
  · exact h10 (by rw [e]; exact kw1097 s5)
  · exact h10 (by rw [e]; exact kw1098 s5)
  · exact h10 (by rw [e]; exact kw1099 s5)
  · exact h10 (by rw [e]; exact kw1100 s5)
  · exact h10 (by rw [e]; exact kw1107 s5)
theorem Fg.fx (F : Fg G nd np h h') {a : Nat} (ha : FIx G h a) : FIx G h' a := by
  have u := F.uw ha
  exact ⟨by rw [u.1]; exact ha.1, by rw [u.1]; exact ha.2.1, ha.2.2.1, by rw [F.2.2.2.2.1]; exact ha.2.2.2⟩
theorem Fg.ot (F : Fg G nd np h h') (hW : ∀ a, W a → FIx G h a) (hx : TR lo hi x) (o : OTG (XA ts W O Z D h) W h x 0 0 q) : OTG (XA ts W O Z D h') W h' x 0 0 q := o.k1 (KW.of (lo := 0) (hi := 0) F.2.2.2.2.2.1 fun a ha => F.uw (hW a ha)) Ext.rf (Or.inr (Nat.zero_le _)) hx
theorem Fg.ck (F : Fg G nd np h h') (sA : SoA G h) (k : CkW Z Ct Dt h) : CkW Z Ct Dt h' := by
  intro c x hx
  obtain ⟨k1, k2, k3, y, k4, k5, k6, k7⟩ := k c x hx
  have u := F.uo sA (a := Z.2.1 c) (by rw [k1]; decide) (by rw [k1]; decide) (by rw [k1]; decide)
  have v := F.uo sA (a := Z.2.2 x.2.1) (by rw [k5]; decide) (by rw [k5]; decide) (by rw [k5]; decide)
  exact ⟨u.1.trans k1, (u.2.2.2.2.2 369).1.trans k2, (u.2.2.2.2.2 368).2.2.trans k3, y, k4, v.1.trans k5, (v.2.2.2.2.2 54).1.trans k6, k7⟩
theorem shQ.wk {w w' u u' : Nat} {o : Outcome} (k : shQ G h nd np x w u o h') (h1 : w ≤ w') (h2 : u ≤ u') : shQ G h nd np x w' u' o h' := by
  obtain ⟨i, nd', np', f, k1, k2, k3, k4, k5, k6, k7⟩ := k
  exact ⟨i, nd', np', f, k1, k2, k3, ⟨k4.1, by omega⟩, k5, k6, by omega⟩
/-- the room for lists of patterns -/
def uq : List Tr → Nat
  | [] => 0
  | p :: l => 6 * (nw p - 1) + uq l
theorem uq_ap : ∀ a b : List Tr, uq (a ++ b) = uq a + uq b := by
  intro a b
  induction a with
  | nil => exact (Nat.zero_add _).symm
  | cons x a ih => show _ + uq (a ++ b) = _ + uq a + uq b; rw [ih]; omega
theorem uq_nw : ∀ l : List Tr, (∀ y, y ∈ l → sPt N Ct rc n y) → uq l + 6 * l.length = 6 * nw (ls l) := by
  intro l
  induction l with
  | nil => intro _; rfl
  | cons x l ih =>
    intro h
    have h1 := sPt_nw n x (h x (List.mem_cons_self ..))
    have h2 := ih fun y hy => h y (List.mem_cons_of_mem _ hy)
    show 6 * (nw x - 1) + uq l + 6 * (l.length + 1) = 6 * (nw x + nw (ls l))
    omega
/-- anything -/
theorem sh_any (S : Shs G h nd np) : shQ G h nd np (.num 0) 1 0 (.returned (some (.int 0))) h := ⟨0, nd, np, 1, rfl, Or.inl ⟨rfl, rfl⟩, S, ⟨Nat.le_refl _, by omega⟩, ⟨Nat.le_refl _, Nat.le_add_right ..⟩, Fg.rf, Nat.le_add_right ..⟩
/-- a tuple's parts -/
theorem sh_tup_7 {arr q2 L : Nat} (hD : DW (gW G)) (hS : ShI G W ts O Z D N Ct Dt rc n d) (hrc : rc ≤ Ct.length) (sA : SoA G h) (ck : CkW Z Ct Dt h) (hW : ∀ a, W a → FIx G h a) (hWa : W arr) (hka : hK h arr = 1008) (hla : hL h arr = L) (hL6 : L ≤ 6) (hq2 : hK h q2 = 0) : ∀ (l2 l1 : List Tr) (i nd1 np1 f : Nat) (h1 : AH) (js : List Nat),
    (∀ (j : Nat) (x : Tr), l2[j]? = some x → sPt N Ct rc n x ∧ TR lo hi x ∧ ∃ b, aR h arr (i + j) = some b ∧ OTG (XA ts W O Z D h) W h x 0 0 b) → L = i + l2.length → l1.length = i → js.length = i → Fg G nd np h h1 → (nd ≤ nd1 ∧ np ≤ np1) → (hK h1 q2 = 1000 ∧ hL h1 q2 = L ∧ ∀ (k j : Nat), js[k]? = some j → aI h1 q2 k = nI j) → Shs G h1 nd1 np1 → (∀ (k j : Nat) (y : Tr), l1[k]? = some y → js[k]? = some j → SR G h1 nd1 np1 f y j) → nd1 + l2.length + pqs (l2.map (shp Ct Dt n)) + 1 ≤ 1000 → np1 + L + pqs (l2.map (shp Ct Dt n)) ≤ 1000 → un h1 + uq l2 + 16 ≤ UB →
    X G mX10_tuple (d + 1) none [] 7 [(0, .ref (gW G 5)), (1, .ref arr), (2, .ref q2), (3, .int (nI i))] [] h1 (fun o h' => ∃ i nd' np' f, o = .returned (some (.int (nI i))) ∧ SR G h' nd' np' f (sN 0 1 (l1 ++ l2.map (shp Ct Dt n))) i ∧ Shs G h' nd' np' ∧ (nd ≤ nd' ∧ nd' ≤ nd1 + l2.length + pqs (l2.map (shp Ct Dt n)) + 1) ∧ (np ≤ np' ∧ np' ≤ np1 + L + pqs (l2.map (shp Ct Dt n))) ∧ Fg G nd np h h' ∧ un h' ≤ un h1 + uq l2) := by
  have hns : ∀ i, i ∈ ShC → q2 ≠ gW G i := fun i hi e => by
    have s5 := sA.at (i := 5) (by decide)
    unfold ShC at hi
    simp only [List.mem_cons, List.not_mem_nil, or_false] at hi
    rcases hi with rfl | rfl | rfl | rfl | rfl | rfl | rfl
    · rw [e, s5.1] at hq2; cases hq2
    · rw [e, kw1096 s5] at hq2; cases hq2
    · rw [e, kw1097 s5] at hq2; cases hq2
    · rw [e, kw1098 s5] at hq2; cases hq2
    · rw [e, kw1099 s5] at hq2; cases hq2
    · rw [e, kw1100 s5] at hq2; cases hq2
    · rw [e, kw1107 s5] at hq2; cases hq2
  intro l2
  induction l2 with
  | nil =>
    intro l1 i nd1 np1 f h1 js _ hLi hl1 hjs F hle hy S sr b1 b2 b3
    have le := F.2.2.2.2.2
    obtain ⟨y1, y2, y3⟩ := hy
    have ua := F.uw (hW arr hWa)
    change L = i at hLi
    refine bX10_tuple_7 G d h1 _ _ _ _ ((sA.le le).at (by decide)) ⟨ua.1.trans hka, ?_⟩
    rw [ua.2.1, hla, y2, show Int32.ofNat L = nI L from rfl, nI_leI (by omega) (by omega)]
    refine ⟨fun _ => ⟨y1, ?_⟩, fun z => absurd (by omega) z⟩
    rw [show nI L = nI js.length by rw [hLi, hjs]]
    refine C.mono (c_node2 (l := l1) (js := js) (f := f) (fr := 0) (hd := 0) (al := 1) (sA.le le) hD S y1 (Or.inr fun j hj => hns j (by simp only [List.mem_cons, List.not_mem_nil, or_false] at hj; rcases hj with rfl | rfl | rfl | rfl | rfl <;> decide)) (by omega) (by decide) (fun k j hj => by rw [Nat.zero_add]; exact y3 k j hj) (by omega) sr (by omega) (by omega)) ?_
    rintro _ h' ⟨rfl, S', F', u, sr'⟩
    refine KI.i ⟨nd1, nd1 + 1, np1 + js.length, f + 1, rfl, ?_, S', ⟨by omega, by omega⟩, ⟨by omega, ?_⟩, F.tr F' hle.1 hle.2, by omega⟩
    · rw [List.map_nil, List.append_nil]
      exact sr'
    · rw [hjs, hLi]
      exact Nat.le_add_right ..
  | cons p l2 IH =>
    intro l1 i nd1 np1 f h1 js hl hLi hl1 hjs F hle hy S sr b1 b2 b3
    have le := F.2.2.2.2.2
    obtain ⟨y1, y2, y3⟩ := hy
    have ua := F.uw (hW arr hWa)
    rw [List.length_cons] at hLi b1
    obtain ⟨hp, hTp, b, fb, ob⟩ := hl 0 p rfl
    rw [Nat.add_zero] at fb
    have ewl : uq (p :: l2) = 6 * (nw p - 1) + uq l2 := rfl
    have epq : pqs ((p :: l2).map (shp Ct Dt n)) = pq (shp Ct Dt n p) + pqs (l2.map (shp Ct Dt n)) := rfl
    rw [ewl] at b3 ⊢
    rw [epq] at b1 b2 ⊢
    refine bX10_tuple_7 G d h1 _ _ _ _ ((sA.le le).at (by decide)) ⟨ua.1.trans hka, ?_⟩
    rw [ua.2.1, hla, show Int32.ofNat L = nI L from rfl, nI_leI (by omega) (by omega), nI_cn (by omega)]
    refine ⟨fun z => by omega, fun _ => ⟨vp_i (by omega) (by omega), b, by rw [ua.2.2.2.2.1]; exact fb, ?_⟩⟩
    obtain ⟨k2, ν2, v1, v2, v3⟩ := hS p b lo hi h1 nd1 np1 hp hrc hTp (F.ot hW hTp ob) (sA.le le) (F.ck sA ck) (fun a ha => F.fx (hW a ha)) S (by omega) (by omega) (by omega)
    refine ⟨k2, ν2, v1, v2, C.mono v3 ?_⟩
    rintro _ h9 ⟨i9, nd2, np2, f2, rfl, sr2, S2, ⟨c1, c2⟩, ⟨c3, c4⟩, F2, u2⟩
    have u5 := F2.1 q2 (by rw [y1]; decide) hns
    have F09 := F.tr F2 hle.1 hle.2
    have hNs : Ns (gW G) q2 := sA.ns hq2
    refine KI.i ⟨u5.1.trans y1, hNs, by rw [u5.2.1, y2]; exact vp_i (by omega) (by omega), ?_⟩
    rintro h15 e15 _ rfl
    rw [nI_1]
    have A : ∀ a j, aI h15 a j = if a = q2 ∧ j = i then nI i9 else aI h9 a j := fun a j => by rw [e15, aI_sI]
    have hq2a : ∀ a, hK h a ≠ 0 → a ≠ q2 := fun a ha e => ha (by rw [e]; exact hq2)
    have le15 : Le h9 h15 none := by rw [e15]; exact sI_le
    have F15 : Fg G nd np h h15 := by
      refine ⟨fun a ha hn => (F09.1 a ha hn).tr ⟨by rw [e15, hK_sI], by rw [e15, hL_sI], by funext j; rw [A, if_neg fun z => hq2a a ha z.1], by rw [e15, aJ_sI], by rw [e15, aR_sI], fun g => ⟨by rw [e15, fI_sI], by rw [e15, fJ_sI], by rw [e15, fR_sI]⟩⟩, fun j hj => ?_, fun j hj => ?_, fun g g1 g2 => by rw [e15, fI_sI]; exact F09.2.2.2.1 g g1 g2, fun g => by rw [e15, fR_sI]; exact F09.2.2.2.2.1 g, F09.2.2.2.2.2.tr le15⟩
      · rw [A, A, A, A, if_neg fun z => hns 1096 (by decide) z.1.symm, if_neg fun z => hns 1097 (by decide) z.1.symm, if_neg fun z => hns 1098 (by decide) z.1.symm, if_neg fun z => hns 1099 (by decide) z.1.symm]
        exact F09.2.1 j hj
      · rw [A, if_neg fun z => hns 1100 (by decide) z.1.symm]
        exact F09.2.2.1 j hj
    have m15 : Sm G nd2 np2 h9 h15 := by
      refine ⟨fun j hj => ?_, fun j hj => ?_⟩
      · rw [A, A, A, A, if_neg fun z => hns 1096 (by decide) z.1.symm, if_neg fun z => hns 1097 (by decide) z.1.symm, if_neg fun z => hns 1098 (by decide) z.1.symm, if_neg fun z => hns 1099 (by decide) z.1.symm]
        exact ⟨rfl, rfl, rfl, rfl⟩
      · rw [A, if_neg fun z => hns 1100 (by decide) z.1.symm]
    have S15 : Shs G h15 nd2 np2 := ⟨by rw [e15, fI_sI]; exact S2.1, by rw [e15, fI_sI]; exact S2.2.1, S2.2.2⟩
    have ih := IH (l1 ++ [shp Ct Dt n p]) (i + 1) nd2 np2 (max f f2) h15 (js ++ [i9]) (fun j x hx => by
        obtain ⟨z1, z2, b', z3, z4⟩ := hl (j + 1) x (by rw [List.getElem?_cons_succ]; exact hx)
        exact ⟨z1, z2, b', by rw [← z3]; congr 1; omega, z4⟩) (by omega) (by rw [List.length_append, hl1]; rfl) (by rw [List.length_append, hjs]; rfl) F15 ⟨by omega, by omega⟩ ⟨by rw [e15, hK_sI]; exact u5.1.trans y1, by rw [e15, hL_sI, u5.2.1]; exact y2, fun k j hj => ?_⟩ S15 (fun k j y hy hj => ?_) (by omega) (by omega) (by rw [e15, un_sI]; omega)
    · refine X.mono ih ?_
      rintro o h' ⟨i', nd', np', f', g1, g2, g3, ⟨g4, g5⟩, ⟨g6, g7⟩, g8, g9⟩
      refine ⟨i', nd', np', f', g1, ?_, g3, ⟨g4, ?_⟩, ⟨g6, by omega⟩, g8, ?_⟩
      · rw [List.append_assoc] at g2
        exact g2
      · rw [List.length_cons]
        omega
      · rw [e15, un_sI] at g9
        omega
    · rw [A]
      by_cases c : k < i
      · rw [if_neg fun z => by omega, u5.2.2.1]
        rw [List.getElem?_append_left (by omega)] at hj
        exact y3 k j hj
      · have hi := (List.getElem?_eq_some_iff.mp hj).1
        rw [List.length_append, hjs, List.length_singleton] at hi
        have ei : k = i := by omega
        rw [if_pos ⟨rfl, ei⟩]
        rw [ei, ← hjs, List.getElem?_append_right (Nat.le_refl _), Nat.sub_self] at hj
        cases hj
        rfl
    · by_cases c : k < i
      · rw [List.getElem?_append_left (by omega)] at hj hy
        exact SR.up _ _ _ (SR.mv m15 (Nat.le_refl _) (Nat.le_refl _) _ _ _ (SR.mv F2.sm c1 c3 _ _ _ (sr k j y hy hj))) _ (Nat.le_max_left ..)
      · have hi := (List.getElem?_eq_some_iff.mp hj).1
        rw [List.length_append, hjs, List.length_singleton] at hi
        have ei : k = i := by omega
        have hj' := hj
        have hy' := hy
        rw [ei, ← hjs, List.getElem?_append_right (Nat.le_refl _), Nat.sub_self] at hj'
        rw [ei, ← hl1, List.getElem?_append_right (Nat.le_refl _), Nat.sub_self] at hy'
        cases hj'
        cases hy'
        exact SR.up _ _ _ (SR.mv m15 (Nat.le_refl _) (Nat.le_refl _) _ _ _ sr2) _ (Nat.le_max_right ..)
theorem sh_tup (hD : DW (gW G)) (hS : ShI G W ts O Z D N Ct Dt rc n d) (hrc : rc ≤ Ct.length) (hl : ∀ y, y ∈ l → sPt N Ct rc n y) (hl6 : 2 ≤ l.length ∧ l.length ≤ 6) (hT : TR lo hi (n1 37 t (ls l))) (ot : OTG (XA ts W O Z D h) W h (n1 37 t (ls l)) 0 0 q) (sA : SoA G h) (ck : CkW Z Ct Dt h) (hW : ∀ a, W a → FIx G h a) (S : Shs G h nd np) (b1 : nd + 1 + pq (sN 0 1 (l.map (shp Ct Dt n))) ≤ 1000) (b2 : np + pq (sN 0 1 (l.map (shp Ct Dt n))) ≤ 1000) (b3 : un h + 6 * (nw (n1 37 t (ls l)) - 1) + 16 ≤ UB) : C G mX27_shape (d + 2) [.ref q, .ref (gW G 5)] h (shQ G h nd np (sN 0 1 (l.map (shp Ct Dt n))) (1 + pq (sN 0 1 (l.map (shp Ct Dt n)))) (6 * (nw (n1 37 t (ls l)) - 1))) ∧ hK h q = 26 := by
  obtain ⟨hWq, hkq, -, oy⟩ := (OTG_nd (k := 37) (by decide)).mp ot
  have hk : hK h q = 26 := by simpa [kc] using hkq
  obtain ⟨arr, eA, hlen, tg⟩ := OTG_arr.mp ((OTG_ef (m' := 21) (i' := 310) (by decide) (by decide)).mp oy)
  refine ⟨?_, hk⟩
  have ew : nw (n1 37 t (ls l)) = nw (ls l) + 4 := by show 0 + nw (ls l) + 4 = _; omega
  have euq := uq_nw l hl
  have ep : pq (sN 0 1 (l.map (shp Ct Dt n))) = l.length + pqs (l.map (shp Ct Dt n)) := by rw [pq_N, List.length_map]
  rw [ep] at b1 b2 ⊢
  rw [ew] at b3 ⊢
  have hTl : TR lo hi (ls l) := hT.2.2.2
  have k8 : hK h arr = 1008 := eA.2.1
  refine bX27_shape G (d + 1) h _ _ (sA.at (by decide)) ⟨hk, arr, eA.1, ?_⟩
  refine bX10_tuple G d h _ _ ⟨k8, ?_⟩
  rw [hlen, show Int32.ofNat l.length = nI l.length from rfl, nI_cn (by omega)]
  obtain ⟨m1, m2⟩ := un_rm (h := h) (n := l.length) (by omega)
  refine ⟨nI_pos (by omega), m1, m2, fun q2 hq2 h4 e4 => ?_⟩
  have ne : ∀ a, hK h a ≠ 0 → a ≠ q2 := fun a ha e => ha (by rw [e]; exact hq2)
  have U : ∀ a, a ≠ q2 → Uf h h4 a := fun a ha => by
    rw [e4]
    exact ⟨by rw [hK_nA, if_neg ha], by rw [hL_nA, if_neg ha], by funext j; rw [aI_nA, if_neg ha], by funext j; rw [aJ_nA, if_neg ha], by funext j; rw [aR_nA, if_neg ha], fun g => ⟨by rw [fI_nA], by rw [fJ_nA], by rw [fR_nA]⟩⟩
  have s5 := sA.at (i := 5) (by decide)
  have v6 := (U (gW G 1096) (ne _ (by rw [kw1096 s5]; decide))).2.2.1
  have v7 := (U (gW G 1097) (ne _ (by rw [kw1097 s5]; decide))).2.2.1
  have v8 := (U (gW G 1098) (ne _ (by rw [kw1098 s5]; decide))).2.2.1
  have v9 := (U (gW G 1099) (ne _ (by rw [kw1099 s5]; decide))).2.2.1
  have v0 := (U (gW G 1100) (ne _ (by rw [kw1100 s5]; decide))).2.2.1
  have F4 : Fg G nd np h h4 := ⟨fun a ha _ => U a (ne a ha), fun i _ => by rw [v6, v7, v8, v9]; exact ⟨rfl, rfl, rfl, rfl⟩, fun i _ => by rw [v0], fun g _ _ => by rw [e4, fI_nA], fun g => by rw [e4, fR_nA], by rw [e4]; exact nA_le hq2⟩
  have S4 : Shs G h4 nd np := ⟨by rw [e4, fI_nA]; exact S.1, by rw [e4, fI_nA]; exact S.2.1, S.2.2⟩
  have u4 : un h4 = un h + 16 + l.length := by rw [e4, un_nA]
  refine X.mono (sh_tup_7 (f := 0) (nd1 := nd) (np1 := np) hD hS hrc sA ck hW eA.2.2 k8 hlen hl6.2 hq2 l [] 0 h4 [] (fun j x hx => by
      obtain ⟨b', y1, y2⟩ := tg j x hx
      exact ⟨hl x (List.mem_of_getElem? hx), TR.ls_at hTl x (List.mem_of_getElem? hx), b', by rw [Nat.zero_add]; exact y1, y2⟩) (by omega) rfl rfl F4 ⟨Nat.le_refl _, Nat.le_refl _⟩ ⟨by rw [e4, hK_nA, if_pos rfl], by rw [e4, hL_nA, if_pos rfl], fun k j hj => by simp at hj⟩ S4 (fun k j y hy => by simp at hy) (by omega) (by omega) (by omega)) ?_
  rintro o h' ⟨i', nd', np', f', rfl, g2, g3, ⟨g4, g5⟩, ⟨g6, g7⟩, g8, g9⟩
  exact KI.i ⟨i', nd', np', f', rfl, g2, g3, ⟨g4, by omega⟩, ⟨g6, by rw [ep]; omega⟩, g8, by omega⟩
/-- the shape of a list -/
def shl (Ct : Ctb) (Dt : Dtb) (n : Nat) (l : List Tr) : Tr := l.foldr (fun p s => sN 1 2 [shp Ct Dt n p, s]) (sN 0 2 [])
theorem pq_shl : ∀ l : List Tr, pq (shl Ct Dt n l) = 2 * l.length + pqs (l.map (shp Ct Dt n)) := by
  intro l
  induction l with
  | nil => rfl
  | cons p l ih =>
    show pq (sN 1 2 [shp Ct Dt n p, shl Ct Dt n l]) = _
    rw [pq_N]
    show 2 + (pq (shp Ct Dt n p) + (pq (shl Ct Dt n l) + 0)) = 2 * (l.length + 1) + (pq (shp Ct Dt n p) + pqs (l.map (shp Ct Dt n)))
    rw [ih]
    omega
theorem nw_ap : ∀ (a : List Tr) (p : Tr), nw (ls (a ++ [p])) = nw (ls a) + nw p := by
  intro a p
  induction a with
  | nil => show nw p + 0 = 0 + nw p; omega
  | cons x a ih =>
    show nw x + nw (ls (a ++ [p])) = nw x + nw (ls a) + nw p
    rw [ih]
    omega
theorem sh_lst_15 {arr : Nat} (hD : DW (gW G)) (hS : ShI G W ts O Z D N Ct Dt rc n (d + 1)) (hrc : rc ≤ Ct.length) (sA : SoA G h) (ck : CkW Z Ct Dt h) (hW : ∀ a, W a → FIx G h a) (hWq : W q) (hk : hK h q = 23) (eA : ArF W h q 308 arr) (hla : hL h arr = l.length) (hll : l.length < 5000) (hl : ∀ (j : Nat) (x : Tr), l[j]? = some x → sPt N Ct rc n x ∧ TR lo hi x ∧ ∃ b, aR h arr j = some b ∧ OTG (XA ts W O Z D h) W h x 0 0 b) : ∀ (k nd1 np1 f i : Nat) (h1 : AH), k ≤ l.length → Fg G nd np h h1 → (nd ≤ nd1 ∧ np ≤ np1) → Shs G h1 nd1 np1 → SR G h1 nd1 np1 f (shl Ct Dt n (l.drop k)) i → nd1 + 2 * k + pqs ((l.take k).map (shp Ct Dt n)) ≤ 1000 → np1 + 2 * k + pqs ((l.take k).map (shp Ct Dt n)) ≤ 1000 → un h1 + uq (l.take k) + 16 ≤ UB →
    X G mX24_shape (d + 2) none [] 15 [(0, .ref q), (1, .ref (gW G 5)), (2, .int (nI i)), (3, .int (nI k - 1))] [] h1 (fun o h' => ∃ i nd' np' f, o = .returned (some (.int (nI i))) ∧ SR G h' nd' np' f (shl Ct Dt n l) i ∧ Shs G h' nd' np' ∧ (nd ≤ nd' ∧ nd' ≤ nd1 + 2 * k + pqs ((l.take k).map (shp Ct Dt n))) ∧ (np ≤ np' ∧ np' ≤ np1 + 2 * k + pqs ((l.take k).map (shp Ct Dt n))) ∧ Fg G nd np h h' ∧ un h' ≤ un h1 + uq (l.take k)) := by
  intro k
  induction k with
  | zero =>
    intro nd1 np1 f i h1 _ F hle S sr b1 b2 b3
    refine bX24_shape_15 G (d + 1) h1 _ _ _ _ ((sA.le F.2.2.2.2.2).at (by decide)) ⟨fun _ => ?_, fun z => absurd (by decide) z⟩
    rw [List.drop_zero] at sr
    exact ⟨i, nd1, np1, f, rfl, sr, S, ⟨hle.1, by omega⟩, ⟨hle.2, by omega⟩, F, by omega⟩
  | succ k IH =>
    intro nd1 np1 f i h1 hkl F hle S sr b1 b2 b3
    have le := F.2.2.2.2.2
    have hkl' : k < l.length := by omega
    have ux := F.uw (hW q hWq)
    have ua := F.uw (hW arr eA.2.2)
    obtain ⟨p, hp⟩ : ∃ p, l[k]? = some p := ⟨_, List.getElem?_eq_getElem hkl'⟩
    have et : l.take (k + 1) = l.take k ++ [p] := by rw [List.take_succ, hp]; rfl
    have ed : l.drop k = p :: l.drop (k + 1) := by
      rw [List.drop_eq_getElem_cons hkl']
      rw [List.getElem?_eq_getElem hkl'] at hp
      rw [Option.some.inj hp]
    have eq1 : pqs ((l.take (k + 1)).map (shp Ct Dt n)) = pqs ((l.take k).map (shp Ct Dt n)) + pq (shp Ct Dt n p) := by
      rw [et, List.map_append, pqs_ap]
      rfl
    have eq2 : uq (l.take (k + 1)) = uq (l.take k) + 6 * (nw p - 1) := by rw [et, uq_ap]; rfl
    rw [eq1] at b1 b2 ⊢
    rw [eq2] at b3 ⊢
    obtain ⟨hp1, hp2, b, hp3, hp4⟩ := hl k p hp
    rw [nI_sub1 (by omega)]
    refine bX24_shape_15 G (d + 1) h1 _ _ _ _ ((sA.le le).at (by decide)) ⟨fun z => absurd z (nI_pos (by omega)), fun _ => ⟨ux.1.trans hk, arr, (ux.2.2.2.2.2 308).2.2.trans eA.1, ua.1.trans eA.2.1, by rw [ua.2.1, hla]; exact vp_i hkl' (by omega), b, by rw [nI_cn (by omega), ua.2.2.2.2.1]; exact hp3, ?_⟩⟩
    obtain ⟨k2, ν2, v1, v2, v3⟩ := hS p b lo hi h1 nd1 np1 hp1 hrc hp2 (F.ot hW hp2 hp4) (sA.le le) (F.ck sA ck) (fun a ha => F.fx (hW a ha)) S (by omega) (by omega) (by omega)
    refine ⟨k2, ν2, v1, v2, C.mono v3 ?_⟩
    rintro _ h9 ⟨i9, nd2, np2, f2, rfl, sr2, S2, ⟨c1, c2⟩, ⟨c3, c4⟩, F2, u2⟩
    have F09 := F.tr F2 hle.1 hle.2
    refine KI.i (C.mono (c_pair (d := d) (f := max f f2) (sA.le F09.2.2.2.2.2) hD S2 (SR.up _ _ _ sr2 _ (Nat.le_max_right ..)) (SR.up _ _ _ (SR.mv F2.sm c1 c3 _ _ _ sr) _ (Nat.le_max_left ..)) (by omega) (by omega)) ?_)
    rintro _ h12 ⟨rfl, S3, F3, u3, sr3⟩
    refine KI.i ?_
    rintro _ rfl
    rw [show nI k + (-1) = nI k - 1 from (Int32.sub_eq_add_neg ..).symm]
    refine X.mono (IH (nd2 + 1) (np2 + 2) (max f f2 + 1) nd2 h12 (by omega) (F09.tr F3 (by omega) (by omega)) ⟨by omega, by omega⟩ S3 (by rw [ed]; exact sr3) (by omega) (by omega) (by omega)) ?_
    rintro o h' ⟨i', nd', np', f', g1, g2, g3, ⟨g4, g5⟩, ⟨g6, g7⟩, g8, g9⟩
    exact ⟨i', nd', np', f', g1, g2, g3, ⟨g4, by omega⟩, ⟨g6, by omega⟩, g8, by omega⟩
theorem sh_lst (hD : DW (gW G)) (hS : ShI G W ts O Z D N Ct Dt rc n (d + 1)) (hrc : rc ≤ Ct.length) (hl : ∀ y, y ∈ l → sPt N Ct rc n y) (hT : TR lo hi (n1 38 t (ls l))) (ot : OTG (XA ts W O Z D h) W h (n1 38 t (ls l)) 0 0 q) (sA : SoA G h) (ck : CkW Z Ct Dt h) (hW : ∀ a, W a → FIx G h a) (S : Shs G h nd np) (b1 : nd + 1 + pq (shl Ct Dt n l) ≤ 1000) (b2 : np + pq (shl Ct Dt n l) ≤ 1000) (b3 : un h + 6 * (nw (n1 38 t (ls l)) - 1) + 16 ≤ UB) : C G mX24_shape (d + 2) [.ref q, .ref (gW G 5)] h (shQ G h nd np (shl Ct Dt n l) (1 + pq (shl Ct Dt n l)) (6 * (nw (n1 38 t (ls l)) - 1))) ∧ hK h q = 23 := by
  obtain ⟨hWq, hkq, -, oy⟩ := (OTG_nd (k := 38) (by decide)).mp ot
  have hk : hK h q = 23 := by simpa [kc] using hkq
  obtain ⟨arr, eA, hlen, tg⟩ := OTG_arr.mp ((OTG_ef (m' := 21) (i' := 308) (by decide) (by decide)).mp oy)
  refine ⟨?_, hk⟩
  have ew : nw (n1 38 t (ls l)) = nw (ls l) + 1 := by show 0 + nw (ls l) + 1 = _; omega
  have euq := uq_nw l hl
  have ep := pq_shl (Ct := Ct) (Dt := Dt) (n := n) l
  rw [ep] at b1 b2 ⊢
  rw [ew] at b3 ⊢
  have hTl : TR lo hi (ls l) := hT.2.2.2
  refine bX24_shape G (d + 1) h _ _ (sA.at (by decide)) (C.mono (c_node0 (d := d) (hd := 0) (al := 2) sA hD S (by omega)) ?_)
  rintro _ h1 ⟨i1, nd1, np1, f1, rfl, sr1, S1, ⟨c1, c2⟩, ⟨c3, c4⟩, F1, u1⟩
  have ux := F1.uw (hW q hWq)
  have ua := F1.uw (hW arr eA.2.2)
  have c5 : pq (sN (0 : Int32).toInt (2 : Int32).toInt []) = 0 := rfl
  rw [c5] at c4
  refine KI.i ⟨ux.1.trans hk, arr, (ux.2.2.2.2.2 308).2.2.trans eA.1, ua.1.trans eA.2.1, ?_⟩
  rintro _ rfl
  rw [ua.2.1, hlen, show Int32.ofNat l.length = nI l.length from rfl]
  have ed : l.drop l.length = [] := List.drop_of_length_le (Nat.le_refl _)
  have et : l.take l.length = l := List.take_of_length_le (Nat.le_refl _)
  have := sh_lst_15 (arr := arr) (nd := nd) (np := np) hD hS hrc sA ck hW hWq hk eA hlen (by omega) (fun j x hx => by
    obtain ⟨b', y1, y2⟩ := tg j x hx
    exact ⟨hl x (List.mem_of_getElem? hx), TR.ls_at hTl x (List.mem_of_getElem? hx), b', y1, y2⟩) l.length nd1 np1 f1 i1 h1 (Nat.le_refl _) F1 ⟨c1, c3⟩ S1 (by rw [ed]; exact sr1) (by rw [et]; omega) (by rw [et]; omega) (by rw [et]; omega)
  rw [et] at this
  refine X.mono this ?_
  rintro o h' ⟨i', nd', np', f', rfl, g2, g3, ⟨g4, g5⟩, ⟨g6, g7⟩, g8, g9⟩
  exact ⟨i', nd', np', f', rfl, g2, g3, ⟨g4, by omega⟩, ⟨g6, by rw [ep]; omega⟩, g8, by omega⟩
/-- a constructor -/
theorem sh_con {c : Nat} (hD : DW (gW G)) (hS : ShI G W ts O Z D N Ct Dt rc n (d + 1)) (hrc : rc ≤ Ct.length) (hc : c < rc) (hy : (y = .num 0 ∧ cH N Ct c = none) ∨ ((cH N Ct c).isSome = true ∧ sPt N Ct rc n y)) (hT : TR lo hi (n2 33 t (.num c) y)) (ot : OTG (XA ts W O Z D h) W h (n2 33 t (.num c) y) 0 0 q) (sA : SoA G h) (ck : CkW Z Ct Dt h) (hW : ∀ a, W a → FIx G h a) (S : Shs G h nd np) (b1 : nd + 1 + pq (shp Ct Dt (n + 1) (n2 33 t (.num c) y)) ≤ 1000) (b2 : np + pq (shp Ct Dt (n + 1) (n2 33 t (.num c) y)) ≤ 1000) (b3 : un h + 6 * (nw (n2 33 t (.num c) y) - 1) + 16 ≤ UB) : C G mX20_shape (d + 2) [.ref q, .ref (gW G 5)] h (shQ G h nd np (shp Ct Dt (n + 1) (n2 33 t (.num c) y)) (1 + pq (shp Ct Dt (n + 1) (n2 33 t (.num c) y))) (6 * (nw (n2 33 t (.num c) y) - 1))) ∧ hK h q = 19 := by
  obtain ⟨hWq, hkq, ⟨-, an⟩, oy⟩ := (OTG_nd (k := 33) (by decide)).mp ot
  have hk : hK h q = 19 := by simpa [kc] using hkq
  rw [OTG_c2 (by decide) (by decide)] at oy
  have oy5 := (OTG_ef (m' := 5) (i' := 303) (by decide) (by decide)).mp oy.2
  refine ⟨?_, hk⟩
  obtain ⟨id', w', ez, hid⟩ := (an _ _ rfl).2.2.2.1 rfl
  cases ez
  obtain ⟨hcD, hr304⟩ := hid (by omega)
  rw [Int.toNat_natCast] at hcD hr304
  obtain ⟨cx, hcx⟩ : ∃ x, Ct[c]? = some x := ⟨_, List.getElem?_eq_getElem (by omega)⟩
  obtain ⟨k54, k369, k368, yd, hyd, k4, k54', hlt, hlt2⟩ := ck c cx hcx
  have ew : nw (n2 33 t (.num c) y) = nw y + 10 := by show 0 + (0 + nw y) + 10 = _; omega
  have es : shp Ct Dt (n + 1) (n2 33 t (.num c) y) = sN (cNo Ct (c : Int).toNat) (cAl Ct Dt (c : Int).toNat) (if isN y = true then [] else [shp Ct Dt n y]) := rfl
  have e1 : cNo Ct c = ((nI cx.2.2.1).toInt : Int) := by
    unfold cNo
    rw [hcx, nI_toInt (by omega)]
  have e2 : cAl Ct Dt c = ((nI yd.2.2.1).toInt : Int) := by
    unfold cAl
    rw [hcx]
    show (match Dt[cx.2.1]? with | some y => ((y.2.2.1 : Nat) : Int) | none => 0) = _
    rw [hyd, nI_toInt (by omega)]
  rw [Int.toNat_natCast, e1, e2] at es
  rw [es] at b1 b2 ⊢
  rw [ew] at b3 ⊢
  refine bX20_shape G (d + 1) h _ _ (sA.at (by decide)) ⟨hk, fun z303 => ?_, fun b2' z303 => ?_⟩
  · have hy0 : y = .num 0 := by
      rcases OTG_5.mp oy5 with ⟨e, -⟩ | ⟨b, e, -⟩
      · exact e
      · rw [z303] at e; cases e
    have ey : (if isN y = true then [] else [shp Ct Dt n y]) = ([] : List Tr) := by rw [hy0]; rfl
    rw [ey] at b1 b2 ⊢
    refine ⟨fun z => (by rw [hr304] at z; cases z), fun b4 z4 => ?_⟩
    cases hr304.symm.trans z4
    refine ⟨k54, fun z => (by rw [hr304] at z; cases z), fun b7 z7 => ?_⟩
    cases hr304.symm.trans z7
    refine ⟨k54, _, k368, k4, ?_⟩
    rw [k369, k54']
    refine C.mono (c_node0 (d := d) sA hD S (by omega)) ?_
    rintro _ h1 ⟨i1, nd1, np1, f1, rfl, sr1, S1, ⟨c1, c2⟩, ⟨c3, c4⟩, F1, u1⟩
    exact KI.i ⟨i1, nd1, np1, f1, rfl, sr1, S1, ⟨c1, by omega⟩, ⟨c3, c4⟩, F1, by omega⟩
  · obtain ⟨oyb, hyN⟩ : OTG (XA ts W O Z D h) W h y 0 0 b2' ∧ ((cH N Ct c).isSome = true ∧ sPt N Ct rc n y) := by
      rcases OTG_5.mp oy5 with ⟨-, e⟩ | ⟨b, e, o⟩
      · rw [z303] at e; cases e
      · cases z303.symm.trans e
        refine ⟨o, hy.resolve_left fun z => ?_⟩
        obtain ⟨kk, zz, e2⟩ := OTG_0 o
        rw [z.1] at e2
        cases e2
    have isn : isN y = false := by
      obtain ⟨kk, zz, e2⟩ := OTG_0 oyb
      rw [e2]; rfl
    have ey : (if isN y = true then [] else [shp Ct Dt n y]) = [shp Ct Dt n y] := by rw [isn]; rfl
    have ep : pq (sN (nI cx.2.2.1).toInt (nI yd.2.2.1).toInt [shp Ct Dt n y]) = 1 + pq (shp Ct Dt n y) := by
      rw [pq_N]
      show 1 + (pq (shp Ct Dt n y) + 0) = _
      omega
    rw [ey] at b1 b2 ⊢
    rw [ep] at b1 b2 ⊢
    refine ⟨fun z => (by rw [hr304] at z; cases z), fun b4 z4 => ?_⟩
    cases hr304.symm.trans z4
    refine ⟨k54, fun z => (by rw [hr304] at z; cases z), fun b7 z7 => ?_⟩
    cases hr304.symm.trans z7
    refine ⟨k54, _, k368, k4, fun z => (by rw [z303] at z; cases z), fun b25 z25 => ?_⟩
    cases z303.symm.trans z25
    have hT2 : TR lo hi y := hT.2.2.2.2
    obtain ⟨k2, ν2, v1, v2, v3⟩ := hS y b2' lo hi h nd np hyN.2 hrc hT2 oyb sA ck hW S (by omega) (by omega) (by omega)
    refine ⟨k2, ν2, v1, v2, C.mono v3 ?_⟩
    rintro _ h9 ⟨i9, nd2, np2, f2, rfl, sr2, S2, ⟨c1, c2⟩, ⟨c3, c4⟩, F2, u2⟩
    rw [k369, k54']
    refine KI.i (C.mono (c_one (d := d) (sA.le F2.2.2.2.2.2) hD S2 sr2 (by omega) (by omega)) ?_)
    rintro _ h12 ⟨rfl, S3, F3, u3, sr3⟩
    exact KI.i ⟨nd2, nd2 + 1, np2 + 1, f2 + 1, rfl, sr3, S3, ⟨by omega, by omega⟩, ⟨by omega, by rw [ep]; omega⟩, F2.tr F3 c1 c3, by omega⟩
/-- two patterns -/
theorem sh_two {a b : Tr} (hD : DW (gW G)) (hS : ShI G W ts O Z D N Ct Dt rc n (d + 1)) (hrc : rc ≤ Ct.length) (ha : sPt N Ct rc n a) (hb : sPt N Ct rc n b) (hT : TR lo hi (n2 39 t a b)) (ot : OTG (XA ts W O Z D h) W h (n2 39 t a b) 0 0 q) (sA : SoA G h) (ck : CkW Z Ct Dt h) (hW : ∀ a, W a → FIx G h a) (S : Shs G h nd np) (b1 : nd + 1 + pq (sN 1 2 [shp Ct Dt n a, shp Ct Dt n b]) ≤ 1000) (b2 : np + pq (sN 1 2 [shp Ct Dt n a, shp Ct Dt n b]) ≤ 1000) (b3 : un h + 6 * (nw (n2 39 t a b) - 1) + 16 ≤ UB) : C G mX28_shape (d + 2) [.ref q, .ref (gW G 5)] h (shQ G h nd np (sN 1 2 [shp Ct Dt n a, shp Ct Dt n b]) (1 + pq (sN 1 2 [shp Ct Dt n a, shp Ct Dt n b])) (6 * (nw (n2 39 t a b) - 1))) ∧ hK h q = 27 := by
  obtain ⟨hWq, hkq, -, oy⟩ := (OTG_nd (k := 39) (by decide)).mp ot
  have hk : hK h q = 27 := by simpa [kc] using hkq
  rw [OTG_c2 (by decide) (by decide)] at oy
  obtain ⟨oa, ob⟩ := oy
  obtain ⟨ba, ra, oa'⟩ := OTG_f.mp oa
  obtain ⟨bb, rb, ob'⟩ := OTG_f.mp ((OTG_ef (m' := 1) (i' := 312) (by decide) (by decide)).mp ob)
  refine ⟨?_, hk⟩
  have ew : nw (n2 39 t a b) = nw a + nw b + 1 := by show 0 + (nw a + nw b) + 1 = _; omega
  have nwa := sPt_nw n a ha
  have nwb := sPt_nw n b hb
  have ep : pq (sN 1 2 [shp Ct Dt n a, shp Ct Dt n b]) = 2 + pq (shp Ct Dt n a) + pq (shp Ct Dt n b) := by
    rw [pq_N]
    show 2 + (pq (shp Ct Dt n a) + (pq (shp Ct Dt n b) + 0)) = _
    omega
  rw [ep] at b1 b2 ⊢
  rw [ew] at b3 ⊢
  have hTa : TR lo hi a := hT.2.2.2.1
  have hTb : TR lo hi b := hT.2.2.2.2
  refine bX28_shape G (d + 1) h _ _ (sA.at (by decide)) ⟨hk, ba, ra, ?_⟩
  obtain ⟨k2, ν2, v1, v2, v3⟩ := hS a ba lo hi h nd np ha hrc hTa oa' sA ck hW S (by omega) (by omega) (by omega)
  refine ⟨k2, ν2, v1, v2, C.mono v3 ?_⟩
  rintro _ h4 ⟨i4, nd1, np1, f1, rfl, sr1, S1, ⟨c1, c2⟩, ⟨c3, c4⟩, F1, u1⟩
  have ux := F1.uw (hW q hWq)
  refine KI.i ⟨bb, (ux.2.2.2.2.2 312).2.2.trans rb, ?_⟩
  obtain ⟨k3, ν3, w1, w2, w3⟩ := hS b bb lo hi h4 nd1 np1 hb hrc hTb (F1.ot hW hTb ob') (sA.le F1.2.2.2.2.2) (F1.ck sA ck) (fun a ha => F1.fx (hW a ha)) S1 (by omega) (by omega) (by omega)
  refine ⟨k3, ν3, w1, w2, C.mono w3 ?_⟩
  rintro _ h9 ⟨i9, nd2, np2, f2, rfl, sr2, S2, ⟨d1, d2⟩, ⟨d3, d4⟩, F2, u2⟩
  have F09 := F1.tr F2 c1 c3
  refine KI.i (C.mono (c_pair (d := d) (f := max f1 f2) (sA.le F09.2.2.2.2.2) hD S2 (SR.up _ _ _ (SR.mv F2.sm d1 d3 _ _ _ sr1) _ (Nat.le_max_left ..)) (SR.up _ _ _ sr2 _ (Nat.le_max_right ..)) (by omega) (by omega)) ?_)
  rintro _ h12 ⟨rfl, S3, F3, u3, sr3⟩
  exact KI.i ⟨nd2, nd2 + 1, np2 + 2, max f1 f2 + 1, rfl, sr3, S3, ⟨by omega, by omega⟩, ⟨by omega, by rw [ep]; omega⟩, F09.tr F3 (by omega) (by omega), by omega⟩
end
/-- all shapes -/
theorem sh_all {G : Gh} {W : Nat → Prop} {ts : List (Nat × Nat × Nat)} {O : List (Nat × Nat) × List (Nat × Nat)} {Z : Zt} {D : Dm} {N rc : Nat} {Ct : Ctb} {Dt : Dtb} (hD : DW (gW G)) : ∀ n d, ShI G W ts O Z D N Ct Dt rc n (d + 2 * n + 2) := by
  intro n
  induction n with
  | zero => intro d p q lo hi h nd np h1; exact h1.elim
  | succ n ih =>
    intro d p q lo hi h nd np hs hrc hT ot sA ck hW S b1 b2 b3
    have ih' : ShI G W ts O Z D N Ct Dt rc n (d + 2 * n + 2) := ih d
    have ih1 : ShI G W ts O Z D N Ct Dt rc n (d + 2 * n + 2 + 1) := by
      have := ih (d + 1)
      rw [show d + 1 + 2 * n + 2 = d + 2 * n + 2 + 1 by omega] at this
      exact this
    rcases hs with ⟨t, rfl⟩ | ⟨t, rfl⟩ | ⟨t, v, rfl⟩ | ⟨t, v, rfl⟩ | ⟨t, v, rfl⟩ | ⟨t, c, y, rfl, hc, hy⟩ | ⟨t, l, rfl, hl6, hl⟩ | ⟨t, l, rfl, hl⟩ | ⟨t, a, b, rfl, ha, hb'⟩ | ⟨t, y, rfl, hy⟩
    · have hk : hK h q = 20 := by simpa [kc] using ((OTG_n0 (by decide)).mp ot).2.1
      exact ⟨19, _, v19_shape, hk, bX21_shape G _ h _ _ ((sh_any S).wk (Nat.le_add_right ..) (Nat.zero_le _))⟩
    · have hk : hK h q = 24 := by simpa [kc] using ((OTG_n0 (by decide)).mp ot).2.1
      refine ⟨23, _, v23_shape, hk, ?_⟩
      rw [show d + 2 * (n + 1) + 2 = d + 2 * n + 2 + 1 + 1 by omega]
      have e0 : pq (shp Ct Dt (n + 1) (n0 36 t)) = 0 := rfl
      rw [e0] at b1 b2
      refine bX25_shape G _ h _ _ (sA.at (by decide)) (C.mono (c_node0 (d := d + 2 * n + 2) (hd := 0) (al := 1) sA hD S (by omega)) ?_)
      rintro _ h1 ⟨i1, nd1, np1, f1, rfl, z⟩
      exact KI.i (shQ.wk ⟨i1, nd1, np1, f1, rfl, z⟩ (by omega) (Nat.zero_le _))
    · have hk : hK h q = 21 := by simpa [kc] using ((OTG_nd (k := 32) (by decide)).mp ot).2.1
      exact ⟨20, _, v20_shape, hk, bX22_shape G _ h _ _ ((sh_any S).wk (Nat.le_add_right ..) (Nat.zero_le _))⟩
    · obtain ⟨hWq, hkq, ⟨ex, -⟩, -⟩ := (OTG_nd (k := 34) (by decide)).mp ot
      have hk : hK h q = 22 := by simpa [kc] using hkq
      obtain ⟨v', ev, e6, e7⟩ := (ex.2.2.2.2.2.2.2.2 _ _ rfl).2.1 (Or.inl rfl)
      cases ev
      refine ⟨21, _, v21_shape, hk, ?_⟩
      rw [show d + 2 * (n + 1) + 2 = d + 2 * n + 2 + 1 + 1 by omega]
      have e0 : pq (shp Ct Dt (n + 1) (n1 34 t (.num v))) = 0 := rfl
      have es : shp Ct Dt (n + 1) (n1 34 t (.num v)) = sN v 0 [] := rfl
      rw [e0] at b1 b2
      rw [es, ← e6]
      refine bX23_shape G _ h _ _ (sA.at (by decide)) ⟨hk, fun _ => C.mono (c_node0 (d := d + 2 * n + 2) (al := 0) sA hD S (by omega)) ?_, fun z => absurd e7 z⟩
      rintro _ h1 ⟨i1, nd1, np1, f1, rfl, z⟩
      exact KI.i (shQ.wk ⟨i1, nd1, np1, f1, rfl, z⟩ (by omega) (Nat.zero_le _))
    · obtain ⟨hWq, hkq, ⟨ex, -⟩, -⟩ := (OTG_nd (k := 35) (by decide)).mp ot
      have hk : hK h q = 22 := by simpa [kc] using hkq
      obtain ⟨v', ev, e6, e7⟩ := (ex.2.2.2.2.2.2.2.2 _ _ rfl).2.1 (Or.inr rfl)
      cases ev
      refine ⟨21, _, v21_shape, hk, ?_⟩
      rw [show d + 2 * (n + 1) + 2 = d + 2 * n + 2 + 1 + 1 by omega]
      have e0 : pq (shp Ct Dt (n + 1) (n1 35 t (.num v))) = 0 := rfl
      have es : shp Ct Dt (n + 1) (n1 35 t (.num v)) = sN v 2 [] := rfl
      rw [e0] at b1 b2
      rw [es, ← e6]
      refine bX23_shape G _ h _ _ (sA.at (by decide)) ⟨hk, fun z => absurd (e7.symm.trans z) (by decide), fun _ => C.mono (c_node0 (d := d + 2 * n + 2) (al := 2) sA hD S (by omega)) ?_⟩
      rintro _ h1 ⟨i1, nd1, np1, f1, rfl, z⟩
      exact KI.i (shQ.wk ⟨i1, nd1, np1, f1, rfl, z⟩ (by omega) (Nat.zero_le _))
    · obtain ⟨c1, hk⟩ := sh_con (d := d + 2 * n + 2) hD ih1 hrc hc hy hT ot sA ck hW S b1 b2 b3
      exact ⟨18, _, v18_shape, hk, by rw [show d + 2 * (n + 1) + 2 = d + 2 * n + 2 + 2 by omega]; exact c1⟩
    · have es : shp Ct Dt (n + 1) (n1 37 t (ls l)) = sN 0 1 (l.map (shp Ct Dt n)) := by
        have : shp Ct Dt (n + 1) (n1 37 t (ls l)) = sN 0 1 ((unl (ls l)).map (shp Ct Dt n)) := rfl
        rw [this, unl_ls]
      rw [es] at b1 b2 ⊢
      obtain ⟨c1, hk⟩ := sh_tup (d := d + 2 * n + 2) hD ih' hrc hl hl6 hT ot sA ck hW S b1 b2 b3
      exact ⟨25, _, v25_shape, hk, by rw [show d + 2 * (n + 1) + 2 = d + 2 * n + 2 + 2 by omega]; exact c1⟩
    · have es : shp Ct Dt (n + 1) (n1 38 t (ls l)) = shl Ct Dt n l := by
        have : shp Ct Dt (n + 1) (n1 38 t (ls l)) = (unl (ls l)).foldr (fun p s => sN 1 2 [shp Ct Dt n p, s]) (sN 0 2 []) := rfl
        rw [this, unl_ls]
        rfl
      rw [es] at b1 b2 ⊢
      obtain ⟨c1, hk⟩ := sh_lst (d := d + 2 * n + 2) hD ih1 hrc hl hT ot sA ck hW S b1 b2 b3
      exact ⟨22, _, v22_shape, hk, by rw [show d + 2 * (n + 1) + 2 = d + 2 * n + 2 + 2 by omega]; exact c1⟩
    · obtain ⟨c1, hk⟩ := sh_two (d := d + 2 * n + 2) hD ih1 hrc ha hb' hT ot sA ck hW S b1 b2 b3
      exact ⟨26, _, v26_shape, hk, by rw [show d + 2 * (n + 1) + 2 = d + 2 * n + 2 + 2 by omega]; exact c1⟩
    · obtain ⟨hWq, hkq, -, oy, g19⟩ := (OTG_ndg (by decide)).mp ot
      obtain ⟨c, c1, c2, c3, c4⟩ := g19 rfl
      rw [OTG_ef (m' := 6) (i' := 0) (by decide) (by decide), OTG_6] at oy
      obtain ⟨b, b1', b2'⟩ := oy
      cases c3.symm.trans b1'
      have kc' := shP_kg n y c hy b2'
      have hk : hK h q = 25 := by
        rcases c4 with ⟨e, -⟩ | ⟨-, e⟩
        · exact e
        · exact absurd kc' e
      have es : shp Ct Dt (n + 1) (n1 19 t y) = shp Ct Dt n y := rfl
      have ew : nw (n1 19 t y) = nw y + 1 := by show 0 + nw y + 1 = _; omega
      rw [es] at b1 b2 ⊢
      rw [ew] at b3 ⊢
      obtain ⟨k2, ν2, v1, v2, v3⟩ := ih1 y c lo hi h nd np hy hrc hT.2.2.2 b2' sA ck hW S b1 b2 (by omega)
      refine ⟨24, _, v24_shape, hk, ?_⟩
      rw [show d + 2 * (n + 1) + 2 = d + 2 * n + 2 + 1 + 1 by omega]
      have r309 : fR h q 309 = some c := by
        rw [if_pos hk] at c3
        exact c3
      refine bX26_shape G _ h _ _ ⟨hk, c, r309, k2, ν2, v1, v2, C.mono v3 ?_⟩
      rintro _ h1 ⟨i1, nd1, np1, f1, rfl, z⟩
      exact KI.i (shQ.wk ⟨i1, nd1, np1, f1, rfl, z⟩ (Nat.le_refl _) (by omega))
