/-! DATATYPES: constructors that stood before; what a constructor has -/
section
variable {G : Gh} {d : Nat} {W N : Nat → Prop} {h h1 h2 h3 h5 h' hA : AH} {ts : List (Nat × Nat × Nat)} {t i j n nb nb' nb1 nb2 r q g fr ba lo hi m m0 m1 m2 lo1 hi1 b k c arr t0 tc u : Nat} {v : Int} {Z Z' Z1 Z2 : Zt} {D D' D1 D2 : Dm} {O : List (Nat × Nat) × List (Nat × Nat)} {s s0 s' s1 s2 s5 : RSt} {x y e x' a' b' : Tr} {l l1 l2 ds : List Tr} {TK DC : List Nat} {f : Nat → Option Nat} {A : Zt → Dm → AH → Prop} {K V : Nat → Nat}
variable {d0 rc bc : Nat}
/-- a constructor of the declaration -/
theorem DSt.con (k : DSt W ts h n m0 hi r ds) (kw : KW W lo1 hi1 h h1) (hx : ds[j]? = some x) (hc : (dCs x)[i]? = some e) (eb : rowAt h r j = some b) (e0 : fR h b 352 = some rc) : ∃ bc, rowAt h rc i = some bc ∧ (∀ d, C G mX7_con (d + 1) [.ref rc, .int (nI i)] h1 (Ret (.ref bc) h1)) ∧ W bc ∧ hK h1 bc = 52 ∧ fI h1 bc 361 = nI (tkN e) ∧ nv1 e = Vl ts (tkN e) ∧ EXs W h 56 bc (.add (.num (tkN e)) (.add (.num (nv1 e)) (cHas e))) ∧ ((cHas e = .num 0 ∧ fR h bc 362 = none) ∨ (shT n (cHas e) ∧ ∃ bb, fR h bc 362 = some bb ∧ OTG (X0 ts W h) W h (cHas e) 0 0 bb)) ∧ tkN e ∈ TKc ds ∧ ((m0 ≤ tkN e ∧ tkN e < hi) ∧ tkN e < ts.length ∧ Kd ts (tkN e) = 281) ∧ (hK h1 rc = 6 ∧ fI h1 rc 78 = nI (dCs x).length ∧ (dCs x).length < 200000) := by
  obtain ⟨b', eb', -, -, -, -, -, -, -, hcs, ⟨rc', -, rl, e0', ra, tg⟩, -⟩ := k.at (G := G) kw hx
  cases eb.symm.trans eb'
  cases e0.symm.trans e0'
  obtain ⟨bc, ebc, obc⟩ := tg i e hc
  have hm := List.mem_of_getElem? hx
  have hmc := List.mem_of_getElem? hc
  have hi' := (List.getElem?_eq_some_iff.mp hc).1
  obtain ⟨c1, c2, c3, c4, c5, c6⟩ := con_info (hcs e hmc) obc
  have ub := (kw.2 bc c1).1
  obtain ⟨z1, z2, z3, z4⟩ := row_sz rl
  obtain ⟨l0, n0, rc0, -, rb⟩ := row_get (i := i) rl (by rw [ra]; exact ebc) hi'
  have hT : tkN e ∈ TKc ds := List.mem_flatMap.mpr ⟨x, hm, List.mem_map_of_mem hmc⟩
  have tt := (dat_rng ds m0 hi k.2.2.2.1 k.2.2.1).2.2.2.1 _ hT
  exact ⟨bc, ebc, fun d => c_rcon rc0 rb (ub.1.trans c2), c1, ub.1.trans c2, ((ub.2.2.2.2.2 361 (by decide)).1).trans c3, c4, c5, c6, hT, ⟨tt.1, Nat.lt_of_lt_of_le tt.1.2 k.2.2.2.2.1, tt.2⟩, z1, z2, z3⟩
theorem there_43 (st : DSt W ts h n m0 hi r ds) (kw : KW W lo1 hi1 h h1) (c1 : TkC G h1 ts) (hy : ds[j]? = some y) (eb : rowAt h r j = some b) (e0 : fR h b 352 = some rc) (k6 : hK h1 rc = 6) {N0 : Nat} (hN : N0 ≤ (dCs y).length) (hNl : N0 < 200000) (ht : t < ts.length) (hk : Kd ts t = 281) {x2 x3 : Int32} {Q : Outcome → AH → Prop} :
    ∀ f i, N0 - i < f → i ≤ N0 → ((((dCs y).take N0).drop i).any (fun c => nv1 c == Vl ts t) = true → Q (.returned (some (.int 1))) h1) → ((((dCs y).take N0).drop i).any (fun c => nv1 c == Vl ts t) = false → X G mX57_isThere (d + 6) none [] 3 [(0, .ref q), (1, .ref (gW G 4)), (2, .int x2), (3, .int x3), (4, .int (nI t)), (5, .int (nI (j + 1)))] [] h1 Q) →
    X G mX57_isThere (d + 6) none [] 43 [(0, .ref q), (1, .ref (gW G 4)), (2, .int x2), (3, .int x3), (4, .int (nI t)), (5, .int (nI j)), (6, .ref rc), (7, .int (nI N0)), (8, .int (nI i))] [] h1 Q := by
  intro f
  induction f with
  | zero => intro i hf; omega
  | succ f IH =>
    intro i hf hiN q1 q2
    refine bX57_isThere_43 G (d + 5) h1 _ _ _ _ _ _ _ _ _ (c1.1.at (by decide)) ?_
    rw [nI_leI (by omega) (by omega)]
    refine ⟨fun z => ?_, fun z => ?_⟩
    · rintro _ rfl
      rw [nI_1]
      refine q2 ?_
      rw [List.drop_eq_nil_of_le (by rw [List.length_take]; omega)]
      rfl
    · obtain ⟨e, he⟩ : ∃ e, (dCs y)[i]? = some e := ⟨_, List.getElem?_eq_getElem (by omega)⟩
      obtain ⟨bc, -, cc, -, hkc, e61, hv, -, -, -, ⟨-, t1, t2⟩, -⟩ := st.con (G := G) kw hy he eb e0
      refine ⟨k6, C.rr (cc (d + 4)) ⟨hkc, ?_⟩⟩
      rw [e61]
      refine C.ri (c_twice (d := d + 4) c1 ht (Or.inr (Or.inl hk)) t1 (Or.inr (Or.inl t2))) ?_
      have hg : ((dCs y).take N0)[i]? = some e := by rw [List.getElem?_take_of_lt (by omega)]; exact he
      have hd : ((dCs y).take N0).drop i = e :: ((dCs y).take N0).drop (i + 1) := by
        rw [List.drop_eq_getElem_cons (List.getElem?_eq_some_iff.mp hg).1]
        rw [(List.getElem?_eq_some_iff.mp hg).2]
      rw [hd, List.any_cons, hv] at q1 q2
      rw [b2_0]
      refine ⟨fun z1 => ?_, fun z1 => ?_⟩
      · rintro _ rfl
        rw [nI_1]
        rw [z1, Bool.false_or] at q1 q2
        exact IH (i + 1) (by omega) (by omega) q1 q2
      · exact q1 (by rw [bt z1, Bool.true_or])
/-- the names of constructors -/
def cnm (l : List Tr) : List Nat := l.flatMap fun x => (dCs x).map nv1
theorem there_3 (st : DSt W ts h n m0 hi r ds) (kw : KW W lo1 hi1 h h1) (c1 : TkC G h1 ts) (hWq : W q) (hk53 : hK h q = 53) (eF0 : fR h q 364 = some r) (hx : ds[k]? = some x) (hil : i ≤ (dCs x).length) (ht : t < ts.length) (hk : Kd ts t = 281) {Q : Outcome → AH → Prop} :
    ∀ f j, k + 1 - j < f → j ≤ k + 1 → Q (.returned (some (.int (b2 (j ≤ k && (cnm ((ds.take k).drop j) ++ ((dCs x).take i).map nv1).any (· == Vl ts t)))))) h1 →
    X G mX57_isThere (d + 6) none [] 3 [(0, .ref q), (1, .ref (gW G 4)), (2, .int (nI k)), (3, .int (nI i)), (4, .int (nI t)), (5, .int (nI j))] [] h1 Q := by
  have hkl := (List.getElem?_eq_some_iff.mp hx).1
  have hrow := row_sz st.1
  intro f
  induction f with
  | zero => intro j hf; omega
  | succ f IH =>
    intro j hf hjk hq
    have u1 := (kw.2 q hWq).1
    refine bX57_isThere_3 G (d + 5) h1 _ _ _ _ _ _ ?_
    have hlt : (nI k < nI j) ↔ k < j := by
      rw [Int32.lt_iff_toInt_lt, nI_toInt (by omega), nI_toInt (by omega)]
      omega
    rw [hlt]
    refine ⟨fun z => ?_, fun z => ?_⟩
    · have : (decide (j ≤ k) && (cnm ((ds.take k).drop j) ++ ((dCs x).take i).map nv1).any (· == Vl ts t)) = false := by
        rw [decide_eq_false (by omega), Bool.false_and]
      rw [this] at hq
      exact hq
    · have hjk2 : j ≤ k := by omega
      rw [decide_eq_true hjk2, Bool.true_and] at hq
      obtain ⟨y, hy⟩ : ∃ y, ds[j]? = some y := ⟨_, List.getElem?_eq_getElem (by omega)⟩
      obtain ⟨b, eb, -, cb, -, -, -, dv, -, -, ⟨rc, e52, rl, e0, ra, -⟩, -, z1, -⟩ := st.at (G := G) kw hy
      obtain ⟨y1, y2, y3, y4⟩ := row_sz rl
      refine ⟨u1.1.trans hk53, r, ((u1.2.2.2.2.2 364 (by decide)).2.2).trans eF0, z1, C.rr (cb (d + 4)) ⟨dv.1, rc, e52, ?_⟩⟩
      have heq : (nI j = nI k) ↔ j = k := nI_eq (by omega) (by omega)
      rw [heq]
      refine ⟨fun ej => ?_, fun ej => ?_⟩
      · subst ej
        cases hx.symm.trans hy
        have ed : cnm ((ds.take j).drop j) = [] := by
          rw [List.drop_eq_nil_of_le (by rw [List.length_take]; omega)]
          rfl
        rw [ed, List.nil_append, List.any_map] at hq
        refine there_43 (q := q) st kw c1 hy eb e0 y1 hil (by omega) ht hk (i + 1) 0 (by omega) (by omega) (fun z1 => ?_) (fun z1 => IH (j + 1) (by omega) (by omega) ?_)
        · rw [List.drop_zero] at z1
          have : ((dCs x).take i).any ((· == Vl ts t) ∘ nv1) = true := z1
          rw [this] at hq
          exact hq
        · rw [List.drop_zero] at z1
          have : ((dCs x).take i).any ((· == Vl ts t) ∘ nv1) = false := z1
          rw [this] at hq
          rw [decide_eq_false (by omega), Bool.false_and]
          exact hq
      · refine ⟨y1, ?_⟩
        rintro _ rfl
        rw [y2]
        have ed : cnm ((ds.take k).drop j) = (dCs y).map nv1 ++ cnm ((ds.take k).drop (j + 1)) := by
          have hg : (ds.take k)[j]? = some y := by rw [List.getElem?_take_of_lt (by omega)]; exact hy
          rw [List.drop_eq_getElem_cons (List.getElem?_eq_some_iff.mp hg).1, (List.getElem?_eq_some_iff.mp hg).2]
          rfl
        rw [ed, List.append_assoc, List.any_append, List.any_map] at hq
        refine there_43 (q := q) st kw c1 hy eb e0 y1 (Nat.le_refl _) y3 ht hk ((dCs y).length + 1) 0 (by omega) (by omega) (fun z1 => ?_) (fun z1 => IH (j + 1) (by omega) (by omega) ?_)
        · rw [List.drop_zero, List.take_length] at z1
          have : (dCs y).any ((· == Vl ts t) ∘ nv1) = true := z1
          rw [this, Bool.true_or] at hq
          exact hq
        · rw [List.drop_zero, List.take_length] at z1
          have : (dCs y).any ((· == Vl ts t) ∘ nv1) = false := z1
          rw [this, Bool.false_or] at hq
          rw [decide_eq_true (by omega), Bool.true_and]
          exact hq
/-- does a constructor stand before? -/
theorem c_there (st : DSt W ts h n m0 hi r ds) (kw : KW W lo1 hi1 h h1) (c1 : TkC G h1 ts) (hWq : W q) (hk53 : hK h q = 53) (eF0 : fR h q 364 = some r) (hx : ds[k]? = some x) (hil : i ≤ (dCs x).length) (ht : t < ts.length) (hk : Kd ts t = 281) :
    C G mX57_isThere (d + 6) [.ref q, .ref (gW G 4), .int (nI k), .int (nI i), .int (nI t)] h1 (Ret (.int (b2 ((cnm (ds.take k) ++ ((dCs x).take i).map nv1).any (· == Vl ts t)))) h1) := by
  refine bX57_isThere G (d + 5) h1 _ _ _ _ _ (there_3 (k := k) (i := i) st kw c1 hWq hk53 eF0 hx hil ht hk (k + 2) 0 (by omega) (by omega) ?_)
  rw [decide_eq_true (Nat.zero_le _), Bool.true_and, List.drop_zero]
  exact ⟨rfl, rfl⟩
/-- a type within a declaration: nothing is made -/
theorem ty_0 (hT : TyR G W ts O n (d + 2)) {us : List Nat} (hs : shT n y) (hw : wf (Kd ts) y lo1 hi1) (ot : OTG (X0 ts W h1) W h1 y 0 0 b) (ri : rI G W ts O h1 Z1 D1 s1 nb1 lo1 hi1) {p2 : Nat} (dv : DV W h1 ts us p2) :
    ∃ k ν, VT ⟨"LetMill$Ty", "resolve", "(LLetMill$Scope;LLetMill$Data;)V"⟩ VMTy_resolve k ν ∧ hK h1 b = k + 1 ∧ C G ν (d + 6) [.ref b, .ref (gW G 4), .ref p2] h1 (fun o h' => o = .returned none ∧ ∃ Z' D', RS G W h' ts Z' O (rTy (Pl ts) n (us.map (Vl ts)) y s1).2 nb1 ∧ WB G W h' ∧ VD (rTy (Pl ts) n (us.map (Vl ts)) y s1).2 D' ∧ rA ts W O lo1 hi1 (rTy (Pl ts) n (us.map (Vl ts)) y s1).1 b Z' D' h' ∧ KW W lo1 hi1 h1 h' ∧ Ext Z1 Z' D1 D' ∧ (∀ t, D'.1 t → D1.1 t ∨ (lo1 ≤ t ∧ t < hi1)) ∧ VN ts (rTy (Pl ts) n (us.map (Vl ts)) y s1).2 ∧ un h' = un h1 ∧ Le h1 h' none) := by
  obtain ⟨k, ν, v1, v2, v3⟩ := hT y lo1 hi1 b p2 h1 s1 Z1 D1 nb1 us hs hw ot ri dv
  have hb : ∀ g, VMTy_resolve.testBit g = false → (mM ν).testBit g = false := fun g hg => by
    rw [← v1.2.2.2.2.2.2.2, Nat.testBit_and, hg, Bool.and_false]
  refine ⟨k, ν, v1, v2, C.use v3 v1.2.2.2.2.2.2.1 ?_⟩
  rintro _ h' ⟨rfl, Z', D', nb', a1, a2, a3, a4, a5, a6, a7, a8, a9, a10, a11⟩ lm -
  obtain ⟨l1, l2, l3, l4⟩ := lm.2.1 (hb 399 (by decide +kernel))
  have sA := ri.1.1.1
  have en : nb' = nb1 := ri.1.nbe a1 l4 (lm.fr (sA.at (i := 4) (by decide)).1 (by decide) (hb 82 (by decide +kernel))) fun i hi => by
    have : hK h1 (gW G i) = 6 := by
      rcases hi with rfl | rfl | rfl
      · exact sr_kind sA (by decide)
      · exact sr_kind sA (by decide)
      · exact sr_kind sA (by decide)
    exact lm.fr this (by decide) (hb 77 (by decide +kernel))
  subst en
  refine ⟨rfl, Z', D', a1, a2, a3, a4, a5, a6, a7, a8, ?_, a11⟩
  unfold un
  rw [l1, l2]
end
