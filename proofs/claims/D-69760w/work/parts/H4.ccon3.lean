/-! DATATYPES: all constructors -/
/-- the constructor i of the datatype j, resolved -/
def CZ (ts : List (Nat × Nat × Nat)) (W : Nat → Prop) (O : List (Nat × Nat) × List (Nat × Nat)) (h : AH) (r : Nat) (ds : List Tr) (hi : Nat) (Z : Zt) (D : Dm) (h1 : AH) (j i : Nat) (y' : Tr) : Prop := ∃ x e b rc bc ci y, ds[j]? = some x ∧ (dCs x)[i]? = some e ∧ rowAt h r j = some b ∧ fR h b 352 = some rc ∧ rowAt h rc i = some bc ∧ W bc ∧ y' = .mulL 56 (.add (.num (tkN e)) (.add (.num (ci : Nat)) y)) ∧ HZ ts W O h r ds hi Z D h1 j i y ∧ ci < D.2.1 ∧ fR h1 bc 363 = some (Z.2.1 ci)
section
variable {G : Gh} {d : Nat} {W N : Nat → Prop} {h h1 h2 h3 h5 h' hA : AH} {ts : List (Nat × Nat × Nat)} {t i j n nb nb' nb1 nb2 r q g fr ba lo hi m m0 m1 m2 lo1 hi1 b k c arr t0 tc u : Nat} {v : Int} {Z Z' Z1 Z2 : Zt} {D D' D1 D2 : Dm} {O : List (Nat × Nat) × List (Nat × Nat)} {s s0 s' s1 s2 s5 : RSt} {x y e x' a' b' : Tr} {l l1 l2 ds : List Tr} {TK DC : List Nat} {f : Nat → Option Nat} {A : Zt → Dm → AH → Prop} {K V : Nat → Nat}
variable {d0 dd rc bc : Nat} {Fd Rd F : List (List Tr)} {hs : List Tr}
theorem CZ.mv (htl : ts.length ≤ 1300) (k : CZ ts W O h r ds hi Z1 D1 h1 j i y) (st : DSt W ts h n m0 hi r ds) (kw0 : KW W lo hi h h1) (kw : KW W tc (tc + 1) h1 h2) (ex : Ext Z1 Z2 D1 D2) (hTc : tc ∈ TKc ds) (hn : ∀ x e, ds[j]? = some x → (dCs x)[i]? = some e → tkN e ≠ tc) : CZ ts W O h r ds hi Z2 D2 h2 j i y := by
  obtain ⟨x, e, b, rc, bc, ci, z, a1, a2, a3, a4, a5, a6, a7, a8, a9, a10⟩ := k
  obtain ⟨bc', e1, -, e3, e4, e5, -, -, -, -, ⟨-, e10, -⟩, -⟩ := st.con (G := default) kw0 a1 a2 a3 a4
  cases a5.symm.trans e1
  have hne := hn x e a1 a2
  have hu := (kw.2 bc a6).2 (by
    unfold tokA
    rw [e4, show fI h1 bc (tf 52) = nI (tkN e) from e5, nI_toInt (by omega)]
    omega)
  refine ⟨x, e, b, rc, bc, ci, z, a1, a2, a3, a4, a5, a6, a7, a8.mv kw ex fun x' e' u' _ _ rg => ?_, Nat.lt_of_lt_of_le a9 ex.2.1.1, by rw [(hu.2.2.2.2.2 363).2.2, ex.2.1.2 ci a9]; exact a10⟩
  have := rg.2.2 tc (Or.inr hTc)
  omega
theorem CZ.mv0 (k : CZ ts W O h r ds hi Z1 D1 h1 j i y) (kw : KW W 0 0 h1 h2) : CZ ts W O h r ds hi Z1 D1 h2 j i y := by
  obtain ⟨x, e, b, rc, bc, ci, z, a1, a2, a3, a4, a5, a6, a7, a8, a9, a10⟩ := k
  have hu := (kw.2 bc a6).2 (by omega)
  exact ⟨x, e, b, rc, bc, ci, z, a1, a2, a3, a4, a5, a6, a7, a8.mv kw Ext.rf fun _ _ _ _ _ _ => Or.inr (Nat.zero_le _), a9, by rw [(hu.2.2.2.2.2 363).2.2]; exact a10⟩
theorem TI.tk {TK' : List Nat} {c' : Nat} (k : TI G W ts O h Z D nb lo hi ds h1 Z1 D1 s1 nb1 TK DC c) (hs : ∀ t, t ∈ TK → t ∈ TK') (hc : c ≤ c') : TI G W ts O h Z D nb lo hi ds h1 Z1 D1 s1 nb1 TK' DC c' := by
  obtain ⟨k1, k2, k3, k4, k5, k6, k7, k8, k9, k10⟩ := k
  refine ⟨k1, k2, k3, k4, k5, fun t ht => ?_, k7, k8, by omega, k10⟩
  rcases k6 t ht with z | z | z
  · exact Or.inl z
  · exact Or.inr (Or.inl (hs t z))
  · exact Or.inr (Or.inr z)
theorem dat_332 (st : DSt W ts h n m0 hi r ds) (ri : rI G W ts O h Z D s nb lo hi) (hWq : W q) (hk : hK h q = 53) (htk : fI h q 313 = nI t0) (ht0 : lo ≤ t0 ∧ t0 < m0) (hm0 : m0 ≤ hi) (hTK : ∀ t, t ∈ TK → t = t0 ∨ t ∈ TKd ds) (hx : ds[k]? = some x) (eb : rowAt h r k = some b) (e0 : fR h b 352 = some rc) (hRd : Rd.length = k) (hc : c ≤ 60 * ds.length) (hFk : F.getD k [] = hs) (hFl : hs.length = (dCs x).length) {v365 : Int32} {Q : Outcome → AH → Prop} {R : List Tr} {sF : RSt}
    (hQ : ∀ h1 Z1 D1 nb1, TI G W ts O h Z D nb lo hi ds h1 Z1 D1 sF nb1 (TK ++ TKc (ds.take (k + 1))) (TKc ds) (c + 90 * (TKc (ds.take (k + 1))).length) → (∀ j i y, (F.getD j [])[i]? = some y → HZ ts W O h r ds hi Z1 D1 h1 j i y) → (∀ j i y, ((Rd ++ [R]).getD j [])[i]? = some y → CZ ts W O h r ds hi Z1 D1 h1 j i y) → TBs W h r d0 ds Z1 h1 → fI h1 q 365 = v365 → d0 + ds.length ≤ (rDt sF).length → X G mX57_resolve (d + 7) none [] 295 [(0, .ref q), (1, .ref (gW G 4)), (2, .int (nI (k + 1)))] [] h1 Q) :
    ∀ c2 c1 h2 rs h1 s1 Z1 D1 nb1, dCs x = c1 ++ c2 → hs.drop c1.length = h2 → rs.length = c1.length → TI G W ts O h Z D nb lo hi ds h1 Z1 D1 s1 nb1 (TK ++ (TKc (ds.take k) ++ c1.map tkN)) (TKc ds) (c + 90 * (TKc (ds.take k) ++ c1.map tkN).length) → (∀ j i y, (F.getD j [])[i]? = some y → HZ ts W O h r ds hi Z1 D1 h1 j i y) → (∀ j i y, ((Rd ++ [rs]).getD j [])[i]? = some y → CZ ts W O h r ds hi Z1 D1 h1 j i y) → TBs W h r d0 ds Z1 h1 → fI h1 q 365 = v365 → d0 + ds.length ≤ (rDt s1).length → R = rs ++ (rD3c (d0 + k) c1.length c2 h2 s1).1 → sF = (rD3c (d0 + k) c1.length c2 h2 s1).2 →
    X G mX57_resolve (d + 7) none [] 332 [(0, .ref q), (1, .ref (gW G 4)), (2, .int (nI k)), (3, .ref b), (4, .int (nI c1.length))] [] h1 Q := by
  obtain ⟨n1, n2, bd1, bd2, rgs⟩ := dat_rng ds m0 hi st.2.2.2.1 st.2.2.1
  have htl := ri.1.1.2.2.2.1
  have hpU := ri.2.2.2.2.2.2.2
  have hkl := (List.getElem?_eq_some_iff.mp hx).1
  have hrow := row_sz st.1
  have hxm := List.mem_of_getElem? hx
  have hbud := tk_len st.2.2.2.1 st.2.2.1
  have eTk : TKc (ds.take (k + 1)) = TKc (ds.take k) ++ (dCs x).map tkN := by
    unfold TKc
    rw [List.take_add_one, hx, List.flatMap_append]
    congr 1
    exact List.flatMap_singleton ..
  have hsp : ds = ds.take k ++ x :: ds.drop (k + 1) := by
    rw [← (List.getElem?_eq_some_iff.mp hx).2, ← List.drop_eq_getElem_cons hkl, List.take_append_drop]
  have eTa : TKc ds = TKc (ds.take k) ++ ((dCs x).map tkN ++ TKc (ds.drop (k + 1))) := by
    conv => lhs; rw [hsp]
    unfold TKc
    rw [List.flatMap_append, List.flatMap_cons]
  intro c2
  induction c2 with
  | nil =>
    intro c1 h2 rs h1 s1 Z1 D1 nb1 el ehs hrs M H CR B h365 hDl eF eS
    obtain ⟨b', eb', -, -, -, -, -, dv, -, -, ⟨rc', e52, rl, e0', -⟩, -⟩ := st.at (G := G) M.2.2.2.1 hx
    cases eb.symm.trans eb'
    cases e0.symm.trans e0'
    obtain ⟨z1, z2, z3, z4⟩ := row_sz rl
    have hcl : (dCs x).length = c1.length := by rw [el]; simp
    refine bX57_resolve_332 G (d + 6) h1 _ _ _ _ _ (M.1.1.1.at (by decide)) ⟨dv.1, rc, e52, z1, ?_⟩
    rw [z2, nI_leI (by omega) (by omega)]
    refine ⟨fun _ => ?_, fun z => absurd (Nat.le_of_eq hcl) z⟩
    rintro _ rfl
    rw [nI_1]
    have e3 : rD3c (d0 + k) c1.length [] h2 s1 = ([], s1) := by cases h2 <;> rfl
    rw [e3] at eF eS
    rw [List.append_nil] at eF el
    subst eF eS
    exact hQ h1 Z1 D1 nb1 (by rw [eTk, el]; exact M) H CR B h365 hDl
  | cons e c2 IH =>
    intro c1 h2 rs h1 s1 Z1 D1 nb1 el ehs hrs M H CR B h365 hDl eF eS
    obtain ⟨b', eb', -, -, -, -, -, dv, -, -, ⟨rc', e52, rl, e0', -⟩, -⟩ := st.at (G := G) M.2.2.2.1 hx
    cases eb.symm.trans eb'
    cases e0.symm.trans e0'
    obtain ⟨z1, z2, z3, z4⟩ := row_sz rl
    have hce : (dCs x)[c1.length]? = some e := by rw [el, List.getElem?_append_right (Nat.le_refl _), Nat.sub_self]; rfl
    have hcl := (List.getElem?_eq_some_iff.mp hce).1
    have hem := List.mem_of_getElem? hce
    obtain ⟨bc, ebc, cc, hWbc, hk52, e61, hv, ex, -, hTc, ⟨tb, tl, tk281⟩, -⟩ := st.con (G := G) M.2.2.2.1 hx hce eb e0
    obtain ⟨y, hy⟩ : ∃ y, hs[c1.length]? = some y := ⟨_, List.getElem?_eq_getElem (by omega)⟩
    have eh2 : h2 = y :: hs.drop (c1.length + 1) := by
      rw [← ehs, List.drop_eq_getElem_cons (by omega), (List.getElem?_eq_some_iff.mp hy).2]
    have hz := H k c1.length y (by rw [hFk]; exact hy)
    have hyy : (isN y = true ∧ fR h1 bc 362 = none) ∨ (isN y = false ∧ ∃ bb, fR h1 bc 362 = some bb) := by
      obtain ⟨x', e', b', rc', bc', a1, a2, a3, a4, a5, a6⟩ := id hz
      cases hx.symm.trans a1
      cases hce.symm.trans a2
      cases eb.symm.trans a3
      cases e0.symm.trans a4
      cases ebc.symm.trans a5
      have u := ((M.2.2.2.1.2 bc hWbc).1.2.2.2.2.2 362 (by decide)).2.2
      rcases a6 with ⟨z, z'⟩ | ⟨bb, u', z1, z2, -⟩
      · exact Or.inl ⟨by rw [z]; rfl, u.trans z'⟩
      · exact Or.inr ⟨z2, bb, u.trans z1⟩
    have hn := n2
    rw [eTa, el, List.map_append, List.map_cons, List.nodup_append] at hn
    have hnew : tkN e ∉ TKc (ds.take k) ++ c1.map tkN := by
      intro hm
      rcases List.mem_append.mp hm with z | z
      · exact hn.2.2 _ z _ (by simp) rfl
      · have := hn.2.1
        rw [List.nodup_append] at this
        have := this.1
        rw [List.nodup_append] at this
        exact this.2.2 _ z _ (List.mem_cons_self ..) rfl
    have hlen2 : (TKc (ds.take k) ++ c1.map tkN).length ≤ (TKc ds).length := by
      rw [eTa, el]
      simp only [List.length_append, List.length_map, List.length_cons]
      omega
    have hnD : ¬ D1.1 (tkN e) := by
      intro hD
      rcases M.2.2.2.2.2.1 _ hD with z | z | ⟨tc, u, -, y2, y3, y4⟩
      · have := ri.2.2.2.2.2.2.1 _ z
        omega
      · rcases List.mem_append.mp z with z | z
        · rcases hTK _ z with z | z
          · omega
          · have := (bd1 _ z).2
            rw [tk281] at this
            cases this
        · exact hnew z
      · have := y2.2.2 (tkN e) (Or.inr hTc)
        omega
    obtain ⟨bT, cT1, cT2, cT3⟩ := B k x hx
    cases eb.symm.trans cT1
    refine bX57_resolve_332 G (d + 6) h1 _ _ _ _ _ (M.1.1.1.at (by decide)) ⟨dv.1, rc, e52, z1, ?_⟩
    rw [z2, nI_leI (by omega) (by omega)]
    refine ⟨fun z => by omega, fun _ => ⟨rc, e52, z1, C.rr (cc (d + 5)) ?_⟩⟩
    have nq := con_new (i := c1.length) (q := q) (d := d) (x2 := nI k) (Q := Q) (dd := d0 + k) (y := y) M hWbc hk52 e61 tl tk281 ⟨by omega, tb.2⟩ hnD cT2 dv.1 cT3 (by omega) hyy (by omega) (fun h3 Z3 nb3 M3 e363 kw3 ex3 => ?_)
    · unfold NQ at nq
      exact nq
    rw [nI_1]
    have eTn : TKc (ds.take k) ++ (c1 ++ [e]).map tkN = (TKc (ds.take k) ++ c1.map tkN) ++ [tkN e] := by rw [List.map_append, List.append_assoc]; rfl
    have := IH (c1 ++ [e]) (hs.drop (c1.length + 1)) (rs ++ [.mulL 56 (.add (.num (tkN e)) (.add (.num ((rCt s1).length : Nat)) y))]) h3 _ Z3 _ nb3 (by rw [el, List.append_assoc]; rfl) (by rw [List.length_append]; rfl) (by rw [List.length_append, List.length_append, hrs]; rfl) (by
      rw [eTn]
      refine M3.tk (fun t ht => ?_) ?_
      · rcases List.mem_cons.mp ht with rfl | ht
        · exact List.mem_append_right _ (List.mem_append_right _ (List.mem_singleton.mpr rfl))
        · rcases List.mem_append.mp ht with z | z
          · exact List.mem_append_left _ z
          · exact List.mem_append_right _ (List.mem_append_left _ z)
      · rw [List.length_append (bs := [tkN e]), List.length_singleton]
        omega) (fun j i y' hy' => (H j i y' hy').mv kw3 ex3 fun x' e' u' _ _ rg => ?_) (fun j i y' hy' => ?_) (B.mv htl st M.2.2.2.1 kw3 (fun i hi => ex3.2.2.2 i (by rw [M.2.2.1.2.2.1]; omega)) fun t ht => ?_) ?_ ?_ ?_ ?_
    · rw [List.length_append, List.length_singleton] at this
      exact this
    · have := rg.2.2 (tkN e) (Or.inr hTc)
      omega
    · rcases hz_app hRd hy' with z | ⟨z1, z2, z3⟩
      · refine (CR j i y' z).mv htl st M.2.2.2.1 kw3 ex3 hTc fun x' e' hx' he' hE => hnew ?_
        rw [← hE]
        rcases hz_at hRd z with w | ⟨w1, w2⟩
        · exact List.mem_append_left _ (List.mem_flatMap.mpr ⟨x', List.mem_of_getElem? (i := j) (by rw [List.getElem?_take_of_lt w]; exact hx'), List.mem_map_of_mem (List.mem_of_getElem? he')⟩)
        · rw [w1] at hx'
          cases hx.symm.trans hx'
          rw [el, List.getElem?_append_left (by omega)] at he'
          exact List.mem_append_right _ (List.mem_map_of_mem (List.mem_of_getElem? he'))
      · rw [z1, z2, z3, hrs]
        refine ⟨x, e, b, rc, bc, (rCt s1).length, y, hx, hce, eb, e0, ebc, hWbc, rfl, hz.mv kw3 ex3 fun x' e' u' _ _ rg => ?_, Nat.lt_succ_self _, e363⟩
        have := rg.2.2 (tkN e) (Or.inr hTc)
        omega
    · have h1' := (bd1 t ht).2
      have : t ≠ tkN e := fun z => by rw [z, tk281] at h1'; cases h1'
      omega
    · have hq0 : tokA h1 q = (t0 : Nat) := by
        have uq := (M.2.2.2.1.2 q hWq).1
        rw [uq.tok]
        unfold tokA
        rw [hk, show fI h q (tf 53) = nI t0 from htk, nI_toInt (by omega)]
      have := (kw3.2 q hWq).2 (by rw [hq0]; omega)
      rw [(this.2.2.2.2.2 365).1]
      exact h365
    · exact hDl
    · rw [eF, eh2, List.append_assoc, List.length_append, List.length_singleton, ← hv]
      rfl
    · rw [eS, eh2, List.length_append, List.length_singleton, ← hv]
      rfl
end
