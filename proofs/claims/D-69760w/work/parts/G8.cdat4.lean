/-! DATATYPES: all their names -/
/-- the datatypes that have their names -/
def TBs (W : Nat → Prop) (h : AH) (r d0 : Nat) (l : List Tr) (Z : Zt) (h1 : AH) : Prop := ∀ (j : Nat) (x : Tr), l[j]? = some x → ∃ b, rowAt h r j = some b ∧ W b ∧ fR h1 b 353 = some (Z.2.2 (d0 + j))
section
variable {G : Gh} {d : Nat} {W N : Nat → Prop} {h h1 h2 h3 h5 h' hA : AH} {ts : List (Nat × Nat × Nat)} {t i j n nb nb' nb1 nb2 r q g fr ba lo hi m m0 m1 m2 lo1 hi1 b k c arr t0 tc u : Nat} {v : Int} {Z Z' Z1 Z2 : Zt} {D D' D1 D2 : Dm} {O : List (Nat × Nat) × List (Nat × Nat)} {s s0 s' s1 s2 s5 : RSt} {x y e x' a' b' : Tr} {l l1 l2 ds : List Tr} {TK DC : List Nat} {f : Nat → Option Nat} {A : Zt → Dm → AH → Prop} {K V : Nat → Nat}
variable {d0 : Nat}
theorem rDv_eqs {pl : Nat → Nat} {vs : List Tr} : ∀ (l : List Nat) (s : RSt), rV (l.foldl (rDv pl vs) s) = rV s ∧ rCt (l.foldl (rDv pl vs) s) = rCt s ∧ rDt (l.foldl (rDv pl vs) s) = rDt s ∧ rC (l.foldl (rDv pl vs) s) = rC s ∧ rT (l.foldl (rDv pl vs) s) = rT s := by
  intro l
  induction l with
  | nil => intro s; exact ⟨rfl, rfl, rfl, rfl, rfl⟩
  | cons i l ih =>
    intro s
    rw [List.foldl_cons]
    obtain ⟨a1, a2, a3, a4, a5⟩ := ih (rDv pl vs s i)
    obtain ⟨b1, b2, b3, b4, b5⟩ := rIf_eqs (pl := pl) (b := (vs.take i).any fun v => nv1 v == nv1 (vs.getD i (.num 0))) (n := 3) (t := tkN (vs.getD i (.num 0))) (s := s)
    exact ⟨a1.trans b1, a2.trans b2, a3.trans b3, a4.trans b4, a5.trans b5⟩
theorem dat_2 (st : DSt W ts h n m0 hi r ds) (ri : rI G W ts O h Z D s nb lo hi) (hWq : W q) (hk : hK h q = 53) (eF0 : fR h q 364 = some r) (htk : fI h q 313 = nI t0) (ht0 : lo ≤ t0 ∧ t0 < m0) (hm0 : m0 ≤ hi) (hnd : (TKd ds).Nodup) {Q : Outcome → AH → Prop} {sF : RSt}
    (hQ : ∀ h1 Z1 D1 nb1, TI G W ts O h Z D nb lo hi ds h1 Z1 D1 sF nb1 ((ds.map tkN).reverse ++ [t0]) [] (60 * ds.length) → TBs W h r d0 ds Z1 h1 → (fI h1 q 365 = 0 ↔ ∀ j, j < ds.length → d0 + j < 205) → (rDt sF).length = d0 + ds.length → X G mX57_resolve (d + 7) none [] 191 [(0, .ref q), (1, .ref (gW G 4)), (2, .int (0))] [] h1 Q) :
    ∀ l2 l1 h1 s1 Z1 D1 nb1, ds = l1 ++ l2 → TI G W ts O h Z D nb lo hi ds h1 Z1 D1 s1 nb1 ((l1.map tkN).reverse ++ [t0]) [] (60 * l1.length) → D1.1 t0 → TBs W h r d0 l1 Z1 h1 → (fI h1 q 365 = 0 ↔ ∀ j, j < l1.length → d0 + j < 205) → (rDt s1).length = d0 + l1.length → rD1 (Pl ts) t0 (l1.map nv1) l2 s1 = sF →
    X G mX57_resolve (d + 7) none [] 2 [(0, .ref q), (1, .ref (gW G 4)), (2, .int (nI l1.length))] [] h1 Q := by
  have hrow := row_sz st.1
  have hsm : ∀ y, y ∈ ds → ∃ k z, y = Int.Internal.Linear.Expr.mulL k z := fun y hy => by
    obtain ⟨t', vs, cs, e, -⟩ := st.2.2.1 y hy
    exact ⟨_, _, e⟩
  have hdl := wf_len ds m0 hi hsm st.2.2.2.1 hm0
  have htl := ri.1.1.2.2.2.1
  have hhl := ri.2.2.2.1
  have hpU := ri.2.2.2.2.2.2.2
  intro l2
  induction l2 with
  | nil =>
    intro l1 h1 s1 Z1 D1 nb1 el M hD0 B h365 hDl eS
    rw [List.append_nil] at el
    subst el
    have u1 := (M.2.2.2.1.2 q hWq).1
    obtain ⟨rl1, ra1, -⟩ := st.1.mvs (N' := W) (h' := h1) fun a ha _ => ⟨(M.2.2.2.1.2 a ha).1, ha⟩
    obtain ⟨z1, z2, z3, z4⟩ := row_sz rl1
    refine bX57_resolve_2 G (d + 6) h1 _ _ _ ⟨u1.1.trans hk, r, ((u1.2.2.2.2.2 364 (by decide)).2.2).trans eF0, z1, ?_⟩
    rw [z2, nI_leI (by omega) (by omega)]
    refine ⟨fun _ => ?_, fun z => absurd (Nat.le_refl _) z⟩
    change s1 = sF at eS
    subst eS
    exact hQ h1 Z1 D1 nb1 M B h365 hDl
  | cons x l2 IH =>
    intro l1 h1 s1 Z1 D1 nb1 el M hD0 B h365 hDl eS
    have hxk : ds[l1.length]? = some x := by rw [el, List.getElem?_append_right (Nat.le_refl _), Nat.sub_self]; rfl
    have hll : l1.length < ds.length := (List.getElem?_eq_some_iff.mp hxk).1
    have htk' : ds.take l1.length = l1 := by rw [el, List.take_left']; rfl
    have u1 := (M.2.2.2.1.2 q hWq).1
    have e64 : fR h1 q 364 = some r := ((u1.2.2.2.2.2 364 (by decide)).2.2).trans eF0
    obtain ⟨b, eb, ob, cb, e49, hvx, ⟨htx, htx2, htx3⟩, dv, hv, -, -, -, z1, z2, z3⟩ := st.at (G := G) M.2.2.2.1 hxk
    refine bX57_resolve_2 G (d + 6) h1 _ _ _ ⟨u1.1.trans hk, r, e64, z1, ?_⟩
    rw [z2, nI_leI (by omega) (by omega)]
    refine ⟨fun z => by omega, fun _ => ⟨r, e64, z1, C.rr (cb (d + 5)) ?_⟩⟩
    have nW : ∀ a, W a → a ≠ gW G 4 := fun a ha e => ri.2.1.2.1 (by rw [← e]; exact ha)
    refine dat_25 st hWq hk eF0 M hxk dv.2.1 dv.1 e49 (fun h2 w2 r2 => ?_) (l1.length + 1) 0 h1 (by omega) (by omega) S4.rf M.1
    have M2 := M.fnd w2 r2 rIf_eqs
    have dv2 : DV W h2 ts ((dVs x).map tkN) b := dv.mv (w2.kw (lo := lo) (hi := hi) M.2.1)
    refine dat_72 (s1 := rIf (Pl ts) (((ds.take l1.length).map nv1).any (· == nv1 x)) 3 (tkN x) s1) M2 dv2 hv (fun h3 w3 r3 => ?_) ((dVs x).length + 1) 0 h2 (by omega) (by omega) S4.rf r2
    have M3 := M2.fnd w3 r3 (rDv_eqs _ _)
    have w13 := w2.tr w3
    have kw13 : KW W lo hi h1 h3 := w13.kw M.2.1
    have dv3 : DV W h3 ts ((dVs x).map tkN) b := dv.mv kw13
    have uq : Uf h1 h3 q := w13.1.uf (nW q hWq)
    have ub : Uf h1 h3 b := w13.1.uf (nW b dv.2.1)
    rw [htk'] at M3
    have eD : rDt ((List.range (dVs x).length).foldl (rDv (Pl ts) (dVs x)) (rIf (Pl ts) ((l1.map nv1).any (· == nv1 x)) 3 (tkN x) s1)) = rDt s1 := ((rDv_eqs _ _).2.2.1).trans rIf_eqs.2.2.1
    have hqk3 : hK h3 q = 53 := uq.1.trans (u1.1.trans hk)
    refine dat_decl (t0 := t0) (x := x) M3 hWq hqk3 ((uq.2.2.2.2.2 313).1.trans (((u1.2.2.2.2.2 313 (by decide)).1).trans htk)) ⟨ht0.1, by omega⟩ st.2.2.2.2.1 dv3 ((ub.2.2.2.2.2 349).1.trans e49) ⟨⟨by omega, htx.2⟩, htx2, htx3⟩ hD0 (fun hD => ?_) (by omega) (fun h4 Z4 nb4 M4 e353 uf4 eZ4 i365 => ?_)
    · rcases M.2.2.2.2.2.1 _ hD with z | z | ⟨tc, u, z, -⟩
      · have := ri.2.2.2.2.2.2.1 _ z
        omega
      · rcases List.mem_append.mp z with z | z
        · rw [List.mem_reverse] at z
          rw [el] at hnd
          unfold TKd at hnd
          rw [List.map_append, List.map_cons, List.nodup_append] at hnd
          exact hnd.2.2 _ z _ (List.mem_cons_self ..) rfl
        · rw [List.mem_singleton] at z
          omega
      · cases z
    · rw [eD] at e353 eZ4 i365 M4
      rw [nI_1]
      have el' : ds = (l1 ++ [x]) ++ l2 := by rw [el, List.append_assoc]; rfl
      have eT : ((l1 ++ [x]).map tkN).reverse ++ [t0] = tkN x :: ((l1.map tkN).reverse ++ [t0]) := by simp
      have := IH (l1 ++ [x]) h4 _ Z4 _ nb4 el' (by rw [eT, List.length_append, List.length_singleton, Nat.mul_add]; exact M4) (Or.inl hD0) (fun j y hy => ?_) ?_ ?_ ?_
      · rw [List.length_append, List.length_singleton] at this
        exact this
      · by_cases hj : j < l1.length
        · rw [List.getElem?_append_left hj] at hy
          obtain ⟨bj, c1, c2, c3⟩ := B j y hy
          have hyj : ds[j]? = some y := by rw [el, List.getElem?_append_left hj]; exact hy
          obtain ⟨bj', d1, -, -, d49, -, ⟨d5, -⟩, dvj, -⟩ := st.at (G := G) M.2.2.2.1 hyj
          cases c1.symm.trans d1
          have ne1 : bj ≠ b := fun e => by
            rw [e, e49] at d49
            have := congrArg Int32.toInt d49
            rw [nI_toInt (by omega), nI_toInt (by omega)] at this
            rw [el] at hnd
            unfold TKd at hnd
            rw [List.map_append, List.map_cons, List.nodup_append] at hnd
            exact hnd.2.2 _ (List.mem_map_of_mem (List.mem_of_getElem? hy)) _ (List.mem_cons_self ..) (by omega)
          have ne2 : bj ≠ q := fun e => by
            have := dvj.1
            rw [e, u1.1, hk] at this
            cases this
          refine ⟨bj, c1, c2, ?_⟩
          rw [((uf4 bj c2 ne1 ne2).2.2.2.2.2 353).2.2, ((w13.1.uf (nW bj c2)).2.2.2.2.2 353).2.2, eZ4 _ (by omega)]
          exact c3
        · have hj2 := (List.getElem?_eq_some_iff.mp hy).1
          rw [List.length_append, List.length_singleton] at hj2
          have ej : j = l1.length := by omega
          subst ej
          rw [List.getElem?_append_right (Nat.le_refl _), Nat.sub_self] at hy
          cases hy
          refine ⟨b, eb, dv.2.1, ?_⟩
          rw [← hDl]
          exact e353
      · rw [i365, (uq.2.2.2.2.2 365).1, h365, List.length_append, List.length_singleton, hDl]
        refine ⟨fun z j hj => ?_, fun z => ⟨fun j hj => z j (by omega), z _ (Nat.lt_succ_self _)⟩⟩
        by_cases hjl : j < l1.length
        · exact z.1 j hjl
        · have : j = l1.length := by omega
          rw [this]
          exact z.2
      · show (rDt (List.foldl _ _ _) ++ [_]).length = _
        rw [List.length_append, List.length_singleton, eD, hDl, List.length_append, List.length_singleton]
        omega
      · rw [← eS, List.map_append, ← hvx]
        rfl
end
