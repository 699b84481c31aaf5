/-! DATATYPES: what their constructors have, the loops -/
section
variable {G : Gh} {d : Nat} {W N : Nat → Prop} {h h1 h2 h3 h5 h' hA : AH} {ts : List (Nat × Nat × Nat)} {t i j n nb nb' nb1 nb2 r q g fr ba lo hi m m0 m1 m2 lo1 hi1 b k c arr t0 tc u : Nat} {v : Int} {Z Z' Z1 Z2 : Zt} {D D' D1 D2 : Dm} {O : List (Nat × Nat) × List (Nat × Nat)} {s s0 s' s1 s2 s5 : RSt} {x y e x' a' b' : Tr} {l l1 l2 ds : List Tr} {TK DC : List Nat} {f : Nat → Option Nat} {A : Zt → Dm → AH → Prop} {K V : Nat → Nat}
variable {d0 rc bc : Nat} {Fd : List (List Tr)} {hs : List Tr}
theorem hz_app {y0 : Tr} (hk : Fd.length = k) (e : ((Fd ++ [hs ++ [y0]]).getD j [])[i]? = some y) : ((Fd ++ [hs]).getD j [])[i]? = some y ∨ (j = k ∧ i = hs.length ∧ y = y0) := by
  rcases hz_at hk e with z | ⟨z, zi⟩
  · refine Or.inl ?_
    rw [List.getD_eq_getElem?_getD, List.getElem?_append_left (by omega)] at e ⊢
    exact e
  · rw [List.getD_eq_getElem?_getD, List.getElem?_append_right (by omega), z, hk, Nat.sub_self] at e ⊢
    change (hs ++ [y0])[i]? = some y at e
    by_cases hi : i < hs.length
    · rw [List.getElem?_append_left hi] at e
      exact Or.inl e
    · rw [List.length_append, List.length_singleton] at zi
      have ei : i = hs.length := by omega
      rw [ei, List.getElem?_append_right (Nat.le_refl _), Nat.sub_self] at e
      cases e
      exact Or.inr ⟨rfl, ei, rfl⟩
theorem dat_214 (hT : TyR G W ts O n (d + 2)) (st : DSt W ts h n m0 hi r ds) (ri : rI G W ts O h Z D s nb lo hi) (hWq : W q) (hk : hK h q = 53) (eF0 : fR h q 364 = some r) (htk : fI h q 313 = nI t0) (ht0 : lo ≤ t0 ∧ t0 < m0) (hm0 : m0 ≤ hi) (hTK : ∀ t, t ∈ TK → t = t0 ∨ t ∈ TKd ds) (hx : ds[k]? = some x) (eb : rowAt h r k = some b) (e0 : fR h b 352 = some rc) (hFd : Fd.length = k) (hc : c ≤ 60 * ds.length) {v365 : Int32} {Q : Outcome → AH → Prop} {F : List Tr} {sF : RSt}
    (hQ : ∀ h1 Z1 D1 nb1, TI G W ts O h Z D nb lo hi ds h1 Z1 D1 sF nb1 TK (TKc (ds.take (k + 1))) c → (∀ j i y, ((Fd ++ [F]).getD j [])[i]? = some y → HZ ts W O h r ds hi Z1 D1 h1 j i y) → TBs W h r d0 ds Z1 h1 → fI h1 q 365 = v365 → d0 + ds.length ≤ (rDt sF).length → X G mX57_resolve (d + 7) none [] 191 [(0, .ref q), (1, .ref (gW G 4)), (2, .int (nI (k + 1)))] [] h1 Q) :
    ∀ c2 c1 hs h1 s1 Z1 D1 nb1, dCs x = c1 ++ c2 → hs.length = c1.length → TI G W ts O h Z D nb lo hi ds h1 Z1 D1 s1 nb1 TK (TKc (ds.take k) ++ c1.map tkN) c → (∀ j i y, ((Fd ++ [hs]).getD j [])[i]? = some y → HZ ts W O h r ds hi Z1 D1 h1 j i y) → TBs W h r d0 ds Z1 h1 → fI h1 q 365 = v365 → d0 + ds.length ≤ (rDt s1).length → F = hs ++ (rD2c (Pl ts) n ((dVs x).map nv1) (cnm (ds.take k) ++ c1.map nv1) c2 s1).1 → sF = (rD2c (Pl ts) n ((dVs x).map nv1) (cnm (ds.take k) ++ c1.map nv1) c2 s1).2 →
    X G mX57_resolve (d + 7) none [] 214 [(0, .ref q), (1, .ref (gW G 4)), (2, .int (nI k)), (3, .ref b), (4, .int (nI c1.length))] [] h1 Q := by
  obtain ⟨n1, n2, bd1, bd2, rgs⟩ := dat_rng ds m0 hi st.2.2.2.1 st.2.2.1
  have htl := ri.1.1.2.2.2.1
  have hpU := ri.2.2.2.2.2.2.2
  have hkl := (List.getElem?_eq_some_iff.mp hx).1
  have hrow := row_sz st.1
  have hxm := List.mem_of_getElem? hx
  have nW : ∀ a, W a → a ≠ gW G 4 := fun a ha e => ri.2.1.2.1 (by rw [← e]; exact ha)
  have eTk : TKc (ds.take (k + 1)) = TKc (ds.take k) ++ (dCs x).map tkN := by
    unfold TKc
    rw [List.take_add_one, hx, List.flatMap_append]
    congr 1
    exact List.flatMap_singleton ..
  have hsp : ds = ds.take k ++ x :: ds.drop (k + 1) := by
    rw [← (List.getElem?_eq_some_iff.mp hx).2, ← List.drop_eq_getElem_cons hkl, List.take_append_drop]
  intro c2
  induction c2 with
  | nil =>
    intro c1 hs h1 s1 Z1 D1 nb1 el hhs M H B h365 hDl eF eS
    obtain ⟨b', eb', -, -, -, -, -, dv, -, -, ⟨rc', e52, rl, e0', -⟩, -⟩ := st.at (G := G) M.2.2.2.1 hx
    cases eb.symm.trans eb'
    cases e0.symm.trans e0'
    obtain ⟨z1, z2, z3, z4⟩ := row_sz rl
    have hcl : (dCs x).length = c1.length := by rw [el]; simp
    refine bX57_resolve_214 G (d + 6) h1 _ _ _ _ _ (M.1.1.1.at (by decide)) ⟨dv.1, rc, e52, z1, ?_⟩
    rw [z2, nI_leI (by omega) (by omega)]
    refine ⟨fun _ => ?_, fun z => absurd (Nat.le_of_eq hcl) z⟩
    rintro _ rfl
    rw [nI_1]
    change F = hs ++ [] at eF
    rw [List.append_nil] at eF
    change sF = s1 at eS
    subst eF eS
    rw [List.append_nil] at el
    exact hQ h1 Z1 D1 nb1 (by rw [eTk, el]; exact M) H B h365 hDl
  | cons e c2 IH =>
    intro c1 hs h1 s1 Z1 D1 nb1 el hhs M H B h365 hDl eF eS
    obtain ⟨b', eb', -, -, -, -, -, dv, hvs, -, ⟨rc', e52, rl, e0', -⟩, -⟩ := st.at (G := G) M.2.2.2.1 hx
    cases eb.symm.trans eb'
    cases e0.symm.trans e0'
    obtain ⟨z1, z2, z3, z4⟩ := row_sz rl
    have hce : (dCs x)[c1.length]? = some e := by rw [el, List.getElem?_append_right (Nat.le_refl _), Nat.sub_self]; rfl
    have hcl := (List.getElem?_eq_some_iff.mp hce).1
    have hem := List.mem_of_getElem? hce
    obtain ⟨bc, ebc, cc, hWbc, hk52, e61, hv, ex, hhas, hTc, ⟨tb, tl, tk281⟩, -⟩ := st.con (G := G) M.2.2.2.1 hx hce eb e0
    have uq1 := (M.2.2.2.1.2 q hWq).1
    have htake : (dCs x).take c1.length = c1 := by rw [el, List.take_left']; rfl
    obtain ⟨u, u1, u2, u3, u4⟩ := (rgs x hxm).2 e hem
    have rg : RGt ds hi (tkN e) u := ⟨u3, u1, u4⟩
    -- this constructor is a new one
    have hnew : tkN e ∉ TKc (ds.take k) ++ c1.map tkN := by
      intro hm
      have hn := n2
      rw [hsp] at hn
      have eT : TKc (ds.take k ++ x :: ds.drop (k + 1)) = TKc (ds.take k) ++ ((dCs x).map tkN ++ TKc (ds.drop (k + 1))) := by
        unfold TKc
        rw [List.flatMap_append, List.flatMap_cons]
      rw [eT, el, List.map_append, List.map_cons] at hn
      rw [List.nodup_append] at hn
      rcases List.mem_append.mp hm with z | z
      · exact hn.2.2 _ z _ (by simp) rfl
      · have := hn.2.1
        rw [List.nodup_append] at this
        have := this.1
        rw [List.nodup_append] at this
        exact this.2.2 _ z _ (List.mem_cons_self ..) rfl
    have hsub : ∀ t, t ∈ TKc (ds.take k) ++ c1.map tkN → t ∈ TKc ds := by
      intro t ht
      rcases List.mem_append.mp ht with z | z
      · obtain ⟨y, y1, y2⟩ := List.mem_flatMap.mp z
        exact List.mem_flatMap.mpr ⟨y, List.mem_of_mem_take y1, y2⟩
      · exact List.mem_flatMap.mpr ⟨x, hxm, by rw [el, List.map_append]; exact List.mem_append_left _ z⟩
    have eTn : TKc (ds.take k) ++ (c1 ++ [e]).map tkN = (TKc (ds.take k) ++ c1.map tkN) ++ [tkN e] := by rw [List.map_append, List.append_assoc]; rfl
    have eNm : (cnm (ds.take k) ++ (c1 ++ [e]).map nv1) = (cnm (ds.take k) ++ c1.map nv1) ++ [nv1 e] := by rw [List.map_append, List.append_assoc]; rfl
    refine bX57_resolve_214 G (d + 6) h1 _ _ _ _ _ (M.1.1.1.at (by decide)) ⟨dv.1, rc, e52, z1, ?_⟩
    rw [z2, nI_leI (by omega) (by omega)]
    refine ⟨fun z => by omega, fun _ => ⟨rc, e52, z1, C.rr (cc (d + 5)) ⟨hk52, uq1.1.trans hk, ?_⟩⟩⟩
    rw [e61]
    have fin : ∀ h3 s3 Z3 D3 y, TI G W ts O h Z D nb lo hi ds h3 Z3 D3 s3 nb1 TK ((TKc (ds.take k) ++ c1.map tkN) ++ [tkN e]) c → (∀ j i y', ((Fd ++ [hs]).getD j [])[i]? = some y' → HZ ts W O h r ds hi Z3 D3 h3 j i y') → HZ ts W O h r ds hi Z3 D3 h3 k c1.length y → TBs W h r d0 ds Z3 h3 → fI h3 q 365 = v365 → d0 + ds.length ≤ (rDt s3).length → (if isN (cHas e) = true then (cHas e, rIf (Pl ts) ((cnm (ds.take k) ++ c1.map nv1).any (· == nv1 e)) 3 (tkN e) s1) else rTy (Pl ts) n ((dVs x).map nv1) (cHas e) (rIf (Pl ts) ((cnm (ds.take k) ++ c1.map nv1).any (· == nv1 e)) 3 (tkN e) s1)) = (y, s3) → X G mX57_resolve (d + 6 + 1) none [] 214 [(0, .ref q), (1, .ref (gW G 4)), (2, .int (nI k)), (3, .ref b), (4, .int (nI (c1.length + 1)))] [] h3 Q := by
      intro h3 s3 Z3 D3 y M3 H3 Hy B3 i3 l3 er
      have := IH (c1 ++ [e]) (hs ++ [y]) h3 s3 Z3 D3 nb1 (by rw [el, List.append_assoc]; rfl) (by rw [List.length_append, List.length_append, hhs]; rfl) (by rw [eTn]; exact M3) (fun j i y' hy' => ?_) B3 i3 l3 ?_ ?_
      · rw [List.length_append, List.length_singleton] at this
        exact this
      · rcases hz_app hFd hy' with z | ⟨z1, z2, z3⟩
        · exact H3 j i y' z
        · rw [z1, z2, z3, hhs]
          exact Hy
      · rw [eF, eNm, List.append_assoc, List.singleton_append]
        congr 1
        conv => lhs; unfold rD2c
        dsimp only
        rw [er]
      · rw [eS, eNm]
        conv => lhs; unfold rD2c
        dsimp only
        rw [er]
    have hq : ∀ h2, S4 G [91, 92] h1 h2 → RS G W h2 ts Z1 O (rIf (Pl ts) ((cnm (ds.take k) ++ c1.map nv1).any (· == nv1 e)) 3 (tkN e) s1) nb1 → HQ G (d + 6) q b bc (nI k) (nI c1.length) Q h2 := by
      intro h2 w2 r2
      have M2 := M.fnd w2 r2 rIf_eqs
      have kw12 : KW W 0 0 h1 h2 := w2.kw M.2.1
      have kw2 := M2.2.2.2.1
      have ubc := (kw2.2 bc hWbc).1
      have H2 : ∀ j i y', ((Fd ++ [hs]).getD j [])[i]? = some y' → HZ ts W O h r ds hi Z1 D1 h2 j i y' := fun j i y' hy' => (H j i y' hy').mv kw12 Ext.rf fun _ _ _ _ _ _ => Or.inr (Nat.zero_le _)
      have B2 : TBs W h r d0 ds Z1 h2 := B.mv htl st M.2.2.2.1 kw12 (fun _ _ => rfl) fun _ _ => Or.inr (Nat.zero_le _)
      have uq2 : Uf h1 h2 q := w2.1.uf (nW q hWq)
      have i2 : fI h2 q 365 = v365 := (uq2.2.2.2.2.2 365).1.trans h365
      unfold HQ
      rcases hhas with ⟨ha, hb⟩ | ⟨hsh, bb, ebb, obb⟩
      · have e2 : fR h2 bc 362 = none := ((ubc.2.2.2.2.2 362 (by decide)).2.2).trans hb
        refine ⟨fun _ => ?_, fun b' z => (by rw [e2] at z; cases z)⟩
        rintro _ rfl
        rw [nI_1]
        exact fin h2 _ Z1 D1 (.num 0) (M2.dc fun t ht => List.mem_append_left _ ht) H2 ⟨x, e, b, rc, bc, hx, hce, eb, e0, ebc, Or.inl ⟨rfl, hb⟩⟩ B2 i2 (by rw [rIf_eqs.2.2.1]; exact hDl) (by rw [ha]; rfl)
      · have e2 : fR h2 bc 362 = some bb := ((ubc.2.2.2.2.2 362 (by decide)).2.2).trans ebb
        have wy : wf (Kd ts) (cHas e) (tkN e + 1) u := by
          obtain ⟨te, ye, ee, -⟩ := (data_info (st.2.2.1 x hxm) (rgs x hxm).1 st.2.2.2.2.1 (st.2.1 k x hx).choose_spec.2).2.2.2.2.2.2.1 e hem
          rw [ee] at u2 ⊢
          obtain ⟨-, -, m', w1, w2', w3⟩ := wf_56 u2
          exact wf.mono _ _ _ _ _ w3 w1 (Nat.le_refl _)
        have ob2 := obb.k0 kw2 ri.2.1.1 (wf.tr _ _ _ wy)
        have hpos := rg_len n1 (fun t ht => (bd1 t ht).1) rg tb.1
        have ri2 : rI G W ts O h2 Z1 D1 (rIf (Pl ts) ((cnm (ds.take k) ++ c1.map nv1).any (· == nv1 e)) 3 (tkN e) s1) nb1 (tkN e + 1) u := by
          refine ⟨r2, M2.2.1, M2.2.2.1, ⟨Nat.le_trans u1 st.2.2.2.2.1, u3⟩, M2.2.2.2.2.2.2.1, M2.2.2.2.2.2.2.2.1, fun t ht => ?_, ?_⟩
          · rcases M2.2.2.2.2.2.1 t ht with z | z | ⟨tc, u', y1, y2, y3, y4⟩
            · have := ri.2.2.2.2.2.2.1 t z
              omega
            · rcases hTK t z with z | z
              · omega
              · have := u4 t (Or.inl z)
                omega
            · have := y2.dj rg (hsub tc y1) hTc (fun z => hnew (by rw [← z]; exact y1))
              omega
          · have := M2.2.2.2.2.2.2.2.2.1
            omega
        have dv2 := dv.mv kw12
        have evs : ((dVs x).map tkN).map (Vl ts) = (dVs x).map nv1 := by
          rw [List.map_map]
          exact List.map_congr_left fun y hy => (hvs y hy).symm
        obtain ⟨kc, ν, v1, v2, v3⟩ := ty_0 hT hsh wy ob2 ri2 dv2
        refine ⟨fun z => (by rw [e2] at z; cases z), fun b' z => ⟨fun z => (by rw [e2] at z; cases z), fun b'' z'' => ?_⟩⟩
        cases e2.symm.trans z''
        refine ⟨kc, ν, v1, v2, C.mono v3 ?_⟩
        rintro _ h3 ⟨rfl, Z3, D3, a1, a2, a3, ⟨a4, a4'⟩, a5, a6, a7, a8, a9, a10⟩
        refine KV.i ?_
        rintro _ rfl
        rw [nI_1]
        rw [evs] at a1 a3 a4 a4' a8
        have hD2 : D1.2.2 = (rDt s1).length := by rw [M2.2.2.1.2.2.1, rIf_eqs.2.2.1]
        have isn : isN (cHas e) = false := by
          obtain ⟨kk, yy, ee⟩ := OTG_0 ob2
          rw [ee]; rfl
        refine fin h3 _ Z3 D3 (rTy (Pl ts) n ((dVs x).map nv1) (cHas e) (rIf (Pl ts) ((cnm (ds.take k) ++ c1.map nv1).any (· == nv1 e)) 3 (tkN e) s1)).1 ⟨a1, a2, a3, kw2.tr (a5.wd (by omega) u1), M2.2.2.2.2.1.tr a6, fun t ht => ?_, a8, M2.2.2.2.2.2.2.2.1, ?_, M2.2.2.2.2.2.2.2.2.2.tr a10⟩ (fun j i y' hy' => (H2 j i y' hy').mv a5 a6 fun x' e' u' hx' he' rg' => ?_) ⟨x, e, b, rc, bc, hx, hce, eb, e0, ebc, Or.inr ⟨bb, u, ebb, ?_, rg, a4, a4'⟩⟩ (B2.mv htl st kw2 a5 (fun i hi => a6.2.2.2 i (by omega)) fun t ht => ?_) ?_ ?_ ?_
        · rcases a7 t ht with z | z
          · rcases M2.2.2.2.2.2.1 t z with z | z | ⟨tc, u', y1, y2⟩
            · exact Or.inl z
            · exact Or.inr (Or.inl z)
            · exact Or.inr (Or.inr ⟨tc, u', List.mem_append_left _ y1, y2⟩)
          · exact Or.inr (Or.inr ⟨tkN e, u, List.mem_append_right _ (List.mem_singleton.mpr rfl), rg, by omega, z.2⟩)
        · have := M2.2.2.2.2.2.2.2.2.1
          unfold pU at this ⊢
          rw [a9]
          exact this
        · have hte' : tkN e' ∈ TKc (ds.take k) ++ c1.map tkN := by
            rcases hz_at hFd hy' with z | ⟨z1, z2⟩
            · refine List.mem_append_left _ (List.mem_flatMap.mpr ⟨x', ?_, List.mem_map_of_mem (List.mem_of_getElem? he')⟩)
              exact List.mem_of_getElem? (i := j) (by rw [List.getElem?_take_of_lt z]; exact hx')
            · rw [z1] at hx'
              cases hx.symm.trans hx'
              rw [el, List.getElem?_append_left (by omega)] at he'
              exact List.mem_append_right _ (List.mem_map_of_mem (List.mem_of_getElem? he'))
          have := rg'.dj rg (hsub _ hte') hTc (fun z => hnew (by rw [← z]; exact hte'))
          omega
        · obtain ⟨kk, yy, ee⟩ := OTG_0 a4'
          rw [ee]; rfl
        · have := u4 t (Or.inl ht)
          omega
        · have hq0 : tokA h2 q = (t0 : Nat) := by
            have uq := (kw2.2 q hWq).1
            rw [uq.tok]
            unfold tokA
            rw [hk, show fI h q (tf 53) = nI t0 from htk, nI_toInt (by omega)]
          have := (a5.2 q hWq).2 (by rw [hq0]; omega)
          rw [(this.2.2.2.2.2 365).1]
          exact i2
        · have h1' := a3.2.2.1
          have h2' := a6.2.2.1
          omega
        · rw [isn]
          rfl
    have eany : (cnm (ds.take k) ++ ((dCs x).take c1.length).map nv1).any (· == Vl ts (tkN e)) = (cnm (ds.take k) ++ c1.map nv1).any (· == nv1 e) := by rw [htake, hv]
    refine C.ri (c_there (d := d) st M.2.2.2.1 M.1.1 hWq hk eF0 hx (Nat.le_of_lt hcl) tl tk281) ?_
    rw [eany, b2_0]
    refine ⟨fun z1 => ?_, fun z1 => ?_⟩
    · have := hq h1 S4.rf (by rw [z1]; exact M.1)
      unfold HQ at this
      exact this
    · rw [e61]
      refine C.mono (r_found (n := 3) M.1 tl (by decide)) ?_
      rintro _ h2 ⟨rfl, w2, r2⟩
      have := hq h2 w2 (by rw [bt z1]; exact r2)
      unfold HQ at this
      exact KV.i this
theorem dat_191 (hT : TyR G W ts O n (d + 2)) (st : DSt W ts h n m0 hi r ds) (ri : rI G W ts O h Z D s nb lo hi) (hWq : W q) (hk : hK h q = 53) (eF0 : fR h q 364 = some r) (htk : fI h q 313 = nI t0) (ht0 : lo ≤ t0 ∧ t0 < m0) (hm0 : m0 ≤ hi) (hTK : ∀ t, t ∈ TK → t = t0 ∨ t ∈ TKd ds) (hc : c ≤ 60 * ds.length) {v365 : Int32} {Q : Outcome → AH → Prop} {F : List (List Tr)} {sF : RSt}
    (hQ : ∀ h1 Z1 D1 nb1, TI G W ts O h Z D nb lo hi ds h1 Z1 D1 sF nb1 TK (TKc ds) c → (∀ j i y, (F.getD j [])[i]? = some y → HZ ts W O h r ds hi Z1 D1 h1 j i y) → TBs W h r d0 ds Z1 h1 → fI h1 q 365 = v365 → d0 + ds.length ≤ (rDt sF).length → X G mX57_resolve (d + 7) none [] 295 [(0, .ref q), (1, .ref (gW G 4)), (2, .int (0))] [] h1 Q) :
    ∀ l2 l1 Fd h1 s1 Z1 D1 nb1, ds = l1 ++ l2 → Fd.length = l1.length → TI G W ts O h Z D nb lo hi ds h1 Z1 D1 s1 nb1 TK (TKc l1) c → (∀ j i y, (Fd.getD j [])[i]? = some y → HZ ts W O h r ds hi Z1 D1 h1 j i y) → TBs W h r d0 ds Z1 h1 → fI h1 q 365 = v365 → d0 + ds.length ≤ (rDt s1).length → F = Fd ++ (rD2 (Pl ts) n (cnm l1) l2 s1).1 → sF = (rD2 (Pl ts) n (cnm l1) l2 s1).2 →
    X G mX57_resolve (d + 7) none [] 191 [(0, .ref q), (1, .ref (gW G 4)), (2, .int (nI l1.length))] [] h1 Q := by
  have hrow := row_sz st.1
  intro l2
  induction l2 with
  | nil =>
    intro l1 Fd h1 s1 Z1 D1 nb1 el hFd M H B h365 hDl eF eS
    rw [List.append_nil] at el
    subst el
    have u1 := (M.2.2.2.1.2 q hWq).1
    obtain ⟨rl1, ra1, -⟩ := st.1.mvs (N' := W) (h' := h1) fun a ha _ => ⟨(M.2.2.2.1.2 a ha).1, ha⟩
    obtain ⟨z1, z2, z3, z4⟩ := row_sz rl1
    refine bX57_resolve_191 G (d + 6) h1 _ _ _ ⟨u1.1.trans hk, r, ((u1.2.2.2.2.2 364 (by decide)).2.2).trans eF0, z1, ?_⟩
    rw [z2, nI_leI (by omega) (by omega)]
    refine ⟨fun _ => ?_, fun z => absurd (Nat.le_refl _) z⟩
    change F = Fd ++ [] at eF
    rw [List.append_nil] at eF
    change sF = s1 at eS
    subst eF eS
    exact hQ h1 Z1 D1 nb1 M H B h365 hDl
  | cons x l2 IH =>
    intro l1 Fd h1 s1 Z1 D1 nb1 el hFd M H B h365 hDl eF eS
    have hxk : ds[l1.length]? = some x := by rw [el, List.getElem?_append_right (Nat.le_refl _), Nat.sub_self]; rfl
    have hll : l1.length < ds.length := (List.getElem?_eq_some_iff.mp hxk).1
    have htk' : ds.take l1.length = l1 := by rw [el, List.take_left']; rfl
    have u1 := (M.2.2.2.1.2 q hWq).1
    have e64 : fR h1 q 364 = some r := ((u1.2.2.2.2.2 364 (by decide)).2.2).trans eF0
    obtain ⟨b, eb, ob, cb, e49, hvx, -, dv, hv, -, ⟨rc, e52, rl, e0, -⟩, -, z1, z2, z3⟩ := st.at (G := G) M.2.2.2.1 hxk
    refine bX57_resolve_191 G (d + 6) h1 _ _ _ ⟨u1.1.trans hk, r, e64, z1, ?_⟩
    rw [z2, nI_leI (by omega) (by omega)]
    refine ⟨fun z => by omega, fun _ => ⟨r, e64, z1, C.rr (cb (d + 5)) ?_⟩⟩
    have el' : ds = (l1 ++ [x]) ++ l2 := by rw [el, List.append_assoc]; rfl
    have htk2 : ds.take (l1.length + 1) = l1 ++ [x] := by
      rw [List.take_add_one, htk', hxk]
      rfl
    have ecn : cnm (l1 ++ [x]) = cnm l1 ++ (dCs x).map nv1 := by
      unfold cnm
      rw [List.flatMap_append]
      congr 1
      exact List.flatMap_singleton ..
    refine dat_214 (Fd := Fd) (k := l1.length) (F := (rD2c (Pl ts) n ((dVs x).map nv1) (cnm l1) (dCs x) s1).1) (sF := (rD2c (Pl ts) n ((dVs x).map nv1) (cnm l1) (dCs x) s1).2) hT st ri hWq hk eF0 htk ht0 hm0 hTK hxk eb e0 hFd hc (fun h2 Z2 D2 nb2 M2 H2 B2 i2 l2' => ?_) (dCs x) [] [] h1 s1 Z1 D1 nb1 rfl rfl ?_ (fun j i y hy => ?_) B h365 hDl ?_ ?_
    · rw [htk2] at M2
      have := IH (l1 ++ [x]) (Fd ++ [(rD2c (Pl ts) n ((dVs x).map nv1) (cnm l1) (dCs x) s1).1]) h2 _ Z2 D2 nb2 el' (by rw [List.length_append, List.length_append, hFd]; rfl) M2 H2 B2 i2 l2' ?_ ?_
      · rw [List.length_append, List.length_singleton] at this
        exact this
      · rw [eF, ecn, List.append_assoc]
        rfl
      · rw [eS, ecn]
        rfl
    · rw [htk']
      show TI G W ts O h Z D nb lo hi ds h1 Z1 D1 s1 nb1 TK (TKc l1 ++ []) c
      rw [List.append_nil]
      exact M
    · refine H j i y ?_
      rcases hz_at hFd hy with z | ⟨-, z⟩
      · rw [List.getD_eq_getElem?_getD, List.getElem?_append_left (by omega)] at hy
        rw [List.getD_eq_getElem?_getD]
        exact hy
      · cases z
    · rw [htk']
      show _ = [] ++ (rD2c (Pl ts) n ((dVs x).map nv1) (cnm l1 ++ []) (dCs x) s1).1
      rw [List.append_nil]
      rfl
    · rw [htk']
      show _ = (rD2c (Pl ts) n ((dVs x).map nv1) (cnm l1 ++ []) (dCs x) s1).2
      rw [List.append_nil]
end
