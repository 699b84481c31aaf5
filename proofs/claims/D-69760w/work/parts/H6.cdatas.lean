/-! DATATYPES are resolved -/
section
variable {G : Gh} {d : Nat} {W N : Nat → Prop} {h h1 h2 h3 h5 h' hA : AH} {ts : List (Nat × Nat × Nat)} {t i j n nb nb' nb1 nb2 r q g fr ba lo hi m m0 m1 m2 lo1 hi1 b k c arr t0 tc u : Nat} {v : Int} {Z Z' Z1 Z2 : Zt} {D D' D1 D2 : Dm} {O : List (Nat × Nat) × List (Nat × Nat)} {s s0 s' s1 s2 s5 : RSt} {x y e x' a' b' : Tr} {l l1 l2 ds : List Tr} {TK DC : List Nat} {f : Nat → Option Nat} {A : Zt → Dm → AH → Prop} {K V : Nat → Nat}
variable {d0 dd rc bc : Nat} {Fd Rd F : List (List Tr)} {hs : List Tr}
theorem con_fin (k : CZ ts W O h r ds hi Z1 D1 h1 j i y) (st : DSt W ts h n m0 hi r ds) (kw : KW W lo hi h h1) (hlo : lo ≤ m0) : ∃ b rc bc, rowAt h r j = some b ∧ fR h b 352 = some rc ∧ rowAt h rc i = some bc ∧ OTG (XA ts W O Z1 D1 h1) W h1 y 0 0 bc ∧ TR lo hi y := by
  obtain ⟨x, e, b, rc, bc, ci, z, a1, a2, a3, a4, a5, a6, rfl, a8, a9, a10⟩ := k
  obtain ⟨bc', e1, -, -, e4, -, -, ex, -, hTc, ⟨e10, -⟩, -⟩ := st.con (G := default) kw a1 a2 a3 a4
  cases a5.symm.trans e1
  have ub := (kw.2 bc a6).1
  obtain ⟨x', e', b', rc', bc', c1, c2, c3, c4, c5, c6⟩ := a8
  cases a1.symm.trans c1
  cases a2.symm.trans c2
  cases a3.symm.trans c3
  cases a4.symm.trans c4
  cases a5.symm.trans c5
  refine ⟨b, rc, bc, a3, a4, a5, ?_, ?_⟩
  · show OTG _ W h1 (n1 56 (tkN e) (.add (.num (ci : Nat)) z)) 0 0 bc
    refine (OTG_nd (k := 56) (by decide)).mpr ⟨a6, by rw [e4]; decide, ⟨(ex.mv (fun a ha _ => (kw.2 a ha).1) ub).ch (by decide), fun t' z' hz => ?_⟩, (OTG_c2 (by decide) (by decide)).mpr ⟨OTG_7 (Or.inl ⟨_, rfl⟩), (OTG_ef (m' := 5) (i' := 362) (by decide) (by decide)).mpr (OTG_5.mpr ?_)⟩⟩
    · cases hz
      exact ⟨fun q => by omega, fun q => by omega, fun q => by omega, fun q => by omega, fun q => by omega, fun q => by omega, fun _ => ⟨ci, z, rfl, by omega, by rw [Int.toNat_natCast]; exact a9, by rw [Int.toNat_natCast]; exact a10⟩, fun q => by omega, fun q => by omega, fun q => by omega⟩
    · have e62 := (ub.2.2.2.2.2 362 (by decide)).2.2
      rcases c6 with ⟨z1, z2⟩ | ⟨bb, u, z1, -, -, -, z5⟩
      · exact Or.inl ⟨z1, e62.trans z2⟩
      · exact Or.inr ⟨bb, e62.trans z1, z5⟩
  · show TR lo hi (n1 56 (tkN e) (.add (.num (ci : Nat)) z))
    refine TR_nd (by omega) e10.2 ⟨trivial, ?_⟩
    rcases c6 with ⟨z1, -⟩ | ⟨bb, u, -, -, z3, z4, -⟩
    · rw [z1]; trivial
    · exact TR.mono _ _ _ _ _ z4 (by omega) z3.2.1
theorem EXs.d55 {a v' w w' : Tr} (k : EXs N h 55 b (.add (.num t) (.add v' (.add a w)))) {v2 : Tr} : EXs N h 55 b (.add (.num t) (.add v2 (.add a w'))) := by
  obtain ⟨e1, e2, e3, e4, e5, e6, e7, e8, e9⟩ := k
  refine ⟨e1, e2, e3, e4, e5, e6, e7, e8, fun t' y' e => ?_⟩
  obtain ⟨f1, f2, f3, f4⟩ := e9 _ _ rfl
  cases e
  refine ⟨fun q => by omega, fun q => by omega, fun q => by omega, fun q => ?_⟩
  obtain ⟨v, vs, c, arr, g1, g⟩ := f4 q
  cases g1
  exact ⟨_, _, _, arr, rfl, g⟩
theorem TR_ls : ∀ l : List Tr, (∀ y, y ∈ l → TR lo hi y) → TR lo hi (ls l) := by
  intro l
  induction l with
  | nil => intro _; trivial
  | cons a l ih =>
    intro hl
    unfold ls TR
    exact ⟨hl a (List.mem_cons_self ..), ih fun y hy => hl y (List.mem_cons_of_mem _ hy)⟩
theorem data_fin (hx : ds[j]? = some x) (hl : (Rd.getD j []).length = (dCs x).length) (CR : ∀ i y, (Rd.getD j [])[i]? = some y → CZ ts W O h r ds hi Z1 D1 h1 j i y) (B : TBs W h r d0 ds Z1 h1) (hd : d0 + j < D1.2.2) (st : DSt W ts h n m0 hi r ds) (kw : KW W lo hi h h1) (hlo : lo ≤ m0) :
    ∃ b, rowAt h r j = some b ∧ OTG (XA ts W O Z1 D1 h1) W h1 (.mulL 55 (.add (.num (tkN x)) (.add (.num ((d0 + j : Nat))) (.add (ls (dVs x)) (ls (Rd.getD j [])))))) 0 0 b ∧ TR lo hi (.mulL 55 (.add (.num (tkN x)) (.add (.num ((d0 + j : Nat))) (.add (ls (dVs x)) (ls (Rd.getD j [])))))) := by
  obtain ⟨b, eb, ob, -, -, -, ⟨htx, -⟩, dv, -, -, ⟨rc, e52, rl, e0, ra, -⟩, ex, -⟩ := st.at (G := default) kw hx
  obtain ⟨b', c1, c2, c3⟩ := B j x hx
  cases eb.symm.trans c1
  have ub := (kw.2 b c2).1
  have hl7 : (∃ v, ls (dVs x) = .num v) ∨ ∃ y z, ls (dVs x) = .add y z := by
    cases dVs x with
    | nil => exact Or.inl ⟨_, rfl⟩
    | cons a l => exact Or.inr ⟨_, _, rfl⟩
  refine ⟨b, eb, ?_, ?_⟩
  · show OTG _ W h1 (n1 55 (tkN x) (.add (.num ((d0 + j : Nat))) (.add (ls (dVs x)) (ls (Rd.getD j []))))) 0 0 b
    refine (OTG_nd (k := 55) (by decide)).mpr ⟨c2, by rw [dv.1]; decide, ⟨(ex.mv (fun a ha _ => (kw.2 a ha).1) ub).d55, fun t' z' hz => ?_⟩, (OTG_c2 (by decide) (by decide)).mpr ⟨OTG_7 (Or.inl ⟨_, rfl⟩), (OTG_c2 (by decide) (by decide)).mpr ⟨OTG_7 hl7, (OTG_ef (m' := 22) (i' := 352) (by decide) (by decide)).mpr (OTG_row.mpr ⟨rc, e52, by rw [hl]; exact rl, fun i y hy => ?_⟩)⟩⟩⟩
    · cases hz
      exact ⟨fun q => by omega, fun q => by omega, fun q => by omega, fun q => by omega, fun q => by omega, fun _ => ⟨_, _, rfl, by omega, by rw [Int.toNat_natCast]; exact hd, by rw [Int.toNat_natCast]; exact c3⟩, fun q => by omega, fun q => by omega, fun q => by omega, fun q => by omega⟩
    · obtain ⟨b', rc', bc, d1, d2, d3, d4, -⟩ := con_fin (CR i y hy) st kw hlo
      cases eb.symm.trans d1
      cases e0.symm.trans d2
      exact ⟨bc, by rw [ra]; exact d3, d4⟩
  · show TR lo hi (n1 55 (tkN x) (.add (.num ((d0 + j : Nat))) (.add (ls (dVs x)) (ls (Rd.getD j [])))))
    refine TR_nd (by omega) htx.2 ⟨trivial, ?_, TR_ls _ fun y hy => ?_⟩
    · have hxm := List.mem_of_getElem? hx
      have wx := wf_mem ds _ _ st.2.2.2.1 x hxm
      obtain ⟨t', vs, cs, e, -⟩ := st.2.2.1 x hxm
      rw [e] at wx ⊢
      obtain ⟨-, -, -, p, p2, q1, q2, q3, wv, -⟩ := wf_55 wx
      rw [show dVs (n3 55 t' (.num (Vl ts t')) (ls vs) (ls cs)) = vs from unl_ls vs]
      exact TR.mono _ _ _ _ _ (wf.tr _ _ _ wv) (by omega) (by have := (wf_55 wx).2.2.2; omega)
    · obtain ⟨i, hi'⟩ := List.getElem?_of_mem hy
      obtain ⟨-, -, -, -, -, -, -, d5⟩ := con_fin (CR i y hi') st kw hlo
      exact d5
/-- DATATYPES -/
theorem dec_datas (hT : TyR G W ts O n (d + 2)) (hw : wf (Kd ts) (n1 53 t (ls ds)) lo hi) (hds : ∀ f, f ∈ ds → shD (Vl ts) n f) (ot : OTG (X0 ts W h) W h (n1 53 t (ls ds)) 0 0 q) (ri : rI G W ts O h Z D s nb lo hi) : C G mX57_resolve (d + 7) [.ref q, .ref (gW G 4)] h (rP G W ts O h Z D nb lo hi (rA ts W O lo hi (rs (Pl ts) (knO O) (n + 1) 2 (n1 53 t (ls ds)) s).1 q) (rs (Pl ts) (knO O) (n + 1) 2 (n1 53 t (ls ds)) s).2) ∧ hK h q = 53 := by
  obtain ⟨ht, m0, hm1, hm2, hw0⟩ := wf_53 hw
  obtain ⟨hWq, hkq, ⟨ex, -⟩, oy⟩ := (OTG_nd (k := 53) (by decide)).mp ot
  have hk : hK h q = 53 := by simpa [kc] using hkq
  obtain ⟨r, e0, rl, tg⟩ := OTG_row.mp ((OTG_ef (m' := 22) (i' := 364) (by decide) (by decide)).mp oy)
  have htl := ri.1.1.2.2.2.1
  have htk : fI h q 313 = nI t := ex.tk hk rfl rfl
  have st : DSt W ts h n m0 hi r ds := ⟨rl, fun j x hx => tg j x hx, hds, hw0, ri.2.2.2.1.1, ri.2.1.1⟩
  obtain ⟨n1', n2', bd1, bd2, -⟩ := dat_rng ds m0 hi hw0 hds
  have hbud := tk_len hw0 hds
  have eR : rs (Pl ts) (knO O) (n + 1) 2 (n1 53 t (ls ds)) s = (n1 53 t (ls (rD3 (rDt s).length ds (rD2 (Pl ts) n [] ds (rD1 (Pl ts) t [] ds s)).1 (rD2 (Pl ts) n [] ds (rD1 (Pl ts) t [] ds s)).2).1), (rD3 (rDt s).length ds (rD2 (Pl ts) n [] ds (rD1 (Pl ts) t [] ds s)).1 (rD2 (Pl ts) n [] ds (rD1 (Pl ts) t [] ds s)).2).2) := by
    have e0 : rs (Pl ts) (knO O) (n + 1) 2 (n1 53 t (ls ds)) s = (n1 53 t (ls (rD3 (rDt s).length (unl (ls ds)) (rD2 (Pl ts) n [] (unl (ls ds)) (rD1 (Pl ts) t [] (unl (ls ds)) s)).1 (rD2 (Pl ts) n [] (unl (ls ds)) (rD1 (Pl ts) t [] (unl (ls ds)) s)).2).1), (rD3 (rDt s).length (unl (ls ds)) (rD2 (Pl ts) n [] (unl (ls ds)) (rD1 (Pl ts) t [] (unl (ls ds)) s)).1 (rD2 (Pl ts) n [] (unl (ls ds)) (rD1 (Pl ts) t [] (unl (ls ds)) s)).2).2) := rfl
    rw [e0, unl_ls]
  rw [eR]
  have hv3 := ri.2.2.1
  have hhi := ri.2.2.2.1
  have z365 : fI h q 365 = 0 := by
    refine Classical.byContradiction fun hn => ?_
    obtain ⟨d', y, y1, y2, -⟩ := (ri.1.2.2.2.2.2.2.2.2.2.2.2 q hWq).2 hk hn
    rw [htk, nI_toInt (by omega)] at y2
    have h5 : y.2.2.2 = t := by omega
    have := hv3.2.2.2.2.1 y (List.mem_of_getElem? y1) (by omega)
    rw [h5] at this
    have := ri.2.2.2.2.2.2.1 t this
    omega
  refine ⟨bX57_resolve G (d + 6) h _ _ ?_, hk⟩
  have hTK : ∀ t', t' ∈ (ds.map tkN).reverse ++ [t] → t' = t ∨ t' ∈ TKd ds := fun t' h' => by
    rcases List.mem_append.mp h' with z | z
    · exact Or.inr (List.mem_reverse.mp z)
    · exact Or.inl (List.mem_singleton.mp z)
  refine dat_2 (d0 := (rDt s).length) (sF := rD1 (Pl ts) t [] ds s) st ri hWq hk e0 htk ⟨ht.1, hm1⟩ hm2 n1' (fun h1 Z1 D1 nb1 M1 B1 i1 l1 => ?_) ds [] h s Z (fun t' => D.1 t' ∨ t' = t, D.2) nb rfl ?_ (Or.inr rfl) (fun j x hx => by simp at hx) ⟨fun _ j hj => (by cases hj), fun _ => z365⟩ rfl rfl
  · refine dat_191 (d0 := (rDt s).length) (c := 60 * ds.length) (v365 := fI h1 q 365) (F := (rD2 (Pl ts) n [] ds (rD1 (Pl ts) t [] ds s)).1) (sF := (rD2 (Pl ts) n [] ds (rD1 (Pl ts) t [] ds s)).2) hT st ri hWq hk e0 htk ⟨ht.1, hm1⟩ hm2 hTK (Nat.le_refl _) (fun h2 Z2 D2 nb2 M2 H2 B2 i2 l2 => ?_) ds [] [] h1 _ Z1 D1 nb1 rfl rfl M1 (fun j i y hy => by simp at hy) B1 rfl (by omega) rfl rfl
    refine dat_295 (d0 := (rDt s).length) (c := 60 * ds.length) (v365 := fI h1 q 365) (F := (rD2 (Pl ts) n [] ds (rD1 (Pl ts) t [] ds s)).1) (T := (rD3 (rDt s).length ds (rD2 (Pl ts) n [] ds (rD1 (Pl ts) t [] ds s)).1 (rD2 (Pl ts) n [] ds (rD1 (Pl ts) t [] ds s)).2).1) (sF := (rD3 (rDt s).length ds (rD2 (Pl ts) n [] ds (rD1 (Pl ts) t [] ds s)).1 (rD2 (Pl ts) n [] ds (rD1 (Pl ts) t [] ds s)).2).2) st ri hWq hk e0 htk ⟨ht.1, hm1⟩ hm2 hTK (Nat.le_refl _) (rD2_len ds _ _) (fun h3 Z3 D3 nb3 Rd M3 C3 T3 B3 i3 l3 hTl => ?_) ds [] [] [] h2 _ Z2 D2 nb2 rfl rfl rfl ?_ H2 (fun j i y hy => by simp at hy) (fun j y hy => by simp at hy) B2 i2 l2 rfl rfl
    · obtain ⟨k1, k2, k3, k4, k5, k6, k7, k8, k9, k10⟩ := M3
      have uq := (k4.2 q hWq).1
      obtain ⟨rl3, ra3, -⟩ := rl.mvs (N' := W) (h' := h3) fun a ha _ => ⟨(k4.2 a ha).1, ha⟩
      have fin : ∀ j y, (rD3 (rDt s).length ds (rD2 (Pl ts) n [] ds (rD1 (Pl ts) t [] ds s)).1 (rD2 (Pl ts) n [] ds (rD1 (Pl ts) t [] ds s)).2).1[j]? = some y → nv1 y = (rDt s).length + j ∧ ∃ b, rowAt h r j = some b ∧ OTG (XA ts W O Z3 D3 h3) W h3 y 0 0 b ∧ TR lo hi y := by
        intro j y hy
        obtain ⟨x, a1, rfl, a3⟩ := T3 j y hy
        have hj := (List.getElem?_eq_some_iff.mp a1).1
        exact ⟨Int.toNat_natCast _, data_fin a1 a3 (fun i y hy => C3 j i y hy) B3 (by rw [k3.2.2.1]; omega) st k4 (by omega)⟩
      refine ⟨rfl, Z3, D3, nb3, k1, k2, k3, ⟨TR_nd ht.1 ht.2 (TR_ls _ fun y hy => ?_), ?_⟩, k4, k5, fun t' h' => ?_, k7, k8, by omega, k10⟩
      · obtain ⟨j, hj⟩ := List.getElem?_of_mem hy
        obtain ⟨-, b, -, -, h4⟩ := fin j y hj
        exact h4
      · refine (OTG_nd (k := 53) (by decide)).mpr ⟨hWq, by rw [uq.1]; exact hkq, ⟨(ex.mv (fun a ha _ => (k4.2 a ha).1) uq).ch (by decide), fun t' z' hz => ?_⟩, (OTG_ef (m' := 22) (i' := 364) (by decide) (by decide)).mpr (OTG_row.mpr ⟨r, ((uq.2.2.2.2.2 364 (by decide)).2.2).trans e0, by rw [hTl]; exact rl3, fun j y hy => ?_⟩)⟩
        · cases hz
          refine ⟨fun q => by omega, fun q => by omega, fun q => by omega, fun q => by omega, fun q => by omega, fun q => by omega, fun q => by omega, fun q => by omega, fun q => by omega, fun _ => ?_⟩
          rw [unl_ls, i3, i1]
          refine ⟨fun z y hy => ?_, fun z j hj => ?_⟩
          · obtain ⟨j, hj⟩ := List.getElem?_of_mem hy
            rw [(fin j y hj).1]
            have := (List.getElem?_eq_some_iff.mp hj).1
            exact z j (by omega)
          · have hy := List.getElem?_eq_getElem (l := (rD3 (rDt s).length ds (rD2 (Pl ts) n [] ds (rD1 (Pl ts) t [] ds s)).1 (rD2 (Pl ts) n [] ds (rD1 (Pl ts) t [] ds s)).2).1) (i := j) (by omega)
            have := z _ (List.mem_of_getElem? hy)
            rw [(fin j _ hy).1] at this
            exact this
        · obtain ⟨-, b, h2', h3', -⟩ := fin j y hy
          exact ⟨b, by rw [ra3]; exact h2', h3'⟩
      · rcases k6 t' h' with z | z | ⟨tc, u, y1, y2, y3, y4⟩
        · exact Or.inl z
        · refine Or.inr ?_
          rcases List.mem_append.mp z with z | z
          · rcases hTK t' z with z | z
            · omega
            · have := (bd1 t' z).1
              omega
          · have := (bd2 t' z).1
            omega
        · have := (bd2 tc y1).1
          have := y2.2.1
          exact Or.inr (by omega)
    · show TI G W ts O h Z D nb lo hi ds h2 Z2 D2 _ nb2 (((ds.map tkN).reverse ++ [t]) ++ []) (TKc ds) (60 * ds.length + 90 * 0)
      rw [List.append_nil]
      exact M2
  · obtain ⟨k1, k2, k3, k4, k5, k6, k7, k8⟩ := id ri
    exact ⟨k1, k2, ⟨fun x hx => Or.inl (k3.1 x hx), k3.2.1, k3.2.2.1, k3.2.2.2.mv (fun _ h => Or.inl h) ⟨rfl, rfl⟩ ⟨Nat.le_refl _, Nat.le_refl _⟩⟩, KW.rf, ⟨fun t' h' => ⟨Or.inl h', rfl⟩, ⟨Nat.le_refl _, fun _ _ => rfl⟩, ⟨Nat.le_refl _, fun _ _ => rfl⟩⟩, fun t' h' => h'.imp_right fun z => Or.inl (by rw [z]; exact List.mem_singleton.mpr rfl), k5, k6, Nat.le_refl _, Le.rf0⟩
end
