/-! DATATYPES: what their constructors have -/
/-- what the constructor i of the datatype j has, resolved -/
def HZ (ts : List (Nat × Nat × Nat)) (W : Nat → Prop) (O : List (Nat × Nat) × List (Nat × Nat)) (h : AH) (r : Nat) (ds : List Tr) (hi : Nat) (Z : Zt) (D : Dm) (h1 : AH) (j i : Nat) (y : Tr) : Prop := ∃ x e b rc bc, ds[j]? = some x ∧ (dCs x)[i]? = some e ∧ rowAt h r j = some b ∧ fR h b 352 = some rc ∧ rowAt h rc i = some bc ∧ ((y = .num 0 ∧ fR h bc 362 = none) ∨ ∃ bb u, fR h bc 362 = some bb ∧ isN y = false ∧ RGt ds hi (tkN e) u ∧ TR (tkN e + 1) u y ∧ OTG (XA ts W O Z D h1) W h1 y 0 0 bb)
section
variable {G : Gh} {d : Nat} {W N : Nat → Prop} {h h1 h2 h3 h5 h' hA : AH} {ts : List (Nat × Nat × Nat)} {t i j n nb nb' nb1 nb2 r q g fr ba lo hi m m0 m1 m2 lo1 hi1 b k c arr t0 tc u : Nat} {v : Int} {Z Z' Z1 Z2 : Zt} {D D' D1 D2 : Dm} {O : List (Nat × Nat) × List (Nat × Nat)} {s s0 s' s1 s2 s5 : RSt} {x y e x' a' b' : Tr} {l l1 l2 ds : List Tr} {TK DC : List Nat} {f : Nat → Option Nat} {A : Zt → Dm → AH → Prop} {K V : Nat → Nat}
variable {d0 rc bc : Nat} {Fd : List (List Tr)} {hs : List Tr}
theorem HZ.mv (k : HZ ts W O h r ds hi Z1 D1 h1 j i y) (kw : KW W lo1 hi1 h1 h2) (ex : Ext Z1 Z2 D1 D2) (hd : ∀ x e u, ds[j]? = some x → (dCs x)[i]? = some e → RGt ds hi (tkN e) u → u ≤ lo1 ∨ hi1 ≤ tkN e + 1) : HZ ts W O h r ds hi Z2 D2 h2 j i y := by
  obtain ⟨x, e, b, rc, bc, a1, a2, a3, a4, a5, a6⟩ := k
  refine ⟨x, e, b, rc, bc, a1, a2, a3, a4, a5, ?_⟩
  rcases a6 with z | ⟨bb, u, b1, b2, b3, b4, b5⟩
  · exact Or.inl z
  · exact Or.inr ⟨bb, u, b1, b2, b3, b4, b5.k1 kw ex (hd x e u a1 a2 b3) b4⟩
theorem hz_at (hk : Fd.length = k) (e : ((Fd ++ [hs]).getD j [])[i]? = some y) : j < k ∨ (j = k ∧ i < hs.length) := by
  by_cases h1 : j < k
  · exact Or.inl h1
  · refine Or.inr ?_
    rw [List.getD_eq_getElem?_getD, List.getElem?_append_right (by omega)] at e
    by_cases h2 : j = k
    · refine ⟨h2, ?_⟩
      rw [h2, hk, Nat.sub_self] at e
      exact (List.getElem?_eq_some_iff.mp e).1
    · have : [hs][j - Fd.length]? = none := List.getElem?_eq_none (by rw [List.length_singleton]; omega)
      rw [this] at e
      cases e
theorem rg_len (hnd : (TKd ds).Nodup) (hb : ∀ t, t ∈ TKd ds → m0 ≤ t ∧ t < hi) (rg : RGt ds hi tc u) (hm : m0 ≤ tc) : ds.length + (u - (tc + 1)) ≤ hi - m0 := by
  have hl : ((TKd ds).map fun t => if t ≤ tc then t - m0 else t - m0 - (u - (tc + 1))).length ≤ hi - m0 - (u - (tc + 1)) := by
    refine nodup_lt _ _ ?_ fun y hy => ?_
    · refine List.pairwise_map.mpr (hnd.imp_of_mem fun {a b} ha hb' hne => ?_)
      have h1 := hb a ha
      have h2 := hb b hb'
      have h3 := rg.2.2 a (Or.inl ha)
      have h4 := rg.2.2 b (Or.inl hb')
      have h5 := rg.1
      split <;> split <;> omega
    · obtain ⟨t, ht, e⟩ := List.mem_map.mp hy
      have h1 := hb t ht
      have h3 := rg.2.2 t (Or.inl ht)
      have h5 := rg.1
      have h6 := rg.2.1
      split at e <;> omega
  have h5 := rg.1
  have h6 := rg.2.1
  have hln : (TKd ds).length = ds.length := List.length_map ..
  rw [List.length_map, hln] at hl
  omega
theorem TI.dc {DC' : List Nat} (k : TI G W ts O h Z D nb lo hi ds h1 Z1 D1 s1 nb1 TK DC c) (hs : ∀ t, t ∈ DC → t ∈ DC') : TI G W ts O h Z D nb lo hi ds h1 Z1 D1 s1 nb1 TK DC' c := by
  obtain ⟨k1, k2, k3, k4, k5, k6, k7⟩ := k
  refine ⟨k1, k2, k3, k4, k5, fun t ht => ?_, k7⟩
  rcases k6 t ht with z | z | ⟨tc, u, z, z'⟩
  · exact Or.inl z
  · exact Or.inr (Or.inl z)
  · exact Or.inr (Or.inr ⟨tc, u, hs tc z, z'⟩)
/-- types' names stay while a constructor's type is resolved -/
theorem TBs.mv (htl : ts.length ≤ 1300) (k : TBs W h r d0 ds Z1 h1) (st : DSt W ts h n m0 hi r ds) (kw0 : KW W lo hi h h1) (kw : KW W lo1 hi1 h1 h2) (hZ : ∀ i, i < d0 + ds.length → Z2.2.2 i = Z1.2.2 i) (hd : ∀ t, t ∈ TKd ds → t < lo1 ∨ hi1 ≤ t) : TBs W h r d0 ds Z2 h2 := by
  intro j x hx
  obtain ⟨b, c1, c2, c3⟩ := k j x hx
  have hj := (List.getElem?_eq_some_iff.mp hx).1
  obtain ⟨b', d1, -, -, d49, -, ⟨d5, d6, -⟩, dv, -⟩ := st.at (G := default) kw0 hx
  cases c1.symm.trans d1
  have := hd _ (List.mem_map_of_mem (f := tkN) (List.mem_of_getElem? hx))
  have hu := (kw.2 b c2).2 (by
    unfold tokA
    rw [dv.1, show fI h1 b (tf 47) = nI (tkN x) from d49, nI_toInt (by omega)]
    omega)
  exact ⟨b, c1, c2, by rw [(hu.2.2.2.2.2 353).2.2, hZ _ (by omega)]; exact c3⟩
end
