/-! DATATYPES: the end -/
/-- the datatypes, resolved; Rd: their constructors -/
def DTs (ds : List Tr) (d0 : Nat) (Rd : List (List Tr)) (T : List Tr) : Prop := ∀ (j : Nat) (y : Tr), T[j]? = some y → ∃ x, ds[j]? = some x ∧ y = .mulL 55 (.add (.num (tkN x)) (.add (.num ((d0 + j : Nat))) (.add (ls (dVs x)) (ls (Rd.getD j []))))) ∧ (Rd.getD j []).length = (dCs x).length
section
variable {G : Gh} {d : Nat} {W N : Nat → Prop} {h h1 h2 h3 h5 h' hA : AH} {ts : List (Nat × Nat × Nat)} {t i j n nb nb' nb1 nb2 r q g fr ba lo hi m m0 m1 m2 lo1 hi1 b k c arr t0 tc u : Nat} {v : Int} {Z Z' Z1 Z2 : Zt} {D D' D1 D2 : Dm} {O : List (Nat × Nat) × List (Nat × Nat)} {s s0 s' s1 s2 s5 : RSt} {x y e x' a' b' : Tr} {l l1 l2 ds : List Tr} {TK DC : List Nat} {f : Nat → Option Nat} {A : Zt → Dm → AH → Prop} {K V : Nat → Nat}
variable {d0 dd rc bc : Nat} {Fd Rd F : List (List Tr)} {hs : List Tr}
theorem rD2c_len {pl : Nat → Nat} {vs : List Nat} : ∀ (l : List Tr) (old : List Nat) (s : RSt), (rD2c pl n vs old l s).1.length = l.length := by
  intro l
  induction l with
  | nil => intro old s; rfl
  | cons c l ih =>
    intro old s
    unfold rD2c
    dsimp only
    rw [List.length_cons, List.length_cons, ih]
theorem rD2_len {pl : Nat → Nat} : ∀ (l : List Tr) (old : List Nat) (s : RSt), (rD2 pl n old l s).1.length = l.length ∧ ∀ (j : Nat) (x : Tr), l[j]? = some x → ∃ hs, (rD2 pl n old l s).1[j]? = some hs ∧ hs.length = (dCs x).length := by
  intro l
  induction l with
  | nil => intro old s; exact ⟨rfl, fun j x hx => by simp at hx⟩
  | cons d l ih =>
    intro old s
    unfold rD2
    dsimp only
    obtain ⟨i1, i2⟩ := ih (old ++ (dCs d).map nv1) (rD2c pl n ((dVs d).map nv1) old (dCs d) s).2
    refine ⟨by rw [List.length_cons, List.length_cons, i1], fun j x hx => ?_⟩
    cases j with
    | zero => cases hx; exact ⟨_, rfl, rD2c_len _ _ _⟩
    | succ j => exact i2 j x (by simpa using hx)
theorem rD3c_len {dd : Nat} : ∀ (l : List Tr) (i : Nat) (hs : List Tr) (s : RSt), hs.length = l.length → (rD3c dd i l hs s).1.length = l.length := by
  intro l
  induction l with
  | nil => intro i hs s _; cases hs <;> rfl
  | cons c l ih =>
    intro i hs s e
    cases hs with
    | nil => cases e
    | cons h hs =>
      unfold rD3c
      dsimp only
      rw [List.length_cons, List.length_cons, ih _ _ _ (by simpa using e)]
theorem TI.w54 (M : TI G W ts O h Z D nb lo hi ds h1 Z1 D1 s1 nb1 TK DC c) (hd : dd < (rDt s1).length) (e : h2 = pI h1 (Z1.2.2 dd) 54 (nI m)) : TI G W ts O h Z D nb lo hi ds h2 Z1 D1 (dSet dd m s1) nb1 TK DC c ∧ KW W 0 0 h1 h2 := by
  obtain ⟨k1, k2, k3, k4, k5, k6, k7, k8, k9, k10⟩ := M
  have hk4 : hK h1 (Z1.2.2 dd) = 4 := (k1.2.2.2.2.2.1.2.1 dd _ (List.getElem?_eq_getElem hd)).1
  have w : WQ (Z1.2.2 dd) h1 h2 := by rw [e]; exact WQ.rf.pI
  have le : Le h1 h2 none := by rw [e]; exact pI_le (Or.inl (by decide))
  have hW : ∀ a, W a → Uf h1 h2 a := fun a ha => w.uf fun z => (k2.2.2.2 a ha).1.1 (by rw [z]; exact hk4)
  have h8 : hK h1 (gW G 4) = 8 := (k1.1.1.at (i := 4) (by decide)).1
  have u4 := w.uf (a := gW G 4) fun z => by rw [z, hk4] at h8; cases h8
  have elen : (rDt (dSet dd m s1)).length = (rDt s1).length := List.length_modify ..
  obtain ⟨⟨K, K1, K2, K3, K4⟩, K5, K6⟩ := id k3.2.2.2
  refine ⟨⟨k1.w54 hd e, k2.mv k1.1 (fun a ha => (hW a ha).us) (u4.2.2.2.2.2 82).2.2, ⟨k3.1, k3.2.1, by rw [elen]; exact k3.2.2.1, ⟨K, K1, K2, by rw [elen]; exact K3, K4⟩, fun y hy h5 => ?_, fun x hx => by rw [elen]; exact K6 x hx⟩, k4.tr (KW.of le.1 hW), k5, k6, k7.of rfl, k8, by unfold pU at k9 ⊢; rw [w.un]; exact k9, k10.tr le⟩, KW.of le.1 hW⟩
  obtain ⟨j, hj⟩ := List.getElem?_of_mem hy
  have eat : (rDt (dSet dd m s1))[j]? = if dd = j then ((rDt s1)[j]?).map (fun y => (y.1, y.2.1, m, y.2.2.2)) else (rDt s1)[j]? := dm_at
  rw [eat] at hj
  by_cases z : dd = j
  · rw [if_pos z] at hj
    obtain ⟨y0, y1, y2⟩ := Option.map_eq_some_iff.mp hj
    rw [← y2] at h5 ⊢
    exact K5 y0 (List.mem_of_getElem? y1) h5
  · rw [if_neg z] at hj
    exact K5 y (List.mem_of_getElem? hj) h5
theorem dat_295 (st : DSt W ts h n m0 hi r ds) (ri : rI G W ts O h Z D s nb lo hi) (hWq : W q) (hk : hK h q = 53) (eF0 : fR h q 364 = some r) (htk : fI h q 313 = nI t0) (ht0 : lo ≤ t0 ∧ t0 < m0) (hm0 : m0 ≤ hi) (hTK : ∀ t, t ∈ TK → t = t0 ∨ t ∈ TKd ds) (hc : c ≤ 60 * ds.length) (hFn : F.length = ds.length ∧ ∀ (j : Nat) (x : Tr), ds[j]? = some x → ∃ hs, F[j]? = some hs ∧ hs.length = (dCs x).length) {v365 : Int32} {Q : Outcome → AH → Prop} {T : List Tr} {sF : RSt}
    (hQ : ∀ h1 Z1 D1 nb1 Rd, TI G W ts O h Z D nb lo hi ds h1 Z1 D1 sF nb1 (TK ++ TKc ds) (TKc ds) (c + 90 * (TKc ds).length) → (∀ j i y, (Rd.getD j [])[i]? = some y → CZ ts W O h r ds hi Z1 D1 h1 j i y) → DTs ds d0 Rd T → TBs W h r d0 ds Z1 h1 → fI h1 q 365 = v365 → d0 + ds.length ≤ (rDt sF).length → T.length = ds.length → Q (.returned none) h1) :
    ∀ l2 l1 Rd Td h1 s1 Z1 D1 nb1, ds = l1 ++ l2 → Rd.length = l1.length → Td.length = l1.length → TI G W ts O h Z D nb lo hi ds h1 Z1 D1 s1 nb1 (TK ++ TKc l1) (TKc ds) (c + 90 * (TKc l1).length) → (∀ j i y, (F.getD j [])[i]? = some y → HZ ts W O h r ds hi Z1 D1 h1 j i y) → (∀ j i y, (Rd.getD j [])[i]? = some y → CZ ts W O h r ds hi Z1 D1 h1 j i y) → DTs ds d0 Rd Td → TBs W h r d0 ds Z1 h1 → fI h1 q 365 = v365 → d0 + ds.length ≤ (rDt s1).length → T = Td ++ (rD3 (d0 + l1.length) l2 (F.drop l1.length) s1).1 → sF = (rD3 (d0 + l1.length) l2 (F.drop l1.length) s1).2 →
    X G mX57_resolve (d + 7) none [] 295 [(0, .ref q), (1, .ref (gW G 4)), (2, .int (nI l1.length))] [] h1 Q := by
  have hrow := row_sz st.1
  intro l2
  induction l2 with
  | nil =>
    intro l1 Rd Td h1 s1 Z1 D1 nb1 el hRd hTd M H CR DT B h365 hDl eF eS
    rw [List.append_nil] at el
    subst el
    have u1 := (M.2.2.2.1.2 q hWq).1
    obtain ⟨rl1, ra1, -⟩ := st.1.mvs (N' := W) (h' := h1) fun a ha _ => ⟨(M.2.2.2.1.2 a ha).1, ha⟩
    obtain ⟨z1, z2, z3, z4⟩ := row_sz rl1
    refine bX57_resolve_295 G (d + 6) h1 _ _ _ ⟨u1.1.trans hk, r, ((u1.2.2.2.2.2 364 (by decide)).2.2).trans eF0, z1, ?_⟩
    rw [z2, nI_leI (by omega) (by omega)]
    refine ⟨fun _ => ?_, fun z => absurd (Nat.le_refl _) z⟩
    have e3 : ∀ hs, rD3 (d0 + ds.length) [] hs s1 = ([], s1) := fun hs => by cases hs <;> rfl
    rw [e3] at eF eS
    rw [List.append_nil] at eF
    subst eF eS
    exact hQ h1 Z1 D1 nb1 Rd M CR DT B h365 hDl hTd
  | cons x l2 IH =>
    intro l1 Rd Td h1 s1 Z1 D1 nb1 el hRd hTd M H CR DT B h365 hDl eF eS
    have hxk : ds[l1.length]? = some x := by rw [el, List.getElem?_append_right (Nat.le_refl _), Nat.sub_self]; rfl
    have hll : l1.length < ds.length := (List.getElem?_eq_some_iff.mp hxk).1
    have htk' : ds.take l1.length = l1 := by rw [el, List.take_left']; rfl
    have u1 := (M.2.2.2.1.2 q hWq).1
    have e64 : fR h1 q 364 = some r := ((u1.2.2.2.2.2 364 (by decide)).2.2).trans eF0
    obtain ⟨b, eb, ob, cb, e49, hvx, -, dv, hv, -, ⟨rc, e52, rl, e0, -⟩, -, z1, z2, z3⟩ := st.at (G := G) M.2.2.2.1 hxk
    obtain ⟨y1, y2, y3, y4⟩ := row_sz rl
    obtain ⟨bT, cT1, cT2, cT3⟩ := B _ x hxk
    cases eb.symm.trans cT1
    have hdd : d0 + l1.length < (rDt s1).length := by omega
    have hk4 : hK h1 (Z1.2.2 (d0 + l1.length)) = 4 := (M.1.2.2.2.2.2.1.2.1 _ _ (List.getElem?_eq_getElem hdd)).1
    refine bX57_resolve_295 G (d + 6) h1 _ _ _ ⟨u1.1.trans hk, r, e64, z1, ?_⟩
    rw [z2, nI_leI (by omega) (by omega)]
    refine ⟨fun z => by omega, fun _ => ⟨r, e64, z1, C.rr (cb (d + 5)) ⟨dv.1, _, cT3, rc, e52, y1, hk4, fun h2 e2 => ?_⟩⟩⟩
    rw [y2] at e2
    obtain ⟨M2, kw12⟩ := M.w54 hdd e2
    obtain ⟨hs, eh, hhl⟩ := hFn.2 _ x hxk
    have eFd : F.drop l1.length = hs :: F.drop (l1.length + 1) := by
      rw [List.drop_eq_getElem_cons (List.getElem?_eq_some_iff.mp eh).1, (List.getElem?_eq_some_iff.mp eh).2]
    have el' : ds = (l1 ++ [x]) ++ l2 := by rw [el, List.append_assoc]; rfl
    have htk2 : ds.take (l1.length + 1) = l1 ++ [x] := by
      rw [List.take_add_one, htk', hxk]
      rfl
    have elen : (rDt (dSet (d0 + l1.length) (dCs x).length s1)).length = (rDt s1).length := List.length_modify ..
    refine dat_332 (v365 := v365) (Rd := Rd) (k := l1.length) (F := F) (hs := hs) (R := (rD3c (d0 + l1.length) 0 (dCs x) hs (dSet (d0 + l1.length) (dCs x).length s1)).1) (sF := (rD3c (d0 + l1.length) 0 (dCs x) hs (dSet (d0 + l1.length) (dCs x).length s1)).2) st ri hWq hk htk ht0 hm0 hTK hxk eb e0 hRd hc (by rw [List.getD_eq_getElem?_getD, eh]; rfl) hhl (fun h3 Z3 D3 nb3 M3 H3 C3 B3 i3 l3 => ?_) (dCs x) [] hs [] h2 (dSet (d0 + l1.length) (dCs x).length s1) Z1 D1 nb1 rfl rfl rfl ?_ (fun j i y hy => (H j i y hy).mv kw12 Ext.rf fun _ _ _ _ _ _ => Or.inr (Nat.zero_le _)) (fun j i y hy => ?_) (B.mv (M.1.1.2.2.2.1) st M.2.2.2.1 kw12 (fun _ _ => rfl) fun _ _ => Or.inr (Nat.zero_le _)) ?_ (by rw [elen]; exact hDl) rfl rfl
    · rw [htk2] at M3
      have := IH (l1 ++ [x]) (Rd ++ [(rD3c (d0 + l1.length) 0 (dCs x) hs (dSet (d0 + l1.length) (dCs x).length s1)).1]) (Td ++ [.mulL 55 (.add (.num (tkN x)) (.add (.num ((d0 + l1.length : Nat))) (.add (ls (dVs x)) (ls (rD3c (d0 + l1.length) 0 (dCs x) hs (dSet (d0 + l1.length) (dCs x).length s1)).1))))]) h3 _ Z3 D3 nb3 el' (by rw [List.length_append, List.length_append, hRd]; rfl) (by rw [List.length_append, List.length_append, hTd]; rfl) M3 H3 C3 (fun j y hy => ?_) B3 i3 l3 ?_ ?_
      · rw [List.length_append, List.length_singleton] at this
        exact this
      · by_cases hj : j < l1.length
        · rw [List.getElem?_append_left (by omega)] at hy
          obtain ⟨x', a1, a2, a3⟩ := DT j y hy
          have eg : (Rd ++ [(rD3c (d0 + l1.length) 0 (dCs x) hs (dSet (d0 + l1.length) (dCs x).length s1)).1]).getD j [] = Rd.getD j [] := by
            rw [List.getD_eq_getElem?_getD, List.getD_eq_getElem?_getD, List.getElem?_append_left (by omega)]
          exact ⟨x', a1, by rw [eg]; exact a2, by rw [eg]; exact a3⟩
        · have hj2 := (List.getElem?_eq_some_iff.mp hy).1
          rw [List.length_append, List.length_singleton] at hj2
          have ej : j = l1.length := by omega
          subst ej
          rw [List.getElem?_append_right (by omega), hTd, Nat.sub_self] at hy
          cases hy
          have eg : (Rd ++ [(rD3c (d0 + l1.length) 0 (dCs x) hs (dSet (d0 + l1.length) (dCs x).length s1)).1]).getD l1.length [] = (rD3c (d0 + l1.length) 0 (dCs x) hs (dSet (d0 + l1.length) (dCs x).length s1)).1 := by
            rw [List.getD_eq_getElem?_getD, List.getElem?_append_right (by omega), hRd, Nat.sub_self]
            rfl
          exact ⟨x, hxk, by rw [eg], by rw [eg]; exact rD3c_len _ _ _ _ hhl⟩
      · rw [eF, eFd, List.length_append, List.length_singleton, List.append_assoc]
        rfl
      · rw [eS, eFd, List.length_append, List.length_singleton]
        rfl
    · rw [htk']
      show TI G W ts O h Z D nb lo hi ds h2 Z1 D1 _ nb1 (TK ++ (TKc l1 ++ [])) (TKc ds) (c + 90 * (TKc l1 ++ []).length)
      rw [List.append_nil]
      exact M2
    · refine (CR j i y ?_).mv0 kw12
      rcases hz_at hRd hy with z | ⟨-, z⟩
      · rw [List.getD_eq_getElem?_getD, List.getElem?_append_left (by omega)] at hy
        rw [List.getD_eq_getElem?_getD]
        exact hy
      · cases z
    · have := (kw12.2 q hWq).2 (by omega)
      rw [(this.2.2.2.2.2 365).1]
      exact h365
end
