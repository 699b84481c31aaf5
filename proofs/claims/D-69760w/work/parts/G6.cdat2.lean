/-! DATATYPES: their names -/
def DQ (G : Gh) (d q b : Nat) (x2 : Int32) (Q : Outcome → AH → Prop) (h : AH) : Prop := (C G mX9_declare d [.ref (gW G 4), .int (fI h b 349), .int (fI h b 351)] h (KR Q (fun b5 h3 => ∀ h6, h6 = pR h3 b 353 (some b5) → (hK h6 q = 53 ∧ (((fI h6 q 365) = 0 → (C G mX9_isFull d [.ref (gW G 4)] h6 (KI Q (fun x18 h16 => (x18 = 0 → (∀ h20, h20 = pI h16 q 365 0 → (∃ b21, fR h20 b 353 = some b21 ∧ (C G mX9_addName d [.ref (gW G 4), .ref (b21)] h20 (KV Q (fun h23 => ∀ x25 : Int32, x25 = x2 + 1 → (X G mX57_resolve (d + 1) none [] 2 [(0, .ref (q)), (1, .ref (gW G 4)), (2, .int (x25))] [] h23 Q))))))) ∧ (¬ x18 = 0 → (∀ h27, h27 = pI h16 q 365 1 → (∃ b28, fR h27 b 353 = some b28 ∧ (C G mX9_addName d [.ref (gW G 4), .ref (b28)] h27 (KV Q (fun h30 => ∀ x32 : Int32, x32 = x2 + 1 → (X G mX57_resolve (d + 1) none [] 2 [(0, .ref (q)), (1, .ref (gW G 4)), (2, .int (x32))] [] h30 Q))))))))))) ∧ (¬ ((fI h6 q 365) = 0) → (∀ h9, h9 = pI h6 q 365 1 → (∃ b10, fR h9 b 353 = some b10 ∧ (C G mX9_addName d [.ref (gW G 4), .ref (b10)] h9 (KV Q (fun h12 => ∀ x14 : Int32, x14 = x2 + 1 → (X G mX57_resolve (d + 1) none [] 2 [(0, .ref (q)), (1, .ref (gW G 4)), (2, .int (x14))] [] h12 Q))))))))))))
def HQ (G : Gh) (d q b bc : Nat) (x2 x4 : Int32) (Q : Outcome → AH → Prop) (h : AH) : Prop := (OC (fR h bc 362) (∀ x21 : Int32, x21 = x4 + 1 → (X G mX57_resolve (d + 1) none [] 214 [(0, .ref (q)), (1, .ref (gW G 4)), (2, .int (x2)), (3, .ref (b)), (4, .int (x21))] [] h Q)) (fun b19 => OC (fR h bc 362) (False) (fun b22 => ∃ (k : Nat) (ν : Mu), VT ⟨"LetMill$Ty", "resolve", "(LLetMill$Scope;LLetMill$Data;)V"⟩ VMTy_resolve k ν ∧ hK h b22 = k + 1 ∧ C G ν d [.ref (b22), .ref (gW G 4), .ref (b)] h (KV Q (fun h24 => ∀ x26 : Int32, x26 = x4 + 1 → (X G mX57_resolve (d + 1) none [] 214 [(0, .ref (q)), (1, .ref (gW G 4)), (2, .int (x2)), (3, .ref (b)), (4, .int (x26))] [] h24 Q))))))
def KQ (G : Gh) (d q b bc : Nat) (x2 x4 : Int32) (Q : Outcome → AH → Prop) (h : AH) : Prop := (∃ b36, fR h bc 363 = some b36 ∧ (C G mX9_number d [.ref (gW G 4), .ref (b36)] h (KV Q (fun h38 => ∃ b40, fR h38 bc 363 = some b40 ∧ (C G mX9_addCon d [.ref (gW G 4), .ref (b40)] h38 (KV Q (fun h42 => ∀ x44 : Int32, x44 = x4 + 1 → (X G mX57_resolve (d + 1) none [] 332 [(0, .ref (q)), (1, .ref (gW G 4)), (2, .int (x2)), (3, .ref (b)), (4, .int (x44))] [] h42 Q))))))))
/-- the declaration's parts, as they were read -/
def DSt (W : Nat → Prop) (ts : List (Nat × Nat × Nat)) (h : AH) (n m0 hi r : Nat) (ds : List Tr) : Prop := RowL W h r ds.length ∧ (∀ (j : Nat) (x : Tr), ds[j]? = some x → ∃ b, rowAt h r j = some b ∧ OTG (X0 ts W h) W h x 0 0 b) ∧ (∀ f, f ∈ ds → shD (Vl ts) n f) ∧ wf (Kd ts) (ls ds) m0 hi ∧ hi ≤ ts.length ∧ ∀ a, W a → hK h a ≠ 0
/-- a range behind a constructor, with no name of a type or a constructor in it -/
def RGt (ds : List Tr) (hi tc u : Nat) : Prop := tc < u ∧ u ≤ hi ∧ ∀ t, (t ∈ TKd ds ∨ t ∈ TKc ds) → t ≤ tc ∨ u ≤ t
/-- in the midst of a declaration; TK: names that it told; DC: constructors whose types are known -/
def TI (G : Gh) (W : Nat → Prop) (ts : List (Nat × Nat × Nat)) (O : List (Nat × Nat) × List (Nat × Nat)) (h : AH) (Z : Zt) (D : Dm) (nb lo hi : Nat) (ds : List Tr) (h1 : AH) (Z1 : Zt) (D1 : Dm) (s1 : RSt) (nb1 : Nat) (TK DC : List Nat) (c : Nat) : Prop := RS G W h1 ts Z1 O s1 nb1 ∧ WB G W h1 ∧ VD s1 D1 ∧ KW W lo hi h h1 ∧ Ext Z Z1 D D1 ∧ (∀ t, D1.1 t → D.1 t ∨ t ∈ TK ∨ ∃ tc u, tc ∈ DC ∧ RGt ds hi tc u ∧ tc < t ∧ t < u) ∧ VN ts s1 ∧ nb1 ≤ 18200 ∧ pU h1 nb1 ≤ pU h nb + c ∧ Le h h1 none
/-- two variables of one name -/
def rDv (pl : Nat → Nat) (vs : List Tr) (s : RSt) (i : Nat) : RSt := rIf pl ((vs.take i).any fun v => nv1 v == nv1 (vs.getD i (.num 0))) 3 (tkN (vs.getD i (.num 0))) s
section
variable {G : Gh} {d : Nat} {W N : Nat → Prop} {h h1 h2 h3 h5 h' hA : AH} {ts : List (Nat × Nat × Nat)} {t i j n nb nb' nb1 nb2 r q g fr ba lo hi m m0 m1 m2 lo1 hi1 b k c arr t0 tc u : Nat} {v : Int} {Z Z' Z1 Z2 : Zt} {D D' D1 D2 : Dm} {O : List (Nat × Nat) × List (Nat × Nat)} {s s0 s' s1 s2 s5 : RSt} {x y e x' a' b' : Tr} {l l1 l2 ds : List Tr} {TK DC : List Nat} {f : Nat → Option Nat} {A : Zt → Dm → AH → Prop} {K V : Nat → Nat}

theorem TI.fnd (k : TI G W ts O h Z D nb lo hi ds h1 Z1 D1 s1 nb1 TK DC c) (w : S4 G [91, 92] h1 h2) (r2 : RS G W h2 ts Z1 O s2 nb1) (e : rV s2 = rV s1 ∧ rCt s2 = rCt s1 ∧ rDt s2 = rDt s1 ∧ rC s2 = rC s1 ∧ rT s2 = rT s1) : TI G W ts O h Z D nb lo hi ds h2 Z1 D1 s2 nb1 TK DC c := by
  obtain ⟨k1, k2, k3, k4, k5, k6, k7, k8, k9, k10⟩ := k
  refine ⟨r2, w.wb k2 (by decide), ⟨fun x hx => k3.1 x (by rw [← e.1]; exact hx), by rw [e.2.1]; exact k3.2.1, by rw [e.2.2.1]; exact k3.2.2.1, k3.2.2.2.mv (fun _ h => h) ⟨e.2.1, e.2.2.1⟩ ⟨Nat.le_of_eq (by rw [e.2.2.2.1]), Nat.le_of_eq (by rw [e.2.2.2.2])⟩⟩, k4.tr (w.kw k2), k5, k6, k7.of e.1, k8, by unfold pU at *; rw [w.1.un]; exact k9, k10.tr (w.le (by decide))⟩
theorem RGt.dj {t1 t2 u1 u2 : Nat} (a : RGt ds hi t1 u1) (b : RGt ds hi t2 u2) (h1 : t1 ∈ TKc ds) (h2 : t2 ∈ TKc ds) (hn : t1 ≠ t2) : u1 ≤ t2 ∨ u2 ≤ t1 := by
  have x1 := a.2.2 t2 (Or.inr h2)
  have x2 := b.2.2 t1 (Or.inr h1)
  omega
/-- a datatype of the declaration -/
theorem DSt.at (k : DSt W ts h n m0 hi r ds) (kw : KW W lo1 hi1 h h1) (hx : ds[j]? = some x) : ∃ b, rowAt h r j = some b ∧ OTG (X0 ts W h) W h x 0 0 b ∧ (∀ d, C G mX7_data (d + 1) [.ref r, .int (nI j)] h1 (Ret (.ref b) h1)) ∧ fI h1 b 349 = nI (tkN x) ∧ nv1 x = Vl ts (tkN x) ∧ ((m0 ≤ tkN x ∧ tkN x < hi) ∧ tkN x < ts.length ∧ Kd ts (tkN x) = 280) ∧ DV W h1 ts ((dVs x).map tkN) b ∧ (∀ y, y ∈ dVs x → nv1 y = Vl ts (tkN y)) ∧ (∀ y, y ∈ dCs x → shC (Vl ts) n y) ∧ (∃ rc, fR h1 b 352 = some rc ∧ RowL W h1 rc (dCs x).length ∧ fR h b 352 = some rc ∧ (∀ i, rowAt h1 rc i = rowAt h rc i) ∧ TG (X0 ts W h) W h (rowAt h rc) (dCs x)) ∧ EXs W h 55 b (.add (.num (tkN x)) (.add (.num (nv1 x)) (.add (ls (dVs x)) (ls (dCs x))))) ∧ (hK h1 r = 6 ∧ fI h1 r 78 = nI ds.length ∧ ds.length < 200000) := by
  obtain ⟨rl, tg, hs, hw, hl, hW⟩ := k
  obtain ⟨b, eb, ob⟩ := tg j x hx
  have hm := List.mem_of_getElem? hx
  have hj := (List.getElem?_eq_some_iff.mp hx).1
  have wx := wf_mem ds _ _ hw x hm
  obtain ⟨dv, e49, en, ⟨w1, w2⟩, hv, ex, hc, rc, e0, rlc, tgc⟩ := data_info (hs x hm) wx hl ob
  have mv : ∀ a, W a → hK h a ≠ 0 → Us h h1 a ∧ W a := fun a ha _ => ⟨(kw.2 a ha).1, ha⟩
  obtain ⟨rl1, ra1, -⟩ := rl.mvs mv
  obtain ⟨rl2, ra2, -⟩ := rlc.mvs mv
  obtain ⟨z1, z2, z3, z4⟩ := row_sz rl1
  obtain ⟨l0, n0, rc0, -, rb⟩ := row_get (i := j) rl1 (by rw [ra1]; exact eb) hj
  have ub := (kw.2 b dv.2.1).1
  refine ⟨b, eb, ob, fun d => c_rdata rc0 rb (ub.1.trans dv.1), ((ub.2.2.2.2.2 349 (by decide)).1).trans e49, en, ⟨w1, by omega, w2⟩, dv.mv kw, hv, hc, ⟨rc, ((ub.2.2.2.2.2 352 (by decide)).2.2).trans e0, rl2, e0, ra2, tgc⟩, ex, z1, z2, z3⟩
/-- a name that stood before -/
theorem dat_25 (st : DSt W ts h n m0 hi r ds) (hWq : W q) (hk : hK h q = 53) (eF0 : fR h q 364 = some r) (M : TI G W ts O h Z D nb lo hi ds h1 Z1 D1 s1 nb1 TK DC c) (hxk : ds[k]? = some x) (hWb : W b) (hkb : hK h1 b = 47) (e49 : fI h1 b 349 = nI (tkN x)) {Q : Outcome → AH → Prop}
    (hQ : ∀ h2, S4 G [91, 92] h1 h2 → RS G W h2 ts Z1 O (rIf (Pl ts) (((ds.take k).map nv1).any (· == nv1 x)) 3 (tkN x) s1) nb1 → X G mX57_resolve (d + 7) none [] 72 [(0, .ref q), (1, .ref (gW G 4)), (2, .int (nI k)), (3, .ref b), (4, .int (0))] [] h2 Q) :
    ∀ f i h2, k - i < f → i ≤ k → S4 G [91, 92] h1 h2 → RS G W h2 ts Z1 O (rIf (Pl ts) ((((ds.take k).map nv1).take i).any (· == nv1 x)) 3 (tkN x) s1) nb1 →
    X G mX57_resolve (d + 7) none [] 25 [(0, .ref q), (1, .ref (gW G 4)), (2, .int (nI k)), (3, .ref b), (4, .int (nI i))] [] h2 Q := by
  have hkl := (List.getElem?_eq_some_iff.mp hxk).1
  have hkn : ((ds.take k).map nv1).length = k := by rw [List.length_map, List.length_take]; omega
  intro f
  induction f with
  | zero => intro i h2 hf; omega
  | succ f IH =>
    intro i h2 hf hik w r2
    obtain ⟨c1, -⟩ := id r2
    have kw2 := M.2.2.2.1.tr (w.kw M.2.1)
    have ub := (w.1.uf (a := b) fun e => M.2.1.2.1 (by rw [← e]; exact hWb))
    obtain ⟨b', -, -, -, -, hvx, ⟨-, t1, t2⟩, -, -, -, -, -, z1, z2, z3⟩ := st.at (G := G) kw2 hxk
    refine bX57_resolve_25 G (d + 6) h2 _ _ _ _ _ (c1.1.at (by decide)) ?_
    rw [nI_leI (by omega) (by omega)]
    refine ⟨fun z => ?_, fun z => ?_⟩
    · have ei : i = k := by omega
      subst ei
      rw [List.take_of_length_le (by omega)] at r2
      exact hQ h2 w r2
    · have hil : i < k := by omega
      obtain ⟨y, hy⟩ : ∃ y, ds[i]? = some y := ⟨_, List.getElem?_eq_getElem (by omega)⟩
      obtain ⟨bi, -, -, ci, ei49, hvy, ⟨-, t3, t4⟩, dvi, -⟩ := st.at (G := G) kw2 hy
      have uq := (kw2.2 q hWq).1
      refine ⟨ub.1.trans hkb, uq.1.trans hk, r, ((uq.2.2.2.2.2 364 (by decide)).2.2).trans eF0, z1, C.rr (ci (d + 5)) ⟨dvi.1, ?_⟩⟩
      rw [(ub.2.2.2.2.2 349).1, e49, ei49]
      refine C.ri (c_twice (d := d + 5) c1 t1 (Or.inl t2) t3 (Or.inl t4)) ?_
      have ho : ((ds.take k).map nv1)[i]? = some (nv1 y) := by rw [List.getElem?_map, List.getElem?_take_of_lt hil, hy]; rfl
      have es : (((ds.take k).map nv1).take (i + 1)).any (· == nv1 x) = ((((ds.take k).map nv1).take i).any (· == nv1 x) || (nv1 y == nv1 x)) := by
        rw [List.take_add_one, ho, List.any_append]
        simp
      rw [b2_0]
      refine ⟨fun z1 => ?_, fun z1 => ?_⟩
      · rintro _ rfl
        rw [nI_1]
        refine IH (i + 1) h2 (by omega) (by omega) w ?_
        rw [es, hvx, hvy, z1, Bool.or_false, ← hvx]
        exact r2
      · rw [(ub.2.2.2.2.2 349).1, e49]
        refine C.mono (r_found (n := 3) r2 t1 (by decide)) ?_
        rintro _ h3 ⟨rfl, w3, r3⟩
        refine KV.i ?_
        rintro _ rfl
        rw [nI_1]
        refine IH (i + 1) h3 (by omega) (by omega) (w.tr w3) ?_
        rw [es, hvy, hvx, bt z1, Bool.or_true]
        rw [rNote_rIf] at r3
        exact r3
/-- variables of one name -/
theorem dat_84 (M : TI G W ts O h Z D nb lo hi ds h1 Z1 D1 s0 nb1 TK DC c) (dv : DV W h1 ts (l.map tkN) b) (hv : ∀ y, y ∈ l → nv1 y = Vl ts (tkN y)) (hxi : l[i]? = some x) {x2 : Int32} {Q : Outcome → AH → Prop}
    (hQ : ∀ h2, S4 G [91, 92] h1 h2 → RS G W h2 ts Z1 O (rDv (Pl ts) l s1 i) nb1 → X G mX57_resolve (d + 7) none [] 72 [(0, .ref q), (1, .ref (gW G 4)), (2, .int x2), (3, .ref b), (4, .int (nI (i + 1)))] [] h2 Q) :
    ∀ f j h2, i - j < f → j ≤ i → S4 G [91, 92] h1 h2 → RS G W h2 ts Z1 O (rIf (Pl ts) (((l.take i).take j).any fun v => nv1 v == nv1 x) 3 (tkN x) s1) nb1 →
    X G mX57_resolve (d + 7) none [] 84 [(0, .ref q), (1, .ref (gW G 4)), (2, .int x2), (3, .ref b), (4, .int (nI i)), (5, .int (nI j))] [] h2 Q := by
  obtain ⟨hkb, hWb, hl6, e51, arr, a1, a2, a3, a4, a5⟩ := dv
  rw [List.length_map] at hl6
  have hil := (List.getElem?_eq_some_iff.mp hxi).1
  obtain ⟨ai, ti, ki⟩ := a5 i (tkN x) (by rw [List.getElem?_map, hxi]; rfl)
  have hgd : l.getD i (.num 0) = x := by rw [List.getD_eq_getElem?_getD, hxi]; rfl
  intro f
  induction f with
  | zero => intro j h2 hf; omega
  | succ f IH =>
    intro j h2 hf hji w r2
    obtain ⟨c1, -⟩ := id r2
    have nW : ∀ a, W a → a ≠ gW G 4 := fun a ha e => M.2.1.2.1 (by rw [← e]; exact ha)
    have ub := w.1.uf (nW b hWb)
    have ua := w.1.uf (nW arr a4)
    refine bX57_resolve_84 G (d + 6) h2 _ _ _ _ _ _ (c1.1.at (by decide)) ?_
    rw [nI_leI (by omega) (by omega)]
    refine ⟨fun z => ?_, fun z => ?_⟩
    · rintro _ rfl
      rw [nI_1]
      have ej : j = i := by omega
      subst ej
      refine hQ h2 w ?_
      unfold rDv
      rw [hgd]
      rw [List.take_take, Nat.min_self] at r2
      exact r2
    · have hjl : j < i := by omega
      obtain ⟨y, hy⟩ : ∃ y, l[j]? = some y := ⟨_, List.getElem?_eq_getElem (by omega)⟩
      obtain ⟨aj, tj, kj⟩ := a5 j (tkN y) (by rw [List.getElem?_map, hy]; rfl)
      have e350 := ((ub.2.2.2.2.2 350).2.2).trans a1
      have vi : vp_in (nI i) (hL h2 arr) := by rw [ua.2.1, a3]; exact vp_in_nI (by omega) (by decide)
      have vj : vp_in (nI j) (hL h2 arr) := by rw [ua.2.1, a3]; exact vp_in_nI (by omega) (by decide)
      refine ⟨ub.1.trans hkb, arr, e350, ua.1.trans a2, vi, arr, e350, ua.1.trans a2, vj, ?_⟩
      rw [nI_cn (by omega), nI_cn (by omega), ua.2.2.1, ai, aj]
      refine C.ri (c_twice (d := d + 5) c1 ti (Or.inr (Or.inr ki)) tj (Or.inr (Or.inr kj))) ?_
      have hvx := hv x (List.mem_of_getElem? hxi)
      have hvy := hv y (List.mem_of_getElem? hy)
      have ho : (l.take i)[j]? = some y := by rw [List.getElem?_take_of_lt hjl, hy]
      have es : ((l.take i).take (j + 1)).any (fun v => nv1 v == nv1 x) = (((l.take i).take j).any (fun v => nv1 v == nv1 x) || (nv1 y == nv1 x)) := by
        rw [List.take_add_one, ho, List.any_append]
        simp
      rw [b2_0]
      refine ⟨fun z1 => ?_, fun z1 => ?_⟩
      · rintro _ rfl
        rw [nI_1]
        refine IH (j + 1) h2 (by omega) (by omega) w ?_
        rw [es, hvx, hvy, z1, Bool.or_false, ← hvx]
        exact r2
      · refine ⟨arr, e350, ua.1.trans a2, vi, ?_⟩
        rw [ua.2.2.1, ai]
        refine C.mono (r_found (n := 3) r2 ti (by decide)) ?_
        rintro _ h3 ⟨rfl, w3, r3⟩
        refine KV.i ?_
        rintro _ rfl
        rw [nI_1]
        refine IH (j + 1) h3 (by omega) (by omega) (w.tr w3) ?_
        rw [es, hvy, hvx, bt z1, Bool.or_true]
        rw [rNote_rIf] at r3
        exact r3
theorem dat_72 (M : TI G W ts O h Z D nb lo hi ds h1 Z1 D1 s0 nb1 TK DC c) (dv : DV W h1 ts (l.map tkN) b) (hv : ∀ y, y ∈ l → nv1 y = Vl ts (tkN y)) {x2 : Int32} {Q : Outcome → AH → Prop}
    (hQ : ∀ h2, S4 G [91, 92] h1 h2 → RS G W h2 ts Z1 O ((List.range l.length).foldl (rDv (Pl ts) l) s1) nb1 → DQ G (d + 6) q b x2 Q h2) :
    ∀ f i h2, l.length - i < f → i ≤ l.length → S4 G [91, 92] h1 h2 → RS G W h2 ts Z1 O ((List.range i).foldl (rDv (Pl ts) l) s1) nb1 →
    X G mX57_resolve (d + 7) none [] 72 [(0, .ref q), (1, .ref (gW G 4)), (2, .int x2), (3, .ref b), (4, .int (nI i))] [] h2 Q := by
  intro f
  induction f with
  | zero => intro i h2 hf; omega
  | succ f IH =>
    intro i h2 hf hil w r2
    have dv' := dv
    obtain ⟨hkb, hWb, hl6, e51, -⟩ := dv
    rw [List.length_map] at hl6 e51
    obtain ⟨c1, -⟩ := id r2
    have ub := w.1.uf (a := b) fun e => M.2.1.2.1 (by rw [← e]; exact hWb)
    refine bX57_resolve_72 G (d + 6) h2 _ _ _ _ _ (c1.1.at (by decide)) ⟨ub.1.trans hkb, ?_⟩
    rw [(ub.2.2.2.2.2 351).1, e51, nI_leI (by omega) (by omega)]
    refine ⟨fun z => ?_, fun z => ?_⟩
    · have ei : i = l.length := by omega
      subst ei
      have := hQ h2 w r2
      unfold DQ at this
      rw [(ub.2.2.2.2.2 351).1, e51] at this
      exact this
    · obtain ⟨y, hy⟩ : ∃ y, l[i]? = some y := ⟨_, List.getElem?_eq_getElem (by omega)⟩
      refine dat_84 (s1 := (List.range i).foldl (rDv (Pl ts) l) s1) M dv' hv hy (fun h3 w3 r3 => IH (i + 1) h3 (by omega) (by omega) w3 ?_) (i + 1) 0 h2 (by omega) (by omega) w ?_
      · rw [List.range_succ, List.foldl_append]
        exact r3
      · exact r2
end
