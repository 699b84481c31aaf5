/-! THE COMPONENT'S RESOLVER: types -/
theorem bt_nm {a b : Int64} : ∀ (j : Nat) (x : Nat × Nat), BT[j]? = some x → NmC a b x.1 → b = 0 ∧ x.2 = j ∧ j < 5 := by
  have key : ∀ l : List Nat, (∀ x ∈ l, 1 ≤ x ∧ x < 128) → l.length ≤ 8 → NmC a b (cd l) → b = 0 := by
    intro l h1 h2 k
    have k' : NmC (lN (cd (l.take 8))) (lN (cd (l.drop 8))) (cd l) := ⟨l, h1, by omega, rfl, rfl, rfl⟩
    have := ((NmC_eq k k').mpr rfl).2
    rw [this, List.drop_eq_nil_of_le h2]
    rfl
  intro j x hx k
  match j, hx with
  | 0, hx => cases hx; exact ⟨key _ (by decide) (by decide) k, rfl, by decide⟩
  | 1, hx => cases hx; exact ⟨key _ (by decide) (by decide) k, rfl, by decide⟩
  | 2, hx => cases hx; exact ⟨key _ (by decide) (by decide) k, rfl, by decide⟩
  | 3, hx => cases hx; exact ⟨key _ (by decide) (by decide) k, rfl, by decide⟩
  | 4, hx => cases hx; exact ⟨key _ (by decide) (by decide) k, rfl, by decide⟩
  | j + 5, hx => cases hx
/-- a datatype's variables -/
def DV (W : Nat → Prop) (h : AH) (ts : List (Nat × Nat × Nat)) (us : List Nat) (p2 : Nat) : Prop := hK h p2 = 47 ∧ W p2 ∧ us.length ≤ 6 ∧ fI h p2 351 = nI us.length ∧ ∃ arr, fR h p2 350 = some arr ∧ hK h arr = 1000 ∧ hL h arr = 6 ∧ W arr ∧ ∀ i t, us[i]? = some t → aI h arr i = nI t ∧ t < ts.length ∧ Kd ts t = 282
/-- types of n levels are resolved -/
def TyR (G : Gh) (W : Nat → Prop) (ts : List (Nat × Nat × Nat)) (O : List (Nat × Nat) × List (Nat × Nat)) (n d : Nat) : Prop := ∀ (x : Tr) (lo hi q p2 : Nat) (h : AH) (s : RSt) (Z : Zt) (D : Dm) (nb : Nat) (us : List Nat), shT n x → wf (Kd ts) x lo hi → OTG (X0 ts W h) W h x 0 0 q → rI G W ts O h Z D s nb lo hi → DV W h ts us p2 →
  ∃ k ν, VT ⟨"LetMill$Ty", "resolve", "(LLetMill$Scope;LLetMill$Data;)V"⟩ VMTy_resolve k ν ∧ hK h q = k + 1 ∧ C G ν (d + 4) [.ref q, .ref (gW G 4), .ref p2] h (rP G W ts O h Z D nb lo hi (rA ts W O lo hi (rTy (Pl ts) n (us.map (Vl ts)) x s).1 q) (rTy (Pl ts) n (us.map (Vl ts)) x s).2)
section
variable {G : Gh} {d : Nat} {W N : Nat → Prop} {h h1 h2 h3 h5 h' : AH} {ts : List (Nat × Nat × Nat)} {t i n nb nb' nb1 nb2 r q g fr ba lo hi m m0 m1 m2 lo1 hi1 b k c arr : Nat} {v : Int} {Z Z' Z1 Z2 : Zt} {D D' D1 D2 : Dm} {O : List (Nat × Nat) × List (Nat × Nat)} {s s0 s' s1 s2 s5 : RSt} {x y e x' a' b' : Tr} {l l1 l2 : List Tr} {f : Nat → Option Nat} {A : Zt → Dm → AH → Prop} {K : Nat → Nat} {us : List Nat} {p2 : Nat} {Tn : Nat → Nat} {T : List (Nat × Nat)} {Dt : Dtb} {N1 : Option (Nat × Nat)}
theorem DV.mv (k : DV W h ts us p2) (kw : KW W lo hi h h') : DV W h' ts us p2 := by
  obtain ⟨k1, k2, k3, k4, arr, k5, k6, k7, k8, k9⟩ := k
  have u := (kw.2 p2 k2).1
  have ua := (kw.2 arr k8).1
  exact ⟨u.1.trans k1, k2, k3, ((u.2.2.2.2.2 351 (by decide)).1).trans k4, arr, ((u.2.2.2.2.2 350 (by decide)).2.2).trans k5, ua.1.trans k6, ua.2.1.trans k7, k8, fun i t hi => ⟨by rw [ua.2.2.1]; exact (k9 i t hi).1, (k9 i t hi).2⟩⟩
theorem tn_71 (c : TkC G h ts) (hN : NF G h N1) (tn : TNs G h Tn T Dt) (ht : t < ts.length) (hk : Kd ts t = 280) : ∀ f j, 5 - j < f → j ≤ 5 →
    X G mX9_typeName (d + 1) none [] 71 [(0, .ref (gW G 4)), (1, .int (nI t)), (2, .int (nI (7 + j)))] [] h (nmP G h ts N1 t ((lk (BT.drop j) (Vl ts t)).map Tn)) := by
  obtain ⟨-, t4, t5, t6, t7⟩ := tn
  intro f
  induction f with
  | zero => intro j hf; omega
  | succ f IH =>
    intro j hf hj
    refine bX9_typeName_71 G d h _ _ _ (c.1.at (by decide)) (c.1.at (by decide)) ?_
    rw [show (11 : Int32) = nI 11 from rfl, show (nI 11 < nI (7 + j)) ↔ ¬ (7 + j ≤ 11) by rw [← nI_leI (by omega) (by omega), Int32.not_le]]
    refine ⟨fun z => ?_, fun z => ?_⟩
    · have : j = 5 := by omega
      subst this
      exact nm_none c hN ht rfl
    · have hj5 : j < 5 := by omega
      have hb : j < BT.length := hj5
      obtain ⟨nn, e1⟩ := t7.1 j _ (List.getElem?_eq_getElem hb)
      have to := t4 j _ e1
      have nm := to.2.1
      obtain ⟨z1, z2, -⟩ := bt_nm j _ (List.getElem?_eq_getElem hb) nm
      rw [z1] at nm
      have e40 := t5 j (List.getElem?_eq_some_iff.mp e1).1 (by omega)
      have cn : C G mX3_name d [.ref (gW G 2), .int (nI (7 + j))] h (Ret (.ref (Tn j)) h) := bX3_name G d h _ _ (c.1.at (by decide)) ⟨vp_in_nI (by omega) (by decide), Tn j, by rw [nI_cn (by omega), Nat.add_comm]; exact e40, rfl, rfl⟩
      rw [List.drop_eq_getElem_cons hb, lk_cons]
      refine C.rr cn ⟨to.1, C.ri (c_is c ht (Or.inl hk) nm) ?_⟩
      rw [b2_0]
      refine ⟨fun z1 => ?_, fun z1 => C.rr cn ?_⟩
      · rintro _ rfl
        rw [if_neg (by rw [z1]; decide), nI_1]
        exact IH (j + 1) (by omega) (by omega)
      · rw [if_pos (bt z1), Option.map_some, z2]
        exact ⟨rfl, rfl⟩
theorem tn_10 {U : List (Nat × Nat)} (c : TkC G h ts) (hN : NF G h N1) (tn : TNs G h Tn T Dt) (row : RowC h (gW G 1085) ((U.map fun x => Tn x.2).reverse) n) (hU : ∀ x, x ∈ U → ∃ y, Dt[x.2]? = some y ∧ y.1 = x.1) (ht : t < ts.length) (hk : Kd ts t = 280) : ∀ k, k ≤ U.length →
    X G mX9_typeName (d + 1) none [] 10 [(0, .ref (gW G 4)), (1, .int (nI t)), (2, .int (nI k - 1))] [] h (nmP G h ts N1 t ((lk (U.drop (U.length - k) ++ BT) (Vl ts t)).map Tn)) := by
  have hlen := row.2.2.1
  have hn := row.2.2.2.2.1
  rw [List.length_reverse, List.length_map] at hlen
  intro k
  induction k with
  | zero =>
    intro _
    refine bX9_typeName_10 G d h _ _ _ (c.1.at (by decide)) ⟨fun _ => ?_, fun z => absurd (by decide) z⟩
    rw [List.drop_eq_nil_of_le (by omega)]
    exact tn_71 c hN tn ht hk 6 0 (by decide) (by decide)
  | succ k IH =>
    intro hk2
    have hj2 : U.length - (k + 1) < U.length := by omega
    rw [nI_sub1 (by omega)]
    refine bX9_typeName_10 G d h _ _ _ (c.1.at (by decide)) ⟨fun z => ?_, fun _ => ?_⟩
    · rw [Int32.lt_iff_toInt_lt, nI_toInt (by omega)] at z
      change (_ : Int) < 0 at z
      omega
    have hg : ((U.map fun x => Tn x.2).reverse)[k]? = some (Tn U[U.length - (k + 1)].2) := rev_map hj2 (by omega)
    obtain ⟨y, y1, y2⟩ := hU U[U.length - (k + 1)] (List.getElem_mem hj2)
    have ob := tn.2.1 _ y y1
    have nm := ob.2.1
    rw [y2] at nm
    rw [List.drop_eq_getElem_cons hj2, List.cons_append, lk_cons, show U.length - (k + 1) + 1 = U.length - k by omega]
    refine C.rr (c_get row hg) ⟨ob.1, C.rr (c_get row hg) ⟨ob.1, C.ri (c_is c ht (Or.inl hk) nm) ?_⟩⟩
    rw [b2_0]
    refine ⟨fun z1 => ?_, fun z1 => C.rr (c_get row hg) ⟨ob.1, ?_⟩⟩
    · rintro _ rfl
      rw [if_neg (by rw [z1]; decide), show nI k + -1 = nI k - 1 from (Int32.sub_eq_add_neg _ _).symm]
      exact IH (by omega)
    · rw [if_pos (bt z1), Option.map_some]
      exact ⟨rfl, rfl⟩
/-- which type it is -/
theorem c_tname (c : TkC G h ts) (hN : NF G h N1) (tn : TNs G h Tn T Dt) (ht : t < ts.length) (hk : Kd ts t = 280) : C G mX9_typeName (d + 1) [.ref (gW G 4), .int (nI t)] h (nmP G h ts N1 t ((lk T (Vl ts t)).map Tn)) := by
  refine bX9_typeName G d h _ _ (c.1.at (by decide)) ?_
  rintro _ rfl
  obtain ⟨⟨U, e1, ⟨n, row⟩, hU⟩, -⟩ := id tn
  rw [row.2.1, List.length_reverse, List.length_map]
  have := tn_10 (d := d) c hN tn row hU ht hk U.length (Nat.le_refl _)
  rw [Nat.sub_self, List.drop_zero, ← e1] at this
  exact this
theorem c_rty2 {l : List Nat} (k : RowC h r l n) (hb : l[i]? = some b) (hk : hK h b = 48 ∨ hK h b = 49 ∨ hK h b = 50 ∨ hK h b = 51) : C G mX7_ty (d + 1) [.ref r, .int (nI i)] h (Ret (.ref b) h) := by
  refine bX7_ty G d h _ _ _ ⟨k.1, C.mono (c_get k hb) ?_⟩
  rintro _ _ ⟨rfl, rfl⟩
  refine KR.i ⟨?_, rfl, rfl⟩
  rcases hk with e | e | e | e
  · exact CT_ty (k := 47) e (by decide)
  · exact CT_ty (k := 48) e (by decide)
  · exact CT_ty (k := 49) e (by decide)
  · exact CT_ty (k := 50) e (by decide)
theorem ty_kind (hs : shT n x) (ot : OTG (X0 ts W h) W h x 0 0 q) : hK h q = 48 ∨ hK h q = 49 ∨ hK h q = 50 ∨ hK h q = 51 := by
  cases n with
  | zero => exact hs.elim
  | succ n =>
    unfold shT at hs
    rcases hs with ⟨t, v, rfl⟩ | ⟨t, v, l, rfl, -⟩ | ⟨t, a, b, rfl, -⟩ | ⟨t, l, rfl, -⟩
    · exact Or.inr (Or.inl (by simpa [kc] using ((OTG_nd (k := 57) (by decide)).mp ot).2.1))
    · exact Or.inl (by simpa [kc] using ((OTG_nd (k := 58) (y := .add _ _) (by decide)).mp ot).2.1)
    · exact Or.inr (Or.inr (Or.inr (by simpa [kc] using ((OTG_nd (k := 59) (y := .add _ _) (by decide)).mp ot).2.1)))
    · exact Or.inr (Or.inr (Or.inl (by simpa [kc] using ((OTG_nd (k := 60) (by decide)).mp ot).2.1)))
theorem ty_row52 {N0 : Nat} (hC : TyR G W ts O n d) (ri : rI G W ts O h Z D s nb lo hi) (dv : DV W h ts us p2) (hWq : W q) (hk : hK h q = 48) (eF0 : fR h q 355 = some r) (rl : RowL W h r N0) {Q : Outcome → AH → Prop} {F : List Tr} {sF : RSt}
    (hQ : ∀ m h1 Z1 D1 nb1, rM G W ts O h Z D nb lo hi h1 Z1 D1 sF nb1 m → LZ ts W O (rowAt h r) F [] m0 m hi Z1 D1 h1 → Q (.returned none) h1) :
    ∀ l2 l1 m h1 s1 Z1 D1 nb1, rM G W ts O h Z D nb lo hi h1 Z1 D1 s1 nb1 m → LZ ts W O (rowAt h r) l1 l2 m0 m hi Z1 D1 h1 → (∀ y, y ∈ l2 → shT n y) → N0 = l1.length + l2.length → F = l1 ++ (rLs (rTy (Pl ts) n (us.map (Vl ts))) l2 s1).1 → sF = (rLs (rTy (Pl ts) n (us.map (Vl ts))) l2 s1).2 →
    X G mX52_resolve (d + 5) none [] 47 [(0, .ref q), (1, .ref (gW G 4)), (2, .ref p2), (3, .int (nI l1.length))] [] h1 Q := by
  intro l2
  induction l2 with
  | nil =>
    intro l1 m h1 s1 Z1 D1 nb1 M L hs hlen eF eS
    have u1 := (M.2.2.2.1.2 q hWq).1
    obtain ⟨rl1, ra1, -⟩ := rl.mvs (N' := W) (h' := h1) fun a ha _ => ⟨(M.2.2.2.1.2 a ha).1, ha⟩
    obtain ⟨z1, z2, z3, z4⟩ := row_sz rl1
    refine bX52_resolve_47 G (d + 4) h1 _ _ _ _ ⟨u1.1.trans hk, r, ((u1.2.2.2.2.2 355 (by decide)).2.2).trans eF0, z1, ?_⟩
    rw [z2, nI_leI (by omega) (by simp at hlen; omega)]
    refine ⟨fun _ => ?_, fun z => absurd (by simp at hlen; omega) z⟩
    change F = l1 ++ [] at eF
    change sF = s1 at eS
    rw [List.append_nil] at eF
    subst eF eS
    exact hQ m h1 Z1 D1 nb1 M L
  | cons x2 l2 IH =>
    intro l1 m h1 s1 Z1 D1 nb1 M L hs hlen eF eS
    have u1 := (M.2.2.2.1.2 q hWq).1
    obtain ⟨rl1, ra1, -⟩ := rl.mvs (N' := W) (h' := h1) fun a ha _ => ⟨(M.2.2.2.1.2 a ha).1, ha⟩
    obtain ⟨z1, z2, z3, z4⟩ := row_sz rl1
    simp only [List.length_cons] at hlen
    obtain ⟨m2, b, hm, hm2, hw2, fb, ob, nxt⟩ := L.nxt
    obtain ⟨rl0, rn, rc, -, rb⟩ := row_get (i := l1.length) rl1 (by rw [ra1]; exact fb) (by omega)
    have hs2 := hs x2 (List.mem_cons_self ..)
    refine bX52_resolve_47 G (d + 4) h1 _ _ _ _ ⟨u1.1.trans hk, r, ((u1.2.2.2.2.2 355 (by decide)).2.2).trans eF0, z1, ?_⟩
    rw [z2, nI_leI (by omega) (by omega)]
    refine ⟨fun z => by omega, fun _ => ⟨r, ((u1.2.2.2.2.2 355 (by decide)).2.2).trans eF0, z1, C.rr (c_rty2 (d := d + 3) rc rb (ty_kind hs2 ob)) ?_⟩⟩
    obtain ⟨kc1, ν1, v1, v2, v3⟩ := hC x2 m m2 b p2 h1 s1 Z1 D1 nb1 us hs2 hw2 ob (M.ri ri hm hm2) (dv.mv M.2.2.2.1)
    refine ⟨kc1, ν1, v1, v2, C.mono v3 ?_⟩
    rintro _ h2 ⟨rfl, Z2, D2, nb2, a1, a2, a3, ⟨a4, a4'⟩, a5, a6, a7, a8, a9, a10, a11⟩
    have M2 := M.stp hm hm2 a1 a2 a3 a5 a6 a7 a8 a9 a10 a11
    have L2 := nxt h2 Z2 D2 _ M.2.1.1 a5 a6 a4 a4'
    refine KV.i ?_
    rintro _ rfl
    rw [nI_1]
    have := IH (l1 ++ [(rTy (Pl ts) n (us.map (Vl ts)) x2 s1).1]) m2 h2 (rTy (Pl ts) n (us.map (Vl ts)) x2 s1).2 Z2 D2 nb2 M2 L2 (fun y hy => hs y (List.mem_cons_of_mem _ hy)) (by rw [List.length_append, List.length_singleton]; omega) (by rw [eF, List.append_assoc, List.singleton_append]; rfl) eS
    rw [List.length_append, List.length_singleton] at this
    exact this
theorem ty_row54 {N0 : Nat} (hC : TyR G W ts O n d) (ri : rI G W ts O h Z D s nb lo hi) (dv : DV W h ts us p2) (hWq : W q) (hk : hK h q = 50) (eF0 : fR h q 358 = some r) (rl : RowL W h r N0) {Q : Outcome → AH → Prop} {F : List Tr} {sF : RSt}
    (hQ : ∀ m h1 Z1 D1 nb1, rM G W ts O h Z D nb lo hi h1 Z1 D1 sF nb1 m → LZ ts W O (rowAt h r) F [] m0 m hi Z1 D1 h1 → Q (.returned none) h1) :
    ∀ l2 l1 m h1 s1 Z1 D1 nb1, rM G W ts O h Z D nb lo hi h1 Z1 D1 s1 nb1 m → LZ ts W O (rowAt h r) l1 l2 m0 m hi Z1 D1 h1 → (∀ y, y ∈ l2 → shT n y) → N0 = l1.length + l2.length → F = l1 ++ (rLs (rTy (Pl ts) n (us.map (Vl ts))) l2 s1).1 → sF = (rLs (rTy (Pl ts) n (us.map (Vl ts))) l2 s1).2 →
    X G mX54_resolve (d + 5) none [] 2 [(0, .ref q), (1, .ref (gW G 4)), (2, .ref p2), (3, .int (nI l1.length))] [] h1 Q := by
  intro l2
  induction l2 with
  | nil =>
    intro l1 m h1 s1 Z1 D1 nb1 M L hs hlen eF eS
    have u1 := (M.2.2.2.1.2 q hWq).1
    obtain ⟨rl1, ra1, -⟩ := rl.mvs (N' := W) (h' := h1) fun a ha _ => ⟨(M.2.2.2.1.2 a ha).1, ha⟩
    obtain ⟨z1, z2, z3, z4⟩ := row_sz rl1
    refine bX54_resolve_2 G (d + 4) h1 _ _ _ _ ⟨u1.1.trans hk, r, ((u1.2.2.2.2.2 358 (by decide)).2.2).trans eF0, z1, ?_⟩
    rw [z2, nI_leI (by omega) (by simp at hlen; omega)]
    refine ⟨fun _ => ?_, fun z => absurd (by simp at hlen; omega) z⟩
    change F = l1 ++ [] at eF
    change sF = s1 at eS
    rw [List.append_nil] at eF
    subst eF eS
    exact hQ m h1 Z1 D1 nb1 M L
  | cons x2 l2 IH =>
    intro l1 m h1 s1 Z1 D1 nb1 M L hs hlen eF eS
    have u1 := (M.2.2.2.1.2 q hWq).1
    obtain ⟨rl1, ra1, -⟩ := rl.mvs (N' := W) (h' := h1) fun a ha _ => ⟨(M.2.2.2.1.2 a ha).1, ha⟩
    obtain ⟨z1, z2, z3, z4⟩ := row_sz rl1
    simp only [List.length_cons] at hlen
    obtain ⟨m2, b, hm, hm2, hw2, fb, ob, nxt⟩ := L.nxt
    obtain ⟨rl0, rn, rc, -, rb⟩ := row_get (i := l1.length) rl1 (by rw [ra1]; exact fb) (by omega)
    have hs2 := hs x2 (List.mem_cons_self ..)
    refine bX54_resolve_2 G (d + 4) h1 _ _ _ _ ⟨u1.1.trans hk, r, ((u1.2.2.2.2.2 358 (by decide)).2.2).trans eF0, z1, ?_⟩
    rw [z2, nI_leI (by omega) (by omega)]
    refine ⟨fun z => by omega, fun _ => ⟨r, ((u1.2.2.2.2.2 358 (by decide)).2.2).trans eF0, z1, C.rr (c_rty2 (d := d + 3) rc rb (ty_kind hs2 ob)) ?_⟩⟩
    obtain ⟨kc1, ν1, v1, v2, v3⟩ := hC x2 m m2 b p2 h1 s1 Z1 D1 nb1 us hs2 hw2 ob (M.ri ri hm hm2) (dv.mv M.2.2.2.1)
    refine ⟨kc1, ν1, v1, v2, C.mono v3 ?_⟩
    rintro _ h2 ⟨rfl, Z2, D2, nb2, a1, a2, a3, ⟨a4, a4'⟩, a5, a6, a7, a8, a9, a10, a11⟩
    have M2 := M.stp hm hm2 a1 a2 a3 a5 a6 a7 a8 a9 a10 a11
    have L2 := nxt h2 Z2 D2 _ M.2.1.1 a5 a6 a4 a4'
    refine KV.i ?_
    rintro _ rfl
    rw [nI_1]
    have := IH (l1 ++ [(rTy (Pl ts) n (us.map (Vl ts)) x2 s1).1]) m2 h2 (rTy (Pl ts) n (us.map (Vl ts)) x2 s1).2 Z2 D2 nb2 M2 L2 (fun y hy => hs y (List.mem_cons_of_mem _ hy)) (by rw [List.length_append, List.length_singleton]; omega) (by rw [eF, List.append_assoc, List.singleton_append]; rfl) eS
    rw [List.length_append, List.length_singleton] at this
    exact this
theorem ty_tup (hC : TyR G W ts O n d) (hw : wf (Kd ts) (n1 60 t (ls l)) lo hi) (hl : ∀ y, y ∈ l → shT n y) (ot : OTG (X0 ts W h) W h (n1 60 t (ls l)) 0 0 q) (ri : rI G W ts O h Z D s nb lo hi) (dv : DV W h ts us p2) : C G mX54_resolve (d + 5) [.ref q, .ref (gW G 4), .ref p2] h (rP G W ts O h Z D nb lo hi (rA ts W O lo hi (rTy (Pl ts) (n + 1) (us.map (Vl ts)) (n1 60 t (ls l)) s).1 q) (rTy (Pl ts) (n + 1) (us.map (Vl ts)) (n1 60 t (ls l)) s).2) ∧ hK h q = 50 := by
  obtain ⟨ht, -, m0, hm1, hm2, hw0⟩ := wf_nd (k := 60) (by decide) hw
  obtain ⟨hWq, hkq, ⟨ex, -⟩, oy⟩ := (OTG_nd (k := 60) (by decide)).mp ot
  have hk : hK h q = 50 := by simpa [kc] using hkq
  obtain ⟨r, e0, rl, tg⟩ := OTG_row.mp ((OTG_ef (m' := 22) (i' := 358) (by decide) (by decide)).mp oy)
  have eR : rTy (Pl ts) (n + 1) (us.map (Vl ts)) (n1 60 t (ls l)) s = (n1 60 t (ls (rLs (rTy (Pl ts) n (us.map (Vl ts))) l s).1), (rLs (rTy (Pl ts) n (us.map (Vl ts))) l s).2) := by
    have e0 : rTy (Pl ts) (n + 1) (us.map (Vl ts)) (n1 60 t (ls l)) s = (n1 60 t (ls (rLs (rTy (Pl ts) n (us.map (Vl ts))) (unl (ls l)) s).1), (rLs (rTy (Pl ts) n (us.map (Vl ts))) (unl (ls l)) s).2) := rfl
    rw [e0, unl_ls]
  rw [eR]
  refine ⟨bX54_resolve G (d + 4) h _ _ _ ?_, hk⟩
  refine ty_row54 (m0 := m0) hC ri dv hWq hk e0 rl (fun m h1 Z1 D1 nb1 M L => ?_) l [] m0 h s Z D nb (rM.ini ri hm1 hm2) (LZ.ini (fun j x hx => tg j x hx) hw0 hm2) hl (by simp) rfl rfl
  have u1 := (M.2.2.2.1.2 q hWq).1
  obtain ⟨tgF, trF⟩ := L.fin
  obtain ⟨rl1, ra1, -⟩ := rl.mvs (N' := W) (h' := h1) fun a ha _ => ⟨(M.2.2.2.1.2 a ha).1, ha⟩
  refine M.fin ⟨TR_nd ht.1 ht.2 (TR.mono _ _ _ _ _ trF hm1 (Nat.le_refl _)), ?_⟩
  exact (OTG_nd (k := 60) (by decide)).mpr ⟨hWq, by rw [u1.1]; exact hkq, ⟨(ex.mv (fun a ha _ => (M.2.2.2.1.2 a ha).1) u1).ch (by decide), ANN_no (by decide)⟩, (OTG_ef (m' := 22) (i' := 358) (by decide) (by decide)).mpr (OTG_row.mpr ⟨r, ((u1.2.2.2.2.2 358 (by decide)).2.2).trans e0, (rLs_ln (F := rTy (Pl ts) n (us.map (Vl ts))) l s) ▸ rl1, by rw [funext ra1]; exact tgF⟩)⟩
theorem ty_arr {a b : Tr} (hC : TyR G W ts O n d) (hw : wf (Kd ts) (n2 59 t a b) lo hi) (ha : shT n a) (hb : shT n b) (ot : OTG (X0 ts W h) W h (n2 59 t a b) 0 0 q) (ri : rI G W ts O h Z D s nb lo hi) (dv : DV W h ts us p2) : C G mX55_resolve (d + 5) [.ref q, .ref (gW G 4), .ref p2] h (rP G W ts O h Z D nb lo hi (rA ts W O lo hi (rTy (Pl ts) (n + 1) (us.map (Vl ts)) (n2 59 t a b) s).1 q) (rTy (Pl ts) (n + 1) (us.map (Vl ts)) (n2 59 t a b) s).2) ∧ hK h q = 51 := by
  obtain ⟨ht, -, m0, hm1, hm2, hw0⟩ := wf_nd (k := 59) (y := .add a b) (by decide) hw
  unfold wf at hw0
  obtain ⟨m, hm3, hm4, hwa, hwb⟩ := hw0
  obtain ⟨hWq, hkq, ⟨ex, -⟩, oy⟩ := (OTG_nd (k := 59) (by decide)).mp ot
  have hk : hK h q = 51 := by simpa [kc] using hkq
  rw [OTG_c2 (by decide) (by decide)] at oy
  obtain ⟨b1, e1, o1⟩ := OTG_f.mp oy.1
  obtain ⟨b3, e3, o3⟩ := OTG_f.mp ((OTG_ef (m' := 1) (i' := 360) (by decide) (by decide)).mp oy.2)
  have eR : rTy (Pl ts) (n + 1) (us.map (Vl ts)) (n2 59 t a b) s = (n2 59 t (rTy (Pl ts) n (us.map (Vl ts)) a s).1 (rTy (Pl ts) n (us.map (Vl ts)) b (rTy (Pl ts) n (us.map (Vl ts)) a s).2).1, (rTy (Pl ts) n (us.map (Vl ts)) b (rTy (Pl ts) n (us.map (Vl ts)) a s).2).2) := rfl
  rw [eR]
  have M0 := rM.ini ri hm1 hm2
  obtain ⟨kc1, ν1, v1, v2, v3⟩ := hC a m0 m b1 p2 h s Z D nb us ha hwa o1 (M0.ri ri hm3 hm4) dv
  refine ⟨bX55_resolve G (d + 4) h _ _ _ ⟨hk, b1, e1, kc1, ν1, v1, v2, C.mono v3 ?_⟩, hk⟩
  rintro _ h2 ⟨rfl, Z1, D1, nb1, a1, a2, a3, ⟨a4, a4'⟩, a5, a6, a7, a8, a9, a10, a11⟩
  have M1 := M0.stp hm3 hm4 a1 a2 a3 a5 a6 a7 a8 a9 a10 a11
  have u1 := (M1.2.2.2.1.2 q hWq).1
  obtain ⟨kc2, ν2, w1, w2, w3⟩ := hC b m hi b3 p2 h2 _ Z1 D1 nb1 us hb hwb (o3.k0 a5 ri.2.1.1 (wf.tr _ _ _ hwb)) (M1.ri ri hm4 (Nat.le_refl _)) (dv.mv a5)
  refine KV.i ⟨b3, ((u1.2.2.2.2.2 360 (by decide)).2.2).trans e3, kc2, ν2, w1, w2, C.mono w3 ?_⟩
  rintro _ h3 ⟨rfl, Z2, D2, nb2, c1, c2, c3, ⟨c4, c4'⟩, c5, c6, c7, c8, c9, c10, c11⟩
  have M2 := M1.stp hm4 (Nat.le_refl _) c1 c2 c3 c5 c6 c7 c8 c9 c10 c11
  have uq := (M2.2.2.2.1.2 q hWq).1
  refine KV.i (M2.fin ⟨TR_nd (y := .add _ _) ht.1 ht.2 ⟨TR.mono _ _ _ _ _ a4 hm1 hm4, TR.mono _ _ _ _ _ c4 (by omega) (Nat.le_refl _)⟩, ?_⟩)
  exact (OTG_nd (k := 59) (by decide)).mpr ⟨hWq, by rw [uq.1]; exact hkq, ⟨(ex.mv (fun a ha _ => (M2.2.2.2.1.2 a ha).1) uq).ch (by decide), ANN_no (by decide)⟩, (OTG_c2 (by decide) (by decide)).mpr ⟨OTG_f.mpr ⟨b1, ((uq.2.2.2.2.2 359 (by decide)).2.2).trans e1, a4'.k1 c5 c6 (Or.inl (Nat.le_refl _)) a4⟩, (OTG_ef (m' := 1) (i' := 360) (by decide) (by decide)).mpr (OTG_f.mpr ⟨b3, ((uq.2.2.2.2.2 360 (by decide)).2.2).trans e3, c4'⟩)⟩⟩
theorem fi_some {vs : List Nat} {v i : Nat} (h1 : vs[i]? = some v) (h2 : ∀ j, j < i → vs[j]? ≠ some v) : vs.findIdx? (fun x => x == v) = some i := by
  induction vs generalizing i with
  | nil => cases h1
  | cons a vs ih =>
    rw [List.findIdx?_cons]
    cases i with
    | zero => cases h1; rw [if_pos (by simp)]
    | succ i =>
      have := h2 0 (Nat.succ_pos _)
      rw [if_neg (by simpa using this), ih (by simpa using h1) fun j hj => by have := h2 (j + 1) (by omega); simpa using this]
      rfl
theorem fi_none {vs : List Nat} {v : Nat} (h2 : ∀ j : Nat, vs[j]? ≠ some v) : vs.findIdx? (fun x => x == v) = none := by
  induction vs with
  | nil => rfl
  | cons a vs ih =>
    rw [List.findIdx?_cons]
    have := h2 0
    rw [if_neg (by simpa using this), ih fun j => by have := h2 (j + 1); simpa using this]
    rfl
theorem var_5 (hw : lo ≤ t ∧ t < hi) (hk282 : Kd ts t = 282) (hWq : W q) (hk : hK h q = 49) (ex : EXs W h 57 q (.add (.num t) (.num v))) (ri : rI G W ts O h Z D s nb lo hi) (dv : DV W h ts us p2) :
    ∀ f i h1, us.length - i < f → i ≤ us.length → WQ q h h1 → Le h h1 none → (∀ g, sf g = true → fI h1 q g = fI h q g ∧ fJ h1 q g = fJ h q g ∧ fR h1 q g = fR h q g) → fI h1 q 357 = nI i → (∀ j, j < i → (us.map (Vl ts))[j]? ≠ some (Vl ts t)) →
    X G mX53_resolve (d + 5) none [] 5 [(0, .ref q), (1, .ref (gW G 4)), (2, .ref p2)] [] h1 (rP G W ts O h Z D nb lo hi (rA ts W O lo hi (n1 57 t (.num (opN ((us.map (Vl ts)).findIdx? fun v => v == Vl ts t)))) q) (rIf (Pl ts) ((us.map (Vl ts)).findIdx? fun v => v == Vl ts t).isNone 2 t s)) := by
  obtain ⟨d1, d2, d3, d4, arr, d5, d6, d7, d8, d9⟩ := dv
  obtain ⟨k1, k2, k3, k4, k5, k6, k7, k8⟩ := id ri
  have hlt := k1.1.2.2.2.1
  have hqp : p2 ≠ q := fun e => by rw [e, hk] at d1; cases d1
  have hqa : arr ≠ q := fun e => by rw [e, hk] at d6; cases d6
  intro f
  induction f with
  | zero => intro i h1 hf; omega
  | succ f IH =>
    intro i h1 hf hil0 w le sfq f357 hno
    have e354 : fI h1 q 354 = nI t := (sfq 354 (by decide)).1.trans (ex.tk hk rfl rfl)
    have up := w.uf hqp
    have ua := w.uf hqa
    have fin : ∀ h2 s5, KW W lo hi h h2 → Le h h2 none → RS G W h2 ts Z O s5 nb → WB G W h2 → un h2 = un h → VD s5 D → VN ts s5 → ∀ z : Int, (0 ≤ z → (fI h2 q 357).toInt = z) → rP G W ts O h Z D nb lo hi (rA ts W O lo hi (n1 57 t (.num z)) q) s5 (.returned none) h2 := by
      intro h2 s5 kw le2 r wb u2 vd hV z hz
      have uq := (kw.2 q hWq).1
      refine leaf_fin ri r wb kw le2 u2 vd hV ⟨TR_nd hw.1 hw.2 trivial, ?_⟩
      refine (OTG_nd (k := 57) (by decide)).mpr ⟨hWq, by rw [uq.1, hk]; decide, ⟨(ex.mv (fun a ha _ => (kw.2 a ha).1) uq).ch (by decide), fun t' z' hz' => ?_⟩, R7 (by decide) (Or.inl ⟨_, rfl⟩)⟩
      cases hz'
      exact ⟨fun q => by omega, fun q => by omega, fun q => by omega, fun q => by omega, fun q => by omega, fun q => by omega, fun q => by omega, fun _ => ⟨_, rfl, hz⟩, fun q => by omega, fun q => by omega⟩
    have tki : (lo : Int) ≤ tkn (.add (.num t) (.num v)) ∧ tkn (.add (.num t) (.num v)) < hi := ⟨by show (lo : Int) ≤ (t : Nat); omega, by show ((t : Nat) : Int) < _; omega⟩
    obtain ⟨r1, wb1⟩ := k1.nW k2 w le (by rw [hk]; decide) hWq
    have kw1 : KW W lo hi h h1 := w.kw (by rw [ex.tA]; exact tki) sfq
    refine bX53_resolve_5 G (d + 4) h1 _ _ _ (r1.1.1.at (by decide)) ⟨by rw [w.2.1.1]; exact hk, up.1.trans d1, ?_⟩
    rw [(up.2.2.2.2.2 351).1, d4, f357, nI_leI (by omega) (by omega), e354]
    refine ⟨fun z => ?_, fun z => ?_⟩
    · have hn : (us.map (Vl ts)).findIdx? (fun v => v == Vl ts t) = none := fi_none fun j e => by
        have := (List.getElem?_eq_some_iff.mp e).1
        rw [List.length_map] at this
        exact hno j (by omega) e
      rw [hn]
      refine C.mono (r_found (n := 2) r1 (by omega) (by decide)) ?_
      rintro _ h2 ⟨rfl, w2, r2⟩
      exact KV.i (fin h2 _ (kw1.tr (w2.kw wb1)) (le.tr (w2.le (by decide))) r2 (w2.wb wb1 (by decide)) (by rw [w2.1.un, w.un]) k3 k5 (-1) (fun z => absurd z (by decide)))
    · have hil : i < us.length := by omega
      obtain ⟨g1, g2, g3⟩ := d9 i us[i] (List.getElem?_eq_getElem hil)
      rw [nI_cn (by omega)]
      refine ⟨arr, ((up.2.2.2.2.2 350).2.2).trans d5, ua.1.trans d6, by rw [ua.2.1, d7]; exact vp_in_nI (by omega) (by decide), ?_⟩
      rw [ua.2.2.1, g1]
      refine C.ri (c_twice (d := d + 3) r1.1 (by omega) (Or.inr (Or.inr hk282)) g2 (Or.inr (Or.inr g3))) ?_
      have eg : (us.map (Vl ts))[i]? = some (Vl ts us[i]) := by rw [List.getElem?_map, List.getElem?_eq_getElem hil]; rfl
      rw [b2_0]
      refine ⟨fun z1 => ?_, fun z1 => ?_⟩
      · intro h2 e2
        rw [f357, nI_1] at e2
        have w2 : WQ q h1 h2 := by rw [e2]; exact WQ.rf.pI
        have w3 : WQ q h h2 := by rw [e2]; exact w.pI
        have le2 : Le h1 h2 none := by rw [e2]; exact pI_le (Or.inl (by decide))
        refine IH (i + 1) h2 (by omega) (by omega) w3 (le.tr le2) (fun g hg => ?_) (by rw [e2, fI_pI, if_pos ⟨rfl, rfl⟩]) (fun j hj e => ?_)
        · have := sfq g hg
          rw [e2, fI_pI, if_neg (fun e => by rw [e.2] at hg; exact absurd hg (by decide)), fJ_pI, fR_pI]
          exact this
        · by_cases ej : j = i
          · rw [ej, eg] at e
            have : Vl ts us[i] = Vl ts t := by injection e
            simp [this] at z1
          · exact hno j (by omega) e
      · have hs : (us.map (Vl ts)).findIdx? (fun v => v == Vl ts t) = some i := fi_some (by rw [eg]; exact congrArg some (by simpa using bt z1)) hno
        rw [hs]
        exact fin h1 s kw1 le r1 wb1 w.un k3 k5 i (fun _ => by rw [f357, nI_toInt (by omega)])
theorem ty_var (hw : wf (Kd ts) (n1 57 t (.num v)) lo hi) (ot : OTG (X0 ts W h) W h (n1 57 t (.num v)) 0 0 q) (ri : rI G W ts O h Z D s nb lo hi) (dv : DV W h ts us p2) : C G mX53_resolve (d + 5) [.ref q, .ref (gW G 4), .ref p2] h (rP G W ts O h Z D nb lo hi (rA ts W O lo hi (rTy (Pl ts) (n + 1) (us.map (Vl ts)) (n1 57 t (.num v)) s).1 q) (rTy (Pl ts) (n + 1) (us.map (Vl ts)) (n1 57 t (.num v)) s).2) ∧ hK h q = 49 := by
  obtain ⟨ht, hkd, -⟩ := wf_nd (k := 57) (by decide) hw
  have hk282 : Kd ts t = 282 := hkd.2.2.1 rfl
  obtain ⟨hWq, hkq, ⟨ex, en⟩, -⟩ := (OTG_nd (k := 57) (by decide)).mp ot
  have hk : hK h q = 49 := by simpa [kc] using hkq
  have ev : v = (Vl ts t : Int) := by
    have := (en _ _ rfl).1 (by decide)
    simpa [tkn] using this
  have eR : rTy (Pl ts) (n + 1) (us.map (Vl ts)) (n1 57 t (.num v)) s = (n1 57 t (.num (opN ((us.map (Vl ts)).findIdx? fun x => x == nv (.num v)))), rIf (Pl ts) ((us.map (Vl ts)).findIdx? fun x => x == nv (.num v)).isNone 2 t s) := rfl
  have ev2 : nv (.num v) = Vl ts t := by rw [ev]; rfl
  rw [ev2] at eR
  rw [eR]
  refine ⟨bX53_resolve G (d + 4) h _ _ _ ⟨hk, ?_⟩, hk⟩
  intro h1 e1
  refine var_5 ht hk282 hWq hk ex ri dv (us.length + 1) 0 h1 (by omega) (by omega) (by rw [e1]; exact WQ.rf.pI) (by rw [e1]; exact pI_le (Or.inl (by decide))) (fun g hg => ?_) (by rw [e1, fI_pI, if_pos ⟨rfl, rfl⟩]; rfl) (fun j hj => by omega)
  rw [e1, fI_pI, if_neg (fun e => by rw [e.2] at hg; exact absurd hg (by decide)), fJ_pI, fR_pI]
  exact ⟨rfl, rfl, rfl⟩
theorem wf_58 (w : wf K (n2 58 t (.num v) y) lo hi) : (lo ≤ t ∧ t < hi) ∧ K t = 280 ∧ ∃ m, lo ≤ m ∧ m ≤ t ∧ wf K y m t := by
  unfold n2 wf at w
  obtain ⟨a1, a2, a3, a4⟩ := w
  change (lo : Int) ≤ (t : Nat) at a1
  change ((t : Nat) : Int) < hi at a2
  have hk : K t = 280 := a3.1 (Or.inr (Or.inr (Or.inr (Or.inr (Or.inl rfl)))))
  rw [if_neg (fun z => by rcases z with z | ⟨z, -⟩ | z | z <;> exact absurd z (by decide)), if_pos rfl] at a4
  change wf K (.add (.num t) (.add (.num v) y)) lo t at a4
  unfold wf at a4
  obtain ⟨p1, q1, q2, -, w⟩ := a4
  unfold wf at w
  obtain ⟨p2, q3, q4, -, w⟩ := w
  exact ⟨⟨by omega, by omega⟩, hk, p2, by omega, q4, w⟩
theorem tn_at (tn : TNs G h Tn T Dt) {v c : Nat} (e : lk T v = some c) : ∃ x, Dt[c]? = some x := by
  obtain ⟨⟨U, e1, -, hU⟩, t4, t5, t6, t7⟩ := tn
  obtain ⟨x, x1, x2, x3⟩ := lk_mem e
  rw [e1] at x1
  rcases List.mem_append.mp x1 with x1 | x1
  · obtain ⟨y, y1, -⟩ := hU x x1
    exact ⟨y, by rw [← x3]; exact y1⟩
  · obtain ⟨j, hj, ej⟩ := List.mem_iff_getElem.mp x1
    have hb : BT[j]? = some x := by rw [List.getElem?_eq_getElem hj, ej]
    obtain ⟨nn, e2⟩ := t7.1 j x hb
    have hx2 : x.2 = j := by
      match j, hb with
      | 0, hb => cases hb; rfl
      | 1, hb => cases hb; rfl
      | 2, hb => cases hb; rfl
      | 3, hb => cases hb; rfl
      | 4, hb => cases hb; rfl
      | j + 5, hb => cases hb
    exact ⟨_, by rw [← x3, hx2]; exact e2⟩
/-- behind the type's name: its arguments -/
theorem app_tail {ic : Int} {h6 : AH} {s6 : RSt} (hC : TyR G W ts O n d) (ri : rI G W ts O h Z D s nb lo hi) (dv : DV W h ts us p2) (ht : lo ≤ t ∧ t < hi) (hm : lo ≤ m0 ∧ m0 ≤ t) (hw0 : wf (Kd ts) (ls l) m0 t) (hl : ∀ y, y ∈ l → shT n y) (hWq : W q) (hk : hK h q = 48) (e0 : fR h q 355 = some r) (rl : RowL W h r l.length) (tg : TG (X0 ts W h) W h (rowAt h r) l)
    (r6 : RS G W h6 ts Z O s6 nb) (wb6 : WB G W h6) (kw6 : KW W lo hi h h6) (le6 : Le h h6 none) (u6 : un h6 = un h) (vd6 : VD s6 D) (hV6 : VN ts s6) (ex6 : EXs W h6 58 q (.add (.num t) (.add (.num v) (ls l)))) (hid : 0 ≤ ic → ic.toNat < D.2.2 ∧ fR h6 q 356 = some (Z.2.2 ic.toNat)) :
    X G mX52_resolve (d + 5) none [] 47 [(0, .ref q), (1, .ref (gW G 4)), (2, .ref p2), (3, .int 0)] [] h6 (rP G W ts O h Z D nb lo hi (rA ts W O lo hi (n2 58 t (.num ic) (ls (rLs (rTy (Pl ts) n (us.map (Vl ts))) l s6).1)) q) (rLs (rTy (Pl ts) n (us.map (Vl ts))) l s6).2) := by
  obtain ⟨k1, k2, k3, k4, k5, k6, k7, k8⟩ := id ri
  have ri6 : rI G W ts O h6 Z D s6 nb lo t := ⟨r6, wb6, vd6, ⟨by omega, ht.1⟩, hV6, k6, fun x hx => by have := k7 x hx; omega, by unfold pU at *; omega⟩
  have uq6 := (kw6.2 q hWq).1
  obtain ⟨rl6, ra6, -⟩ := rl.mvs (N' := W) (h' := h6) fun a ha _ => ⟨(kw6.2 a ha).1, ha⟩
  have trL := TR.ls_at (wf.tr _ _ _ hw0)
  refine ty_row52 (m0 := m0) hC ri6 (dv.mv kw6) hWq (uq6.1.trans hk) (((uq6.2.2.2.2.2 355 (by decide)).2.2).trans e0) rl6 (fun m h1 Z1 D1 nb1 M L => ?_) l [] m0 h6 s6 Z D nb (rM.ini ri6 hm.1 hm.2) (LZ.ini (fun j x hx => ?_) hw0 hm.2) hl (by simp) rfl rfl
  · obtain ⟨c1, c2, c3, c4, c5, c6, c7, c8, c9, c10, c11, c12⟩ := M
    obtain ⟨tgF, trF⟩ := L.fin
    have kw : KW W lo hi h h1 := kw6.tr (c4.wd (Nat.le_refl _) (Nat.le_of_lt ht.2))
    have uq := (c4.2 q hWq).1
    have uf := (c4.2 q hWq).2 (Or.inr (by rw [ex6.tA]; show ((t : Nat) : Int) ≤ (t : Nat); omega))
    obtain ⟨rl1, ra1, -⟩ := rl6.mvs (N' := W) (h' := h1) fun a ha _ => ⟨(c4.2 a ha).1, ha⟩
    refine ⟨rfl, Z1, D1, nb1, c1, c2, c3, ⟨TR_nd (y := .add _ _) ht.1 ht.2 ⟨trivial, TR.mono _ _ _ _ _ trF hm.1 (Nat.le_of_lt ht.2)⟩, ?_⟩, kw, c5, fun x hx => (c6 x hx).imp_right fun z => by omega, c7, c8, by unfold pU at *; omega, le6.tr c10⟩
    refine (OTG_nd (k := 58) (y := .add _ _) (by decide)).mpr ⟨hWq, by rw [uq.1, uq6.1, hk]; decide, ⟨(ex6.mv (fun a ha _ => (c4.2 a ha).1) uq).ch (by decide), fun t' z hz => ?_⟩, (OTG_c2 (by decide) (by decide)).mpr ⟨OTG_7 (Or.inl ⟨_, rfl⟩), (OTG_ef (m' := 22) (i' := 355) (by decide) (by decide)).mpr (OTG_row.mpr ⟨r, ((uq.2.2.2.2.2 355 (by decide)).2.2).trans (((uq6.2.2.2.2.2 355 (by decide)).2.2).trans e0), (rLs_ln (F := rTy (Pl ts) n (us.map (Vl ts))) l s6) ▸ rl1, by rw [funext ra1]; exact tgF⟩)⟩⟩
    cases hz
    refine ⟨fun q => by omega, fun q => by omega, fun q => by omega, fun q => by omega, fun q => by omega, fun q => by omega, fun q => by omega, fun q => by omega, fun _ => ⟨ic, _, rfl, fun z => ?_⟩, fun q => by omega⟩
    obtain ⟨y1, y2⟩ := hid z
    exact ⟨Nat.lt_of_lt_of_le y1 c5.2.2.1, by rw [(uf.2.2.2.2.2 356).2.2, c5.2.2.2 _ y1]; exact y2⟩
  · obtain ⟨b, b1, b2⟩ := tg j x hx
    exact ⟨b, by rw [ra6]; exact b1, b2.k0 kw6 k2.1 (trL x (List.mem_of_getElem? hx))⟩
theorem ty_app (hC : TyR G W ts O n d) (hw : wf (Kd ts) (n2 58 t (.num v) (ls l)) lo hi) (hl : ∀ y, y ∈ l → shT n y) (ot : OTG (X0 ts W h) W h (n2 58 t (.num v) (ls l)) 0 0 q) (ri : rI G W ts O h Z D s nb lo hi) (dv : DV W h ts us p2) : C G mX52_resolve (d + 5) [.ref q, .ref (gW G 4), .ref p2] h (rP G W ts O h Z D nb lo hi (rA ts W O lo hi (rTy (Pl ts) (n + 1) (us.map (Vl ts)) (n2 58 t (.num v) (ls l)) s).1 q) (rTy (Pl ts) (n + 1) (us.map (Vl ts)) (n2 58 t (.num v) (ls l)) s).2) ∧ hK h q = 48 := by
  obtain ⟨ht, hk280, m0, hm1, hm2, hw0⟩ := wf_58 hw
  obtain ⟨hWq, hkq, ⟨ex, en⟩, oy⟩ := (OTG_nd (k := 58) (y := .add (.num v) (ls l)) (by decide)).mp ot
  have hk : hK h q = 48 := by simpa [kc] using hkq
  rw [OTG_c2 (by decide) (by decide)] at oy
  obtain ⟨r, e0, rl, tg⟩ := OTG_row.mp ((OTG_ef (m' := 22) (i' := 355) (by decide) (by decide)).mp oy.2)
  have ev : v = (Vl ts t : Int) := by
    obtain ⟨z, ez⟩ := (en _ _ rfl).2 (by decide)
    have : (Int.Internal.Linear.Expr.num v) = .num (Vl ts (tkn (.add (.num t) (.add (.num v) (ls l)))).toNat) := by injection ez
    simpa [tkn] using this
  have ev2 : nv (.num v) = Vl ts t := by rw [ev]; rfl
  obtain ⟨k1, k2, k3, k4, k5, k6, k7, k8⟩ := id ri
  have hlt := k1.1.2.2.2.1
  have tki : (lo : Int) ≤ tkn (.add (.num t) (.add (.num v) (ls l))) ∧ tkn (.add (.num t) (.add (.num v) (ls l))) < hi := ⟨by show (lo : Int) ≤ (t : Nat); omega, by show ((t : Nat) : Int) < _; omega⟩
  have eR : ∀ c : Option Nat, lk (rT s) (Vl ts t) = c → rTy (Pl ts) (n + 1) (us.map (Vl ts)) (n2 58 t (.num v) (ls l)) s = (n2 58 t (.num (opN c)) (ls (rLs (rTy (Pl ts) n (us.map (Vl ts))) l (match c with | none => rNote (Pl ts) 2 t s | some c => rIf (Pl ts) (!(dAr s c == l.length)) 4 t s)).1), (rLs (rTy (Pl ts) n (us.map (Vl ts))) l (match c with | none => rNote (Pl ts) 2 t s | some c => rIf (Pl ts) (!(dAr s c == l.length)) 4 t s)).2) := by
    intro c hc
    have e : rTy (Pl ts) (n + 1) (us.map (Vl ts)) (n2 58 t (.num v) (ls l)) s = (let d := lk (rT s) (nv (.num v)); let s1 := (match d with | none => rNote (Pl ts) 2 t s | some d => rIf (Pl ts) (!(dAr s d == (unl (ls l)).length)) 4 t s); (.mulL 58 (.add (.num t) (.add (.num (opN d)) (ls (rLs (rTy (Pl ts) n (us.map (Vl ts))) (unl (ls l)) s1).1))), (rLs (rTy (Pl ts) n (us.map (Vl ts))) (unl (ls l)) s1).2)) := rfl
    rw [e, ev2, hc, unl_ls]
    cases c <;> rfl
  have stp : ∀ (h2 h5 : AH) (s5 : RSt) (ob : Option Nat), h5 = pR h2 q 356 ob → KW W lo hi h h2 → Le h h2 none → RS G W h2 ts Z O s5 nb → WB G W h2 → un h2 = un h → RS G W h5 ts Z O s5 nb ∧ WB G W h5 ∧ KW W lo hi h h5 ∧ Le h h5 none ∧ un h5 = un h ∧ hK h5 q = 48 ∧ EXs W h5 58 q (.add (.num t) (.add (.num v) (ls l))) ∧ fR h5 q 356 = ob := by
    intro h2 h5 s5 ob e5 kw le r wb u2
    have w : WQ q h2 h5 := by rw [e5]; exact WQ.rf.pR
    have le5 : Le h2 h5 none := by rw [e5]; exact pR_le (Or.inl (by decide))
    have sfq : ∀ g, sf g = true → fI h5 q g = fI h2 q g ∧ fJ h5 q g = fJ h2 q g ∧ fR h5 q g = fR h2 q g := fun g hg => by
      rw [e5, fI_pR, fJ_pR, fR_pR, if_neg (fun e => by rw [e.2] at hg; exact absurd hg (by decide))]
      exact ⟨rfl, rfl, rfl⟩
    obtain ⟨r3, wb3, kw3, le3, u3, hk3, ex3⟩ := node_wr kw le r wb w le5 sfq hWq (by rw [hk]; decide) ex tki
    exact ⟨r3, wb3, kw3, le3, u3.trans u2, hk3.trans hk, ex3, by rw [e5, fR_pR, if_pos ⟨rfl, rfl⟩]⟩
  refine ⟨bX52_resolve G (d + 4) h _ _ _ (k1.1.1.at (by decide)) ⟨hk, ?_⟩, hk⟩
  rw [show fI h q 354 = nI t from ex.tk hk rfl rfl]
  refine C.mono (c_tname (d := d + 3) k1.1 k1.2.1 k1.2.2.2.2.2.1 (by omega) hk280) ?_
  intro o h2 hq
  cases hl0 : lk (rT s) (Vl ts t) with
  | none =>
    rw [hl0] at hq
    obtain ⟨rfl, w2, n2'⟩ := hq
    rw [eR none hl0]
    refine KN.i0 ?_
    intro h5 e5
    have r2 := k1.found w2 n2'
    obtain ⟨r5, wb5, kw5, le5, u5, hk5, ex5, f5⟩ := stp h2 h5 (rNote (Pl ts) 2 t s) none e5 (w2.kw k2) (w2.le (by decide)) r2 (w2.wb k2 (by decide)) w2.1.un
    refine ⟨fun _ => ?_, fun b e => (by rw [f5] at e; cases e)⟩
    exact app_tail (ic := -1) hC ri dv ht ⟨hm1, hm2⟩ hw0 hl hWq hk e0 rl tg r5 wb5 kw5 le5 u5 k3 k5 ex5 (fun q => absurd q (by decide))
  | some c =>
    rw [hl0] at hq
    obtain ⟨rfl, e2⟩ := hq
    rw [eR (some c) hl0, e2]
    obtain ⟨yc, y1⟩ := tn_at k1.2.2.2.2.2.1 hl0
    have hcl : c < (rDt s).length := (List.getElem?_eq_some_iff.mp y1).1
    have ecw : dAr s c = yc.2.1 := by unfold dAr; rw [y1]
    refine KN.i ?_
    intro h5 e5
    obtain ⟨r5, wb5, kw5, le5, u5, hk5, ex5, f5⟩ := stp h h5 s (some (Z.2.2 c)) e5 KW.rf Le.rf0 k1 k2 rfl
    have to := r5.2.2.2.2.2.1.2.1 c yc y1
    refine ⟨fun e => (by rw [f5] at e; cases e), fun _ _ => ⟨fun e => (by rw [f5] at e; cases e), fun b77 e77 => ?_⟩⟩
    cases f5.symm.trans e77
    have uq5 := (kw5.2 q hWq).1
    obtain ⟨rl5, ra5, -⟩ := rl.mvs (N' := W) (h' := h5) fun a ha _ => ⟨(kw5.2 a ha).1, ha⟩
    obtain ⟨z1, z2, z3, z4⟩ := row_sz rl5
    refine ⟨to.1, r, ((uq5.2.2.2.2.2 355 (by decide)).2.2).trans e0, z1, ?_⟩
    have h6 := to.2.2.2.1
    have hid : 0 ≤ (opN (some c)) → (opN (some c)).toNat < D.2.2 ∧ fR h5 q 356 = some (Z.2.2 (opN (some c)).toNat) := fun _ => ⟨by rw [k3.2.2.1]; exact hcl, f5⟩
    rw [to.2.2.1, z2, nI_eq (by omega) (by omega)]
    refine ⟨fun z => ?_, fun z => ?_⟩
    · have eb : (!(dAr s c == l.length)) = false := by rw [ecw, z]; simp
      dsimp only
      rw [eb]
      exact app_tail hC ri dv ht ⟨hm1, hm2⟩ hw0 hl hWq hk e0 rl tg r5 wb5 kw5 le5 u5 k3 k5 ex5 hid
    · have eb : (!(dAr s c == l.length)) = true := by rw [ecw]; simp [z]
      dsimp only
      rw [eb, show fI h5 q 354 = nI t from ex5.tk hk5 rfl rfl]
      refine C.mono (r_found (n := 4) r5 (by omega) (by decide)) ?_
      rintro _ h6' ⟨rfl, w6, r6⟩
      have kw6 := kw5.tr (w6.kw wb5)
      refine KV.i (app_tail hC ri dv ht ⟨hm1, hm2⟩ hw0 hl hWq hk e0 rl tg r6 (w6.wb wb5 (by decide)) kw6 (le5.tr (w6.le (by decide))) (by rw [w6.1.un, u5]) k3 k5 (ex.mv (fun a ha _ => (kw6.2 a ha).1) (kw6.2 q hWq).1) fun z => ?_)
      obtain ⟨y1, y2⟩ := hid z
      exact ⟨y1, by rw [((w6.1.uf fun e => wb5.2.1 (by rw [← e]; exact hWq)).2.2.2.2.2 356).2.2]; exact y2⟩
/-- ALL TYPES are resolved -/
theorem tys_res : ∀ n d, TyR G W ts O n (d + n) := by
  intro n
  induction n with
  | zero => intro d x lo hi q p2 h s Z D nb us hs; exact hs.elim
  | succ n ih =>
    intro d x lo hi q p2 h s Z D nb us hs hw ot ri dv
    unfold shT at hs
    rcases hs with ⟨t, v, rfl⟩ | ⟨t, v, l, rfl, hl⟩ | ⟨t, a, b, rfl, ha, hb⟩ | ⟨t, l, rfl, hl⟩
    · obtain ⟨c1, c2⟩ := ty_var (d := d + n) (n := n) hw ot ri dv
      exact ⟨48, mX53_resolve, v48_resolve, c2, c1⟩
    · obtain ⟨c1, c2⟩ := ty_app (ih d) hw hl ot ri dv
      exact ⟨47, mX52_resolve, v47_resolve, c2, c1⟩
    · obtain ⟨c1, c2⟩ := ty_arr (ih d) hw ha hb ot ri dv
      exact ⟨50, mX55_resolve, v50_resolve, c2, c1⟩
    · obtain ⟨c1, c2⟩ := ty_tup (ih d) hw hl ot ri dv
      exact ⟨49, mX54_resolve, v49_resolve, c2, c1⟩
end
