/-! DATATYPES: their tokens; what is known of them -/
def shC (V : Nat → Nat) (n : Nat) (c : Tr) : Prop := ∃ (t : Nat) (y : Tr), c = n2 56 t (.num (V t)) y ∧ (y = .num 0 ∨ shT n y)
def shD (V : Nat → Nat) (n : Nat) (f : Tr) : Prop := ∃ (t : Nat) (vs cs : List Tr), f = n3 55 t (.num (V t)) (ls vs) (ls cs) ∧ vs.length ≤ 6 ∧ (∀ y, y ∈ vs → ∃ t : Nat, y = n1 57 t (.num (V t))) ∧ ∀ c, c ∈ cs → shC V n c
def TKd (ds : List Tr) : List Nat := ds.map tkN
def TKc (ds : List Tr) : List Nat := ds.flatMap fun x => (dCs x).map tkN
section
variable {G : Gh} {d : Nat} {W N : Nat → Prop} {h h1 h2 h3 h5 h' : AH} {ts : List (Nat × Nat × Nat)} {t i n nb nb' nb1 nb2 r q g fr ba lo hi m m0 m1 m2 lo1 hi1 b k c arr : Nat} {v : Int} {Z Z' Z1 Z2 : Zt} {D D' D1 D2 : Dm} {O : List (Nat × Nat) × List (Nat × Nat)} {s s0 s' s1 s2 s5 : RSt} {x y e x' a' b' : Tr} {l l1 l2 : List Tr} {f : Nat → Option Nat} {A : Zt → Dm → AH → Prop} {K V : Nat → Nat}
theorem wf_55 {a : Tr} (w : wf K (n3 55 t (.num v) a y) lo hi) : (lo ≤ t ∧ t < hi) ∧ K t = 280 ∧ dTk (.add (.num t) (.add (.num v) (.add a y))) ∧ ∃ m m2, lo ≤ m ∧ m ≤ m2 ∧ m2 ≤ hi ∧ wf K a m m2 ∧ wf K y m2 hi := by
  obtain ⟨ht, hkd, m0, hm1, hm2, hw0⟩ := wf_nd (k := 55) (y := .add (.num v) (.add a y)) (by decide) w
  unfold wf at hw0
  obtain ⟨p1, q1, q2, -, w1⟩ := hw0
  unfold wf at w1
  obtain ⟨p2, q3, q4, w2, w3⟩ := w1
  exact ⟨ht, hkd.1 (Or.inr (Or.inr (Or.inr (Or.inl rfl)))), hkd.2.2.2 rfl, p1, p2, by omega, q3, q4, w2, w3⟩
theorem wf_56 (w : wf K (n2 56 t (.num v) y) lo hi) : (lo ≤ t ∧ t < hi) ∧ K t = 281 ∧ ∃ m, t + 1 ≤ m ∧ m ≤ hi ∧ wf K y m hi := by
  unfold n2 wf at w
  obtain ⟨a1, a2, a3, a4⟩ := w
  change (lo : Int) ≤ (t : Nat) at a1
  change ((t : Nat) : Int) < hi at a2
  have hk : K t = 281 := a3.2.1 (Or.inr (Or.inr rfl))
  rw [if_pos (Or.inr (Or.inr (Or.inl rfl)))] at a4
  change wf K (.add (.num t) (.add (.num v) y)) (t + 1) hi at a4
  unfold wf at a4
  obtain ⟨p1, q1, q2, -, w⟩ := a4
  unfold wf at w
  obtain ⟨p2, q3, q4, -, w⟩ := w
  exact ⟨⟨by omega, by omega⟩, hk, p2, by omega, q4, w⟩
theorem wf_53 (w : wf K (n1 53 t y) lo hi) : (lo ≤ t ∧ t < hi) ∧ ∃ m, t + 1 ≤ m ∧ m ≤ hi ∧ wf K y m hi := by
  unfold n1 wf at w
  obtain ⟨a1, a2, a3, a4⟩ := w
  change (lo : Int) ≤ (t : Nat) at a1
  change ((t : Nat) : Int) < hi at a2
  rw [if_pos (Or.inr (Or.inr (Or.inr rfl)))] at a4
  change wf K (.add (.num t) y) (t + 1) hi at a4
  unfold wf at a4
  obtain ⟨p1, q1, q2, -, w⟩ := a4
  exact ⟨⟨by omega, by omega⟩, p1, q1, q2, w⟩
theorem wf_mem : ∀ (l : List Tr) (lo hi : Nat), wf K (ls l) lo hi → ∀ y, y ∈ l → wf K y lo hi := by
  intro l
  induction l with
  | nil => intro lo hi _ y hy; cases hy
  | cons a l ih =>
    intro lo hi w y hy
    unfold ls wf at w
    obtain ⟨m, m1, m2, w1, w2⟩ := w
    rcases List.mem_cons.mp hy with rfl | hy
    · exact wf.mono _ _ _ _ _ w1 (Nat.le_refl _) m2
    · exact wf.mono _ _ _ _ _ (ih _ _ w2 y hy) m1 (Nat.le_refl _)
theorem con_tk (hs : shC V n y) (w : wf K y lo hi) : (lo ≤ tkN y ∧ tkN y < hi) ∧ K (tkN y) = 281 := by
  obtain ⟨t, z, rfl, -⟩ := hs
  obtain ⟨w1, w2, -⟩ := wf_56 w
  exact ⟨w1, w2⟩
/-- the constructors of a datatype, one behind another -/
theorem con_rng : ∀ (cs : List Tr) (lo hi : Nat), wf K (ls cs) lo hi → (∀ c, c ∈ cs → shC V n c) → (cs.map tkN).Nodup ∧ (∀ t, t ∈ cs.map tkN → (lo ≤ t ∧ t < hi) ∧ K t = 281) ∧ (∀ c0, cs.head? = some c0 → ∀ c, c ∈ cs → tkN c0 ≤ tkN c) ∧ ∀ c, c ∈ cs → ∃ u, u ≤ hi ∧ wf K c lo u ∧ tkN c < u ∧ ∀ t, t ∈ cs.map tkN → t ≤ tkN c ∨ u ≤ t := by
  intro cs
  induction cs with
  | nil => intro lo hi _ _; exact ⟨List.nodup_nil, fun t ht => (by cases ht), fun c0 e => (by cases e), fun c hc => (by cases hc)⟩
  | cons c cs ih =>
    intro lo hi w hs
    unfold ls wf at w
    obtain ⟨m, m1, m2, w1, w2⟩ := w
    obtain ⟨i1, i2, -, i4⟩ := ih m hi w2 fun c hc => hs c (List.mem_cons_of_mem _ hc)
    obtain ⟨t1, t2⟩ := con_tk (hs c (List.mem_cons_self ..)) w1
    have hge : ∀ t, t ∈ cs.map tkN → m ≤ t := fun t ht => (i2 t ht).1.1
    refine ⟨?_, fun t ht => ?_, fun c0 e c' hc => ?_, fun c' hc => ?_⟩
    · rw [List.map_cons, List.nodup_cons]
      exact ⟨fun hm => (by have := hge _ hm; omega), i1⟩
    · rw [List.map_cons] at ht
      rcases List.mem_cons.mp ht with rfl | ht
      · exact ⟨by omega, t2⟩
      · have := i2 t ht
        exact ⟨⟨by omega, this.1.2⟩, this.2⟩
    · cases e
      rcases List.mem_cons.mp hc with rfl | hc
      · exact Nat.le_refl _
      · have := hge _ (List.mem_map_of_mem hc)
        omega
    · rcases List.mem_cons.mp hc with rfl | hc
      · refine ⟨m, m2, w1, t1.2, fun t ht => ?_⟩
        rw [List.map_cons] at ht
        rcases List.mem_cons.mp ht with rfl | ht
        · exact Or.inl (Nat.le_refl _)
        · exact Or.inr (hge t ht)
      · obtain ⟨u, u1, u2, u3, u4⟩ := i4 c' hc
        refine ⟨u, u1, wf.mono _ _ _ _ _ u2 m1 (Nat.le_refl _), u3, fun t ht => ?_⟩
        rw [List.map_cons] at ht
        rcases List.mem_cons.mp ht with rfl | ht
        · have := hge _ (List.mem_map_of_mem hc)
          exact Or.inl (by omega)
        · exact u4 t ht
/-- the datatypes of a declaration, one behind another -/
theorem dat_rng : ∀ (ds : List Tr) (lo hi : Nat), wf K (ls ds) lo hi → (∀ f, f ∈ ds → shD V n f) → (TKd ds).Nodup ∧ (TKc ds).Nodup ∧ (∀ t, t ∈ TKd ds → (lo ≤ t ∧ t < hi) ∧ K t = 280) ∧ (∀ t, t ∈ TKc ds → (lo ≤ t ∧ t < hi) ∧ K t = 281) ∧ ∀ x, x ∈ ds → wf K x lo hi ∧ ∀ c, c ∈ dCs x → ∃ u, u ≤ hi ∧ wf K c lo u ∧ tkN c < u ∧ ∀ t, (t ∈ TKd ds ∨ t ∈ TKc ds) → t ≤ tkN c ∨ u ≤ t := by
  intro ds
  induction ds with
  | nil => intro lo hi _ _; exact ⟨List.nodup_nil, List.nodup_nil, fun t ht => (by cases ht), fun t ht => (by cases ht), fun c hc => (by cases hc)⟩
  | cons x ds ih =>
    intro lo hi w hs
    unfold ls wf at w
    obtain ⟨m, m1, m2, w1, w2⟩ := w
    obtain ⟨i1, i2, i3, i4, i5⟩ := ih m hi w2 fun c hc => hs c (List.mem_cons_of_mem _ hc)
    obtain ⟨t0, vs, cs, rfl, hv6, hvs, hcs⟩ := hs x (List.mem_cons_self ..)
    obtain ⟨⟨t1, t2⟩, t3, t4, p, p2, q1, q2, q3, wv, wc⟩ := wf_55 w1
    have ec : dCs (n3 55 t0 (.num (V t0)) (ls vs) (ls cs)) = cs := unl_ls cs
    have et : tkN (n3 55 t0 (.num (V t0)) (ls vs) (ls cs)) = t0 := rfl
    obtain ⟨c1, c2, c3, c4⟩ := con_rng (K := K) cs p2 m wc hcs
    have h0 : ∀ c, c ∈ cs → t0 < tkN c := by
      intro c hc
      cases cs with
      | nil => cases hc
      | cons c0 cs =>
        have := c3 c0 rfl c hc
        obtain ⟨tc, yc, ec0, -⟩ := hcs c0 (List.mem_cons_self ..)
        rw [ec0] at t4 this
        have t5 : (t0 : Int) < (tc : Nat) := t4
        change tc ≤ tkN c at this
        omega
    have ed : TKd (n3 55 t0 (.num (V t0)) (ls vs) (ls cs) :: ds) = t0 :: TKd ds := rfl
    have ecc : TKc (n3 55 t0 (.num (V t0)) (ls vs) (ls cs) :: ds) = cs.map tkN ++ TKc ds := by
      unfold TKc
      rw [List.flatMap_cons, ec]
    rw [ed, ecc]
    refine ⟨List.nodup_cons.mpr ⟨fun hm => (by have := (i3 _ hm).1.1; omega), i1⟩, List.nodup_append.mpr ⟨c1, i2, fun a ha b hb e => ?_⟩, fun t ht => ?_, fun t ht => ?_, fun x' hx => ?_⟩
    · have := (c2 a ha).1.2
      have := (i4 b hb).1.1
      omega
    · rcases List.mem_cons.mp ht with rfl | ht
      · exact ⟨by omega, t3⟩
      · have := i3 t ht
        exact ⟨by omega, this.2⟩
    · rcases List.mem_append.mp ht with ht | ht
      · have := c2 t ht
        exact ⟨by omega, this.2⟩
      · have := i4 t ht
        exact ⟨by omega, this.2⟩
    · rcases List.mem_cons.mp hx with rfl | hx
      · refine ⟨wf.mono _ _ _ _ _ w1 (Nat.le_refl _) m2, fun c hc => ?_⟩
        rw [ec] at hc
        obtain ⟨u, u1, u2, u3, u4⟩ := c4 c hc
        refine ⟨u, by omega, wf.mono _ _ _ _ _ u2 (by omega) (Nat.le_refl _), u3, fun t ht => ?_⟩
        rcases ht with ht | ht
        · rcases List.mem_cons.mp ht with rfl | ht
          · have := h0 c hc
            exact Or.inl (by omega)
          · have := (i3 t ht).1.1
            exact Or.inr (by omega)
        · rcases List.mem_append.mp ht with ht | ht
          · exact u4 t ht
          · have := (i4 t ht).1.1
            exact Or.inr (by omega)
      · obtain ⟨j1, j2⟩ := i5 x' hx
        refine ⟨wf.mono _ _ _ _ _ j1 m1 (Nat.le_refl _), fun c hc => ?_⟩
        obtain ⟨u, u1, u2, u3, u4⟩ := j2 c hc
        have hc2 : tkN c ∈ TKc ds := List.mem_flatMap.mpr ⟨x', hx, List.mem_map_of_mem hc⟩
        have hc3 := (i4 _ hc2).1.1
        refine ⟨u, u1, wf.mono _ _ _ _ _ u2 m1 (Nat.le_refl _), u3, fun t ht => ?_⟩
        rcases ht with ht | ht
        · rcases List.mem_cons.mp ht with rfl | ht
          · exact Or.inl (by omega)
          · exact u4 t (Or.inl ht)
        · rcases List.mem_append.mp ht with ht | ht
          · have := (c2 t ht).1.2
            exact Or.inl (by omega)
          · exact u4 t (Or.inr ht)
theorem tks_ls : ∀ vs : List Tr, (∀ y, y ∈ vs → ∃ t : Nat, y = n1 57 t (.num (V t))) → tks (ls vs) = (vs.map tkN).map nI := by
  intro vs
  induction vs with
  | nil => intro _; rfl
  | cons y vs ih =>
    intro hv
    obtain ⟨t, rfl⟩ := hv y (List.mem_cons_self ..)
    show nI ((t : Int)).toNat :: tks (ls vs) = nI ((t : Int)).toNat :: (vs.map tkN).map nI
    rw [ih fun y hy => hv y (List.mem_cons_of_mem _ hy)]
/-- what is known of a datatype -/
theorem data_info (hs : shD (Vl ts) n x) (hw : wf (Kd ts) x lo hi) (hl : hi ≤ ts.length) (ot : OTG (X0 ts W h) W h x 0 0 b) :
    DV W h ts ((dVs x).map tkN) b ∧ fI h b 349 = nI (tkN x) ∧ nv1 x = Vl ts (tkN x) ∧ ((lo ≤ tkN x ∧ tkN x < hi) ∧ Kd ts (tkN x) = 280) ∧ (∀ y, y ∈ dVs x → nv1 y = Vl ts (tkN y)) ∧ EXs W h 55 b (.add (.num (tkN x)) (.add (.num (nv1 x)) (.add (ls (dVs x)) (ls (dCs x))))) ∧ (∀ y, y ∈ dCs x → shC (Vl ts) n y) ∧ ∃ rc, fR h b 352 = some rc ∧ RowL W h rc (dCs x).length ∧ TG (X0 ts W h) W h (rowAt h rc) (dCs x) := by
  obtain ⟨t, vs, cs, rfl, hv6, hvs, hcs⟩ := hs
  obtain ⟨ht, t3, t4, p, p2, q1, q2, q3, wv, wc⟩ := wf_55 hw
  obtain ⟨hWq, hkq, ⟨ex, en⟩, oy⟩ := (OTG_nd (k := 55) (y := .add (.num (Vl ts t)) (.add (ls vs) (ls cs))) (by decide)).mp ot
  have hk : hK h b = 47 := by simpa [kc] using hkq
  rw [OTG_c2 (by decide) (by decide)] at oy
  have oy2 := (OTG_c2 (by decide) (by decide)).mp oy.2
  obtain ⟨rc, e0, rl, tg⟩ := OTG_row.mp ((OTG_ef (m' := 22) (i' := 352) (by decide) (by decide)).mp oy2.2)
  have ec : dCs (n3 55 t (.num (Vl ts t)) (ls vs) (ls cs)) = cs := unl_ls cs
  have ev : dVs (n3 55 t (.num (Vl ts t)) (ls vs) (ls cs)) = vs := unl_ls vs
  have et : tkN (n3 55 t (.num (Vl ts t)) (ls vs) (ls cs)) = t := rfl
  have en1 : nv1 (n3 55 t (.num (Vl ts t)) (ls vs) (ls cs)) = Vl ts t := rfl
  rw [ec, ev, et, en1]
  obtain ⟨-, -, -, f6⟩ := ex.2.2.2.2.2.2.2.2 _ _ rfl
  obtain ⟨v', vs', c', arr, g1, g2, g3, g4, g5, g6, g7, g8⟩ := f6 rfl
  cases g1
  rw [tks_ls vs hvs] at g6 g7 g8
  rw [List.length_map] at g6 g7
  refine ⟨⟨hk, hWq, g7, g6, arr, g2, g3, g4, g5, fun i u hu => ?_⟩, ex.tk hk rfl rfl, rfl, ⟨ht, t3⟩, fun y hy => ?_, ex, hcs, rc, e0, rl, tg⟩
  · refine ⟨g8 i (nI u) (by rw [List.getElem?_map, hu]; rfl), ?_⟩
    rw [List.getElem?_map] at hu
    obtain ⟨y, hy, e⟩ := Option.map_eq_some_iff.mp hu
    have hm := List.mem_of_getElem? hy
    have wy := wf_mem vs _ _ wv y hm
    obtain ⟨t', e'⟩ := hvs y hm
    rw [e'] at wy e
    obtain ⟨w1, w2, -⟩ := wf_nd (k := 57) (by decide) wy
    change t' = u at e
    subst e
    exact ⟨by omega, w2.2.2.1 rfl⟩
  · obtain ⟨t', e'⟩ := hvs y hy
    rw [e']
    rfl
/-- what is known of a constructor's declaration -/
theorem con_info (hs : shC (Vl ts) n x) (ot : OTG (X0 ts W h) W h x 0 0 b) : W b ∧ hK h b = 52 ∧ fI h b 361 = nI (tkN x) ∧ nv1 x = Vl ts (tkN x) ∧ EXs W h 56 b (.add (.num (tkN x)) (.add (.num (nv1 x)) (cHas x))) ∧ ((cHas x = .num 0 ∧ fR h b 362 = none) ∨ (shT n (cHas x) ∧ ∃ bb, fR h b 362 = some bb ∧ OTG (X0 ts W h) W h (cHas x) 0 0 bb)) := by
  obtain ⟨t, y, rfl, hy⟩ := hs
  obtain ⟨hWq, hkq, ⟨ex, en⟩, oy⟩ := (OTG_nd (k := 56) (y := .add (.num (Vl ts t)) y) (by decide)).mp ot
  have hk : hK h b = 52 := by simpa [kc] using hkq
  rw [OTG_c2 (by decide) (by decide)] at oy
  have eh : cHas (n2 56 t (.num (Vl ts t)) y) = y := rfl
  rw [eh]
  refine ⟨hWq, hk, ex.tk hk rfl rfl, rfl, ex, ?_⟩
  rcases OTG_5.mp ((OTG_ef (m' := 5) (i' := 362) (by decide) (by decide)).mp oy.2) with z | ⟨bb, z1, z2⟩
  · exact Or.inl z
  · rcases hy with rfl | hy
    · obtain ⟨kk, yy, e⟩ := OTG_0 z2
      cases e
    · exact Or.inr ⟨hy, bb, z1, z2⟩
theorem c_rdata {l : List Nat} (k : RowC h r l n) (hb : l[i]? = some b) (hk : hK h b = 47) : C G mX7_data (d + 1) [.ref r, .int (nI i)] h (Ret (.ref b) h) := by
  refine bX7_data G d h _ _ _ ⟨k.1, C.mono (c_get k hb) ?_⟩
  rintro _ _ ⟨rfl, rfl⟩
  exact KR.i ⟨hk, rfl, rfl⟩
theorem c_rcon {l : List Nat} (k : RowC h r l n) (hb : l[i]? = some b) (hk : hK h b = 52) : C G mX7_con (d + 1) [.ref r, .int (nI i)] h (Ret (.ref b) h) := by
  refine bX7_con G d h _ _ _ ⟨k.1, C.mono (c_get k hb) ?_⟩
  rintro _ _ ⟨rfl, rfl⟩
  exact KR.i ⟨hk, rfl, rfl⟩
end
