/-! THE COMPONENT'S RESOLVER: expressions whose parts lie in fields and arrays -/
section
variable {G : Gh} {d : Nat} {W N : Nat → Prop} {h h1 h2 h3 h5 h' : AH} {ts : List (Nat × Nat × Nat)} {t i n nb nb' nb1 nb2 r q g fr ba lo hi m m0 m1 m2 lo1 hi1 b k c arr : Nat} {v : Int} {Z Z' Z1 Z2 : Zt} {D D' D1 D2 : Dm} {O : List (Nat × Nat) × List (Nat × Nat)} {s s0 s' s1 s2 s5 : RSt} {x y e x' a' b' : Tr} {l l1 l2 : List Tr} {f : Nat → Option Nat} {A : Zt → Dm → AH → Prop} {K : Nat → Nat}
/-- leaves that hold no name -/
theorem exp_leaf (ri : rI G W ts O h Z D s nb lo hi) (hx : TR lo hi x) (ot : OTG (X0 ts W h) W h x 0 0 q) (hk : (∃ k t, (k = 5 ∨ k = 6 ∨ k = 7) ∧ x = n0 (k : Nat) t) ∨ ∃ k t v, (k = 3 ∨ k = 4) ∧ x = n1 (k : Nat) t (.num v)) : rP G W ts O h Z D nb lo hi (rA ts W O lo hi x q) s (.returned none) h := by
  refine rP_rf ri ⟨hx, ?_⟩
  rcases hk with ⟨k, t, hk, rfl⟩ | ⟨k, t, v, hk, rfl⟩
  · obtain ⟨a1, a2, a3⟩ := (OTG_n0 (by omega) (by omega)).mp ot
    exact (OTG_n0 (by omega) (by omega)).mpr ⟨a1, a2, a3.1, ANN_no (by omega)⟩
  · obtain ⟨a1, a2, a3, a4⟩ := (OTG_nd (by omega) (by omega)).mp ot
    refine (OTG_nd (by omega) (by omega)).mpr ⟨a1, a2, ⟨a3.1, ANN_no (by omega)⟩, ?_⟩
    rcases hk with rfl | rfl <;> exact R7 (by decide) (Or.inl ⟨_, rfl⟩)
theorem shE_node {g : Nat} (k : shE (Vl ts) n g y) : ∃ kk z, y = .mulL kk z := by
  cases n with
  | zero => exact k.elim
  | succ n =>
    unfold shE at k
    split at k
    · rcases k with ⟨k, t, v, -, rfl⟩ | ⟨k, t, -, rfl⟩ | ⟨k, t, l, -, rfl, -⟩ | ⟨t, ds, e, rfl, -⟩ | ⟨t, l, rfl, -⟩ | ⟨t, e, l, rfl, -⟩ | ⟨t, a, b, c, rfl, -⟩ | ⟨t, e, l, rfl, -⟩ | ⟨t, e, ps, rfl, -⟩ | ⟨k, t, a, b, -, rfl, -⟩ | ⟨t, y, rfl, -⟩ <;> exact ⟨_, _, rfl⟩
    · split at k
      · obtain ⟨t, v, ps, e, rfl, -⟩ := k
        exact ⟨_, _, rfl⟩
      · rcases k with ⟨t, p, e, rfl, -⟩ | ⟨t, fs, rfl, -⟩ | ⟨t, ds, rfl, -⟩ <;> exact ⟨_, _, rfl⟩
/-- the kinds of an expression's objects -/
theorem shE_kind : ∀ n x q, shE (Vl ts) n 0 x → OTG (X0 ts W h) W h x 0 0 q → ¬ (19 ≤ hK h q ∧ hK h q ≤ 27) := by
  intro n
  induction n with
  | zero => intro x q hs; exact hs.elim
  | succ n ih =>
    intro x q hs ot
    have K1 : ∀ k t y, k < 1000 → k ≠ 19 → x = n1 (k : Nat) t y → (∀ c, c ∈ kc k → ¬ (19 ≤ c ∧ c ≤ 27)) → ¬ (19 ≤ hK h q ∧ hK h q ≤ 27) := by
      intro k t y h1 h2 e hc
      rw [e] at ot
      exact hc _ ((OTG_nd h1 h2).mp ot).2.1
    unfold shE at hs
    rw [if_pos rfl] at hs
    rcases hs with ⟨k, t, v, hk, rfl⟩ | ⟨k, t, hk, rfl⟩ | ⟨k, t, l, hk, rfl, -⟩ | ⟨t, ds, e, rfl, -⟩ | ⟨t, l, rfl, -⟩ | ⟨t, e, l, rfl, -⟩ | ⟨t, a, b, c, rfl, -⟩ | ⟨t, e, l, rfl, -⟩ | ⟨t, e, ps, rfl, -⟩ | ⟨k, t, a, b, hk, rfl, -⟩ | ⟨t, y, rfl, hy⟩
    · exact K1 k t _ (by omega) (by omega) rfl (by rcases hk with rfl | rfl | rfl | rfl <;> decide)
    · have := ((OTG_n0 (by omega) (by omega)).mp ot).2.1
      rcases hk with rfl | rfl | rfl
      · exact (show ∀ c, c ∈ kc 5 → ¬ (19 ≤ c ∧ c ≤ 27) by decide) _ this
      · exact (show ∀ c, c ∈ kc 6 → ¬ (19 ≤ c ∧ c ≤ 27) by decide) _ this
      · exact (show ∀ c, c ∈ kc 7 → ¬ (19 ≤ c ∧ c ≤ 27) by decide) _ this
    · exact K1 k t _ (by omega) (by omega) rfl (by rcases hk with rfl | rfl | rfl <;> decide)
    · exact K1 11 t _ (by decide) (by decide) rfl (by decide)
    · exact K1 12 t _ (by decide) (by decide) rfl (by decide)
    · exact K1 13 t _ (by decide) (by decide) rfl (by decide)
    · exact K1 14 t _ (by decide) (by decide) rfl (by decide)
    · exact K1 15 t _ (by decide) (by decide) rfl (by decide)
    · exact K1 16 t _ (by decide) (by decide) rfl (by decide)
    · exact K1 k t _ (by omega) (by omega) rfl (by rcases hk with rfl | rfl <;> decide)
    · obtain ⟨-, -, -, a4, a5⟩ := (OTG_ndg (k := 19) (by decide)).mp ot
      obtain ⟨c, c1, c2, c3, c4⟩ := a5 rfl
      rw [OTG_ef (m' := 6) (i' := 0) (by decide) (by decide), OTG_6] at a4
      obtain ⟨b, b1, b2⟩ := a4
      cases b1.symm.trans c3
      have := ih y c hy b2
      omega
theorem exp_grp (hE : ER G W ts O n d) (hw : wf (Kd ts) (n1 19 t y) lo hi) (hy : shE (Vl ts) n 0 y) (ot : OTG (X0 ts W h) W h (n1 19 t y) 0 0 q) (ri : rI G W ts O h Z D s nb lo hi) : C G mX39_resolve (d + 7) [.ref q, .ref (gW G 4)] h (rP G W ts O h Z D nb lo hi (rA ts W O lo hi (rs (Pl ts) (knO O) (n + 1) 0 (n1 19 t y) s).1 q) (rs (Pl ts) (knO O) (n + 1) 0 (n1 19 t y) s).2) ∧ hK h q = 37 := by
  obtain ⟨ht, -, m0, hm1, hm2, hw0⟩ := wf_nd (k := 19) (by decide) hw
  obtain ⟨hWq, hkq, ⟨ex, -⟩, oy, g19⟩ := (OTG_ndg (k := 19) (by decide)).mp ot
  have hkk : ¬ (19 ≤ hK h q ∧ hK h q ≤ 27) := shE_kind (n + 1) (n1 19 t y) q (by unfold shE; rw [if_pos rfl]; exact Or.inr (Or.inr (Or.inr (Or.inr (Or.inr (Or.inr (Or.inr (Or.inr (Or.inr (Or.inr ⟨t, y, rfl, hy⟩)))))))))) ot
  have hk : hK h q = 37 := by
    have : hK h q = 25 ∨ hK h q = 37 := by simpa [kc] using hkq
    omega
  obtain ⟨b1, e1, o1⟩ := OTG_6.mp ((OTG_ef (m' := 6) (i' := 0) (by decide) (by decide)).mp oy)
  rw [hk, if_neg (by decide)] at e1
  refine ⟨?_, hk⟩
  have eR : rs (Pl ts) (knO O) (n + 1) 0 (n1 19 t y) s = (n1 19 t (rs (Pl ts) (knO O) n 0 y s).1, (rs (Pl ts) (knO O) n 0 y s).2) := rfl
  rw [eR]
  have M0 := rM.ini ri hm1 hm2
  obtain ⟨kc1, ν1, v1, v2, v3⟩ := hE y m0 hi b1 h s Z D nb hy hw0 o1 (M0.ri ri hm2 (Nat.le_refl _))
  refine bX39_resolve G (d + 6) h _ _ ⟨hk, b1, e1, kc1, ν1, v1, v2, C.mono v3 ?_⟩
  rintro _ h2 ⟨rfl, Z1, D1, nb1, a1, a2, a3, ⟨a4, a4'⟩, a5, a6, a7, a8, a9, a10, a11⟩
  have M1 := M0.stp hm2 (Nat.le_refl _) a1 a2 a3 a5 a6 a7 a8 a9 a10 a11
  have u1 := (M1.2.2.2.1.2 q hWq).1
  refine KV.i (M1.fin ⟨TR_nd ht.1 ht.2 (TR.mono _ _ _ _ _ a4 hm1 (Nat.le_refl _)), ?_⟩)
  refine (OTG_ndg (k := 19) (by decide)).mpr ⟨hWq, by rw [u1.1, hk]; decide, ⟨(ex.mv (fun a ha _ => (M1.2.2.2.1.2 a ha).1) u1).ch (by decide), ANN_no (by decide)⟩, (OTG_ef (m' := 6) (i' := 0) (by decide) (by decide)).mpr (OTG_6.mpr ⟨b1, ?_, a4'⟩), g19.mvs (fun a ha _ => ⟨(M1.2.2.2.1.2 a ha).1, ha⟩) u1⟩
  rw [u1.1, hk, if_neg (by decide)]
  exact ((u1.2.2.2.2.2 332 (by decide)).2.2).trans e1
theorem exp_sg17 {a b : Tr} (hE : ER G W ts O n d) (hw : wf (Kd ts) (n2 17 t a b) lo hi) (ha : shE (Vl ts) n 0 a) (hb : shE (Vl ts) n 0 b) (ot : OTG (X0 ts W h) W h (n2 17 t a b) 0 0 q) (ri : rI G W ts O h Z D s nb lo hi) : C G mX45_resolve (d + 7) [.ref q, .ref (gW G 4)] h (rP G W ts O h Z D nb lo hi (rA ts W O lo hi (rs (Pl ts) (knO O) (n + 1) 0 (n2 17 t a b) s).1 q) (rs (Pl ts) (knO O) (n + 1) 0 (n2 17 t a b) s).2) ∧ hK h q = 42 := by
  obtain ⟨ht, -, m0, hm1, hm2, hw0⟩ := wf_nd (k := 17) (y := .add a b) (by decide) hw
  unfold wf at hw0
  obtain ⟨m, hm3, hm4, hwa, hwb⟩ := hw0
  obtain ⟨hWq, hkq, ⟨ex, -⟩, oy⟩ := (OTG_nd (k := 17) (by decide)).mp ot
  have hk : hK h q = 42 := by simpa [kc] using hkq
  rw [OTG_c2 (by decide) (by decide)] at oy
  obtain ⟨b1, e1, o1⟩ := OTG_f.mp oy.1
  obtain ⟨b2, e2, o2⟩ := OTG_f.mp ((OTG_ef (m' := 1) (i' := 338) (by decide) (by decide)).mp oy.2)
  refine ⟨?_, hk⟩
  have eR : rs (Pl ts) (knO O) (n + 1) 0 (n2 17 t a b) s = (n2 17 t (rs (Pl ts) (knO O) n 0 a s).1 (rs (Pl ts) (knO O) n 0 b (rs (Pl ts) (knO O) n 0 a s).2).1, (rs (Pl ts) (knO O) n 0 b (rs (Pl ts) (knO O) n 0 a s).2).2) := rfl
  rw [eR]
  have M0 := rM.ini ri hm1 hm2
  obtain ⟨kc1, ν1, v1, v2, v3⟩ := hE a m0 m b1 h s Z D nb ha hwa o1 (M0.ri ri hm3 hm4)
  refine bX45_resolve G (d + 6) h _ _ ⟨hk, b1, e1, kc1, ν1, v1, v2, C.mono v3 ?_⟩
  rintro _ h2 ⟨rfl, Z1, D1, nb1, a1, a2, a3, ⟨a4, a4'⟩, a5, a6, a7, a8, a9, a10, a11⟩
  have M1 := M0.stp hm3 hm4 a1 a2 a3 a5 a6 a7 a8 a9 a10 a11
  have u1 := (M1.2.2.2.1.2 q hWq).1
  have hTb : TR m hi b := wf.tr _ _ _ hwb
  obtain ⟨kc2, ν2, w1, w2, w3⟩ := hE b m hi b2 h2 _ Z1 D1 nb1 hb hwb (o2.k0 a5 ri.2.1.1 hTb) (M1.ri ri hm4 (Nat.le_refl _))
  refine KV.i ⟨b2, ((u1.2.2.2.2.2 338 (by decide)).2.2).trans e2, kc2, ν2, w1, w2, C.mono w3 ?_⟩
  rintro _ h3 ⟨rfl, Z2, D2, nb2, c1, c2, c3, ⟨c4, c4'⟩, c5, c6, c7, c8, c9, c10, c11⟩
  have M2 := M1.stp hm4 (Nat.le_refl _) c1 c2 c3 c5 c6 c7 c8 c9 c10 c11
  have u2 := (M2.2.2.2.1.2 q hWq).1
  refine KV.i (M2.fin ⟨TR_nd (y := .add _ _) ht.1 ht.2 ⟨TR.mono _ _ _ _ _ a4 hm1 hm4, TR.mono _ _ _ _ _ c4 (by omega) (Nat.le_refl _)⟩, ?_⟩)
  exact (OTG_nd (k := 17) (by decide)).mpr ⟨hWq, by rw [u2.1, hk]; decide, ⟨(ex.mv (fun a ha _ => (M2.2.2.2.1.2 a ha).1) u2).ch (by decide), ANN_no (by decide)⟩, (OTG_c2 (by decide) (by decide)).mpr ⟨OTG_f.mpr ⟨b1, ((u2.2.2.2.2.2 337 (by decide)).2.2).trans e1, a4'.k1 c5 c6 (Or.inl (Nat.le_refl _)) a4⟩, (OTG_ef (m' := 1) (i' := 338) (by decide) (by decide)).mpr (OTG_f.mpr ⟨b2, ((u2.2.2.2.2.2 338 (by decide)).2.2).trans e2, c4'⟩)⟩⟩
theorem exp_sg18 {a b : Tr} (hE : ER G W ts O n d) (hw : wf (Kd ts) (n2 18 t a b) lo hi) (ha : shE (Vl ts) n 0 a) (hb : shE (Vl ts) n 0 b) (ot : OTG (X0 ts W h) W h (n2 18 t a b) 0 0 q) (ri : rI G W ts O h Z D s nb lo hi) : C G mX45_resolve (d + 7) [.ref q, .ref (gW G 4)] h (rP G W ts O h Z D nb lo hi (rA ts W O lo hi (rs (Pl ts) (knO O) (n + 1) 0 (n2 18 t a b) s).1 q) (rs (Pl ts) (knO O) (n + 1) 0 (n2 18 t a b) s).2) ∧ hK h q = 42 := by
  obtain ⟨ht, -, m0, hm1, hm2, hw0⟩ := wf_nd (k := 18) (y := .add a b) (by decide) hw
  unfold wf at hw0
  obtain ⟨m, hm3, hm4, hwa, hwb⟩ := hw0
  obtain ⟨hWq, hkq, ⟨ex, -⟩, oy⟩ := (OTG_nd (k := 18) (by decide)).mp ot
  have hk : hK h q = 42 := by simpa [kc] using hkq
  rw [OTG_c2 (by decide) (by decide)] at oy
  obtain ⟨b1, e1, o1⟩ := OTG_f.mp oy.1
  obtain ⟨b2, e2, o2⟩ := OTG_f.mp ((OTG_ef (m' := 1) (i' := 338) (by decide) (by decide)).mp oy.2)
  refine ⟨?_, hk⟩
  have eR : rs (Pl ts) (knO O) (n + 1) 0 (n2 18 t a b) s = (n2 18 t (rs (Pl ts) (knO O) n 0 a s).1 (rs (Pl ts) (knO O) n 0 b (rs (Pl ts) (knO O) n 0 a s).2).1, (rs (Pl ts) (knO O) n 0 b (rs (Pl ts) (knO O) n 0 a s).2).2) := rfl
  rw [eR]
  have M0 := rM.ini ri hm1 hm2
  obtain ⟨kc1, ν1, v1, v2, v3⟩ := hE a m0 m b1 h s Z D nb ha hwa o1 (M0.ri ri hm3 hm4)
  refine bX45_resolve G (d + 6) h _ _ ⟨hk, b1, e1, kc1, ν1, v1, v2, C.mono v3 ?_⟩
  rintro _ h2 ⟨rfl, Z1, D1, nb1, a1, a2, a3, ⟨a4, a4'⟩, a5, a6, a7, a8, a9, a10, a11⟩
  have M1 := M0.stp hm3 hm4 a1 a2 a3 a5 a6 a7 a8 a9 a10 a11
  have u1 := (M1.2.2.2.1.2 q hWq).1
  have hTb : TR m hi b := wf.tr _ _ _ hwb
  obtain ⟨kc2, ν2, w1, w2, w3⟩ := hE b m hi b2 h2 _ Z1 D1 nb1 hb hwb (o2.k0 a5 ri.2.1.1 hTb) (M1.ri ri hm4 (Nat.le_refl _))
  refine KV.i ⟨b2, ((u1.2.2.2.2.2 338 (by decide)).2.2).trans e2, kc2, ν2, w1, w2, C.mono w3 ?_⟩
  rintro _ h3 ⟨rfl, Z2, D2, nb2, c1, c2, c3, ⟨c4, c4'⟩, c5, c6, c7, c8, c9, c10, c11⟩
  have M2 := M1.stp hm4 (Nat.le_refl _) c1 c2 c3 c5 c6 c7 c8 c9 c10 c11
  have u2 := (M2.2.2.2.1.2 q hWq).1
  refine KV.i (M2.fin ⟨TR_nd (y := .add _ _) ht.1 ht.2 ⟨TR.mono _ _ _ _ _ a4 hm1 hm4, TR.mono _ _ _ _ _ c4 (by omega) (Nat.le_refl _)⟩, ?_⟩)
  exact (OTG_nd (k := 18) (by decide)).mpr ⟨hWq, by rw [u2.1, hk]; decide, ⟨(ex.mv (fun a ha _ => (M2.2.2.2.1.2 a ha).1) u2).ch (by decide), ANN_no (by decide)⟩, (OTG_c2 (by decide) (by decide)).mpr ⟨OTG_f.mpr ⟨b1, ((u2.2.2.2.2.2 337 (by decide)).2.2).trans e1, a4'.k1 c5 c6 (Or.inl (Nat.le_refl _)) a4⟩, (OTG_ef (m' := 1) (i' := 338) (by decide) (by decide)).mpr (OTG_f.mpr ⟨b2, ((u2.2.2.2.2.2 338 (by decide)).2.2).trans e2, c4'⟩)⟩⟩
theorem exp_if {a b c : Tr} (hE : ER G W ts O n d) (hw : wf (Kd ts) (n3 14 t a b c) lo hi) (ha : shE (Vl ts) n 0 a) (hb : shE (Vl ts) n 0 b) (hc : shE (Vl ts) n 0 c) (ot : OTG (X0 ts W h) W h (n3 14 t a b c) 0 0 q) (ri : rI G W ts O h Z D s nb lo hi) : C G mX34_resolve (d + 7) [.ref q, .ref (gW G 4)] h (rP G W ts O h Z D nb lo hi (rA ts W O lo hi (rs (Pl ts) (knO O) (n + 1) 0 (n3 14 t a b c) s).1 q) (rs (Pl ts) (knO O) (n + 1) 0 (n3 14 t a b c) s).2) ∧ hK h q = 32 := by
  obtain ⟨ht, -, m0, hm1, hm2, hw0⟩ := wf_nd (k := 14) (y := .add a (.add b c)) (by decide) hw
  unfold wf at hw0
  obtain ⟨m, hm3, hm4, hwa, hw1⟩ := hw0
  unfold wf at hw1
  obtain ⟨m', hm5, hm6, hwb, hwc⟩ := hw1
  obtain ⟨hWq, hkq, ⟨ex, -⟩, oy⟩ := (OTG_nd (k := 14) (by decide)).mp ot
  have hk : hK h q = 32 := by simpa [kc] using hkq
  rw [OTG_c2 (by decide) (by decide)] at oy
  obtain ⟨b1, e1, o1⟩ := OTG_f.mp oy.1
  have oy2 := (OTG_c2 (by decide) (by decide)).mp oy.2
  obtain ⟨b2, e2, o2⟩ := OTG_f.mp oy2.1
  obtain ⟨b3, e3, o3⟩ := OTG_f.mp ((OTG_ef (m' := 1) (i' := 325) (by decide) (by decide)).mp oy2.2)
  refine ⟨?_, hk⟩
  have eR : rs (Pl ts) (knO O) (n + 1) 0 (n3 14 t a b c) s = (n3 14 t (rs (Pl ts) (knO O) n 0 a s).1 (rs (Pl ts) (knO O) n 0 b (rs (Pl ts) (knO O) n 0 a s).2).1 (rs (Pl ts) (knO O) n 0 c (rs (Pl ts) (knO O) n 0 b (rs (Pl ts) (knO O) n 0 a s).2).2).1, (rs (Pl ts) (knO O) n 0 c (rs (Pl ts) (knO O) n 0 b (rs (Pl ts) (knO O) n 0 a s).2).2).2) := rfl
  rw [eR]
  have M0 := rM.ini ri hm1 hm2
  obtain ⟨kc1, ν1, v1, v2, v3⟩ := hE a m0 m b1 h s Z D nb ha hwa o1 (M0.ri ri hm3 hm4)
  refine bX34_resolve G (d + 6) h _ _ ⟨hk, b1, e1, kc1, ν1, v1, v2, C.mono v3 ?_⟩
  rintro _ h2 ⟨rfl, Z1, D1, nb1, a1, a2, a3, ⟨a4, a4'⟩, a5, a6, a7, a8, a9, a10, a11⟩
  have M1 := M0.stp hm3 hm4 a1 a2 a3 a5 a6 a7 a8 a9 a10 a11
  have u1 := (M1.2.2.2.1.2 q hWq).1
  have hTb : TR m m' b := wf.tr _ _ _ hwb
  have hTc : TR m' hi c := wf.tr _ _ _ hwc
  obtain ⟨kc2, ν2, w1, w2, w3⟩ := hE b m m' b2 h2 _ Z1 D1 nb1 hb hwb (o2.k0 a5 ri.2.1.1 hTb) (M1.ri ri hm5 hm6)
  refine KV.i ⟨b2, ((u1.2.2.2.2.2 324 (by decide)).2.2).trans e2, kc2, ν2, w1, w2, C.mono w3 ?_⟩
  rintro _ h3 ⟨rfl, Z2, D2, nb2, c1, c2, c3, ⟨c4, c4'⟩, c5, c6, c7, c8, c9, c10, c11⟩
  have M2 := M1.stp hm5 hm6 c1 c2 c3 c5 c6 c7 c8 c9 c10 c11
  have u2 := (M2.2.2.2.1.2 q hWq).1
  obtain ⟨kc3, ν3, x1, x2, x3⟩ := hE c m' hi b3 h3 _ Z2 D2 nb2 hc hwc ((o3.k0 a5 ri.2.1.1 hTc).k0 c5 a2.1 hTc) (M2.ri ri hm6 (Nat.le_refl _))
  refine KV.i ⟨b3, ((u2.2.2.2.2.2 325 (by decide)).2.2).trans e3, kc3, ν3, x1, x2, C.mono x3 ?_⟩
  rintro _ h4 ⟨rfl, Z3, D3, nb3, d1, d2, d3, ⟨d4, d4'⟩, d5, d6, d7, d8, d9, d10, d11⟩
  have M3 := M2.stp hm6 (Nat.le_refl _) d1 d2 d3 d5 d6 d7 d8 d9 d10 d11
  have u3 := (M3.2.2.2.1.2 q hWq).1
  refine KV.i (M3.fin ⟨TR_nd (y := .add _ (.add _ _)) ht.1 ht.2 ⟨TR.mono _ _ _ _ _ a4 hm1 hm4, TR.mono _ _ _ _ _ c4 (by omega) hm6, TR.mono _ _ _ _ _ d4 (by omega) (Nat.le_refl _)⟩, ?_⟩)
  exact (OTG_nd (k := 14) (by decide)).mpr ⟨hWq, by rw [u3.1, hk]; decide, ⟨(ex.mv (fun a ha _ => (M3.2.2.2.1.2 a ha).1) u3).ch (by decide), ANN_no (by decide)⟩, (OTG_c2 (by decide) (by decide)).mpr ⟨OTG_f.mpr ⟨b1, ((u3.2.2.2.2.2 323 (by decide)).2.2).trans e1, (a4'.k1 c5 c6 (Or.inl (Nat.le_refl _)) a4).k1 d5 d6 (Or.inl hm5) a4⟩, (OTG_c2 (by decide) (by decide)).mpr ⟨OTG_f.mpr ⟨b2, ((u3.2.2.2.2.2 324 (by decide)).2.2).trans e2, c4'.k1 d5 d6 (Or.inl (Nat.le_refl _)) c4⟩, (OTG_ef (m' := 1) (i' := 325) (by decide) (by decide)).mpr (OTG_f.mpr ⟨b3, ((u3.2.2.2.2.2 325 (by decide)).2.2).trans e3, d4'⟩)⟩⟩⟩
theorem arr40 (hE : ER G W ts O n d) (ri : rI G W ts O h Z D s nb lo hi) (hWq : W q) (hHF : ∀ h1, hK h1 q = hK h q → HF h1 q 333 2) (eA : ArF W h q 333 arr) {Q : Outcome → AH → Prop} {F : List Tr} {sF : RSt}
    (hQ : ∀ m h1 Z1 D1 nb1, rM G W ts O h Z D nb lo hi h1 Z1 D1 sF nb1 m → LZ ts W O (aR h arr) F [] m0 m hi Z1 D1 h1 → Q (.returned none) h1) :
    ∀ l2 l1 m h1 s1 Z1 D1 nb1, rM G W ts O h Z D nb lo hi h1 Z1 D1 s1 nb1 m → LZ ts W O (aR h arr) l1 l2 m0 m hi Z1 D1 h1 → (∀ y, y ∈ l2 → shE (Vl ts) n 0 y) → hL h arr = l1.length + l2.length → l1.length + l2.length < 100000 → F = l1 ++ (rLs (rs (Pl ts) (knO O) n 0) l2 s1).1 → sF = (rLs (rs (Pl ts) (knO O) n 0) l2 s1).2 →
    X G mX40_resolve (d + 7) none [] 2 [(0, .ref q), (1, .ref (gW G 4)), (2, .int (nI l1.length))] [] h1 Q := by
  obtain ⟨eA1, eA2, eA3⟩ := eA
  intro l2
  induction l2 with
  | nil =>
    intro l1 m h1 s1 Z1 D1 nb1 M L hs hlen hlt eF eS
    have u1 := (M.2.2.2.1.2 q hWq).1
    have ua := (M.2.2.2.1.2 arr eA3).1
    refine bX40_resolve_2 G (d + 6) h1 _ _ _ ⟨hHF h1 u1.1, arr, ((u1.2.2.2.2.2 333 (by decide)).2.2).trans eA1, ua.1.trans eA2, ?_⟩
    rw [ua.2.1, hlen, show Int32.ofNat (l1.length + ([] : List Tr).length) = nI (l1.length + ([] : List Tr).length) from rfl, nI_leI (by simp at hlt ⊢; omega) (by simp at hlt ⊢; omega)]
    refine ⟨fun _ => ?_, fun z => absurd (by simp) z⟩
    change F = l1 ++ [] at eF
    change sF = s1 at eS
    rw [List.append_nil] at eF
    subst eF eS
    exact hQ m h1 Z1 D1 nb1 M L
  | cons x2 l2 IH =>
    intro l1 m h1 s1 Z1 D1 nb1 M L hs hlen hlt eF eS
    have u1 := (M.2.2.2.1.2 q hWq).1
    have ua := (M.2.2.2.1.2 arr eA3).1
    simp only [List.length_cons] at hlen hlt
    obtain ⟨m2, b, hm, hm2, hw2, fb, ob, nxt⟩ := L.nxt
    refine bX40_resolve_2 G (d + 6) h1 _ _ _ ⟨hHF h1 u1.1, arr, ((u1.2.2.2.2.2 333 (by decide)).2.2).trans eA1, ua.1.trans eA2, ?_⟩
    rw [ua.2.1, hlen, show Int32.ofNat (l1.length + (l2.length + 1)) = nI (l1.length + (l2.length + 1)) from rfl, nI_leI (by omega) (by omega)]
    refine ⟨fun z => by omega, fun _ => ?_⟩
    rw [nI_cn (by omega)]
    obtain ⟨kc1, ν1, v1, v2, v3⟩ := hE x2 m m2 b h1 s1 Z1 D1 nb1 (hs x2 (List.mem_cons_self ..)) hw2 ob (M.ri ri hm hm2)
    refine ⟨hHF h1 u1.1, arr, ((u1.2.2.2.2.2 333 (by decide)).2.2).trans eA1, ua.1.trans eA2, (by rw [ua.2.1]; exact vp_in_nI (by omega) (by omega)), b, by rw [ua.2.2.2.2.1]; exact fb, kc1, ν1, v1, v2, C.mono v3 ?_⟩
    rintro _ h2 ⟨rfl, Z2, D2, nb2, a1, a2, a3, ⟨a4, a4'⟩, a5, a6, a7, a8, a9, a10, a11⟩
    have M2 := M.stp hm hm2 a1 a2 a3 a5 a6 a7 a8 a9 a10 a11
    have L2 := nxt h2 Z2 D2 _ M.2.1.1 a5 a6 a4 a4'
    refine KV.i ?_
    rintro _ rfl
    rw [nI_1]
    have := IH (l1 ++ [(rs (Pl ts) (knO O) n 0 x2 s1).1]) m2 h2 (rs (Pl ts) (knO O) n 0 x2 s1).2 Z2 D2 nb2 M2 L2 (fun y hy => hs y (List.mem_cons_of_mem _ hy)) (by rw [List.length_append, List.length_singleton]; omega) (by rw [List.length_append, List.length_singleton]; omega) (by rw [eF, List.append_assoc, List.singleton_append]; rfl) eS
    rw [List.length_append, List.length_singleton] at this
    exact this
theorem arr44 (hE : ER G W ts O n d) (ri : rI G W ts O h Z D s nb lo hi) (hWq : W q) (hk : hK h q = 41) (eA : ArF W h q 335 arr) {Q : Outcome → AH → Prop} {F : List Tr} {sF : RSt}
    (hQ : ∀ m h1 Z1 D1 nb1, rM G W ts O h Z D nb lo hi h1 Z1 D1 sF nb1 m → LZ ts W O (aR h arr) F [] m0 m hi Z1 D1 h1 → Q (.returned none) h1) :
    ∀ l2 l1 m h1 s1 Z1 D1 nb1, rM G W ts O h Z D nb lo hi h1 Z1 D1 s1 nb1 m → LZ ts W O (aR h arr) l1 l2 m0 m hi Z1 D1 h1 → (∀ y, y ∈ l2 → shE (Vl ts) n 0 y) → hL h arr = l1.length + l2.length → l1.length + l2.length < 100000 → F = l1 ++ (rLs (rs (Pl ts) (knO O) n 0) l2 s1).1 → sF = (rLs (rs (Pl ts) (knO O) n 0) l2 s1).2 →
    X G mX44_resolve (d + 7) none [] 10 [(0, .ref q), (1, .ref (gW G 4)), (2, .int (nI l1.length))] [] h1 Q := by
  obtain ⟨eA1, eA2, eA3⟩ := eA
  intro l2
  induction l2 with
  | nil =>
    intro l1 m h1 s1 Z1 D1 nb1 M L hs hlen hlt eF eS
    have u1 := (M.2.2.2.1.2 q hWq).1
    have ua := (M.2.2.2.1.2 arr eA3).1
    refine bX44_resolve_10 G (d + 6) h1 _ _ _ ⟨u1.1.trans hk, arr, ((u1.2.2.2.2.2 335 (by decide)).2.2).trans eA1, ua.1.trans eA2, ?_⟩
    rw [ua.2.1, hlen, show Int32.ofNat (l1.length + ([] : List Tr).length) = nI (l1.length + ([] : List Tr).length) from rfl, nI_leI (by simp at hlt ⊢; omega) (by simp at hlt ⊢; omega)]
    refine ⟨fun _ => ?_, fun z => absurd (by simp) z⟩
    change F = l1 ++ [] at eF
    change sF = s1 at eS
    rw [List.append_nil] at eF
    subst eF eS
    exact hQ m h1 Z1 D1 nb1 M L
  | cons x2 l2 IH =>
    intro l1 m h1 s1 Z1 D1 nb1 M L hs hlen hlt eF eS
    have u1 := (M.2.2.2.1.2 q hWq).1
    have ua := (M.2.2.2.1.2 arr eA3).1
    simp only [List.length_cons] at hlen hlt
    obtain ⟨m2, b, hm, hm2, hw2, fb, ob, nxt⟩ := L.nxt
    refine bX44_resolve_10 G (d + 6) h1 _ _ _ ⟨u1.1.trans hk, arr, ((u1.2.2.2.2.2 335 (by decide)).2.2).trans eA1, ua.1.trans eA2, ?_⟩
    rw [ua.2.1, hlen, show Int32.ofNat (l1.length + (l2.length + 1)) = nI (l1.length + (l2.length + 1)) from rfl, nI_leI (by omega) (by omega)]
    refine ⟨fun z => by omega, fun _ => ?_⟩
    rw [nI_cn (by omega)]
    obtain ⟨kc1, ν1, v1, v2, v3⟩ := hE x2 m m2 b h1 s1 Z1 D1 nb1 (hs x2 (List.mem_cons_self ..)) hw2 ob (M.ri ri hm hm2)
    refine ⟨arr, ((u1.2.2.2.2.2 335 (by decide)).2.2).trans eA1, ua.1.trans eA2, (by rw [ua.2.1]; exact vp_in_nI (by omega) (by omega)), b, by rw [ua.2.2.2.2.1]; exact fb, kc1, ν1, v1, v2, C.mono v3 ?_⟩
    rintro _ h2 ⟨rfl, Z2, D2, nb2, a1, a2, a3, ⟨a4, a4'⟩, a5, a6, a7, a8, a9, a10, a11⟩
    have M2 := M.stp hm hm2 a1 a2 a3 a5 a6 a7 a8 a9 a10 a11
    have L2 := nxt h2 Z2 D2 _ M.2.1.1 a5 a6 a4 a4'
    refine KV.i ?_
    rintro _ rfl
    rw [nI_1]
    have := IH (l1 ++ [(rs (Pl ts) (knO O) n 0 x2 s1).1]) m2 h2 (rs (Pl ts) (knO O) n 0 x2 s1).2 Z2 D2 nb2 M2 L2 (fun y hy => hs y (List.mem_cons_of_mem _ hy)) (by rw [List.length_append, List.length_singleton]; omega) (by rw [List.length_append, List.length_singleton]; omega) (by rw [eF, List.append_assoc, List.singleton_append]; rfl) eS
    rw [List.length_append, List.length_singleton] at this
    exact this
theorem arr47 (hE : ER G W ts O n d) (ri : rI G W ts O h Z D s nb lo hi) (hWq : W q) (hk : hK h q = 44) (eA : ArF W h q 343 arr) {Q : Outcome → AH → Prop} {F : List Tr} {sF : RSt}
    (hQ : ∀ m h1 Z1 D1 nb1, rM G W ts O h Z D nb lo hi h1 Z1 D1 sF nb1 m → LZ ts W O (aR h arr) F [] m0 m hi Z1 D1 h1 → Q (.returned none) h1) :
    ∀ l2 l1 m h1 s1 Z1 D1 nb1, rM G W ts O h Z D nb lo hi h1 Z1 D1 s1 nb1 m → LZ ts W O (aR h arr) l1 l2 m0 m hi Z1 D1 h1 → (∀ y, y ∈ l2 → shE (Vl ts) n 0 y) → hL h arr = l1.length + l2.length → l1.length + l2.length < 100000 → F = l1 ++ (rLs (rs (Pl ts) (knO O) n 0) l2 s1).1 → sF = (rLs (rs (Pl ts) (knO O) n 0) l2 s1).2 →
    X G mX47_resolve (d + 7) none [] 10 [(0, .ref q), (1, .ref (gW G 4)), (2, .int (nI l1.length))] [] h1 Q := by
  obtain ⟨eA1, eA2, eA3⟩ := eA
  intro l2
  induction l2 with
  | nil =>
    intro l1 m h1 s1 Z1 D1 nb1 M L hs hlen hlt eF eS
    have u1 := (M.2.2.2.1.2 q hWq).1
    have ua := (M.2.2.2.1.2 arr eA3).1
    refine bX47_resolve_10 G (d + 6) h1 _ _ _ ⟨u1.1.trans hk, arr, ((u1.2.2.2.2.2 343 (by decide)).2.2).trans eA1, ua.1.trans eA2, ?_⟩
    rw [ua.2.1, hlen, show Int32.ofNat (l1.length + ([] : List Tr).length) = nI (l1.length + ([] : List Tr).length) from rfl, nI_leI (by simp at hlt ⊢; omega) (by simp at hlt ⊢; omega)]
    refine ⟨fun _ => ?_, fun z => absurd (by simp) z⟩
    change F = l1 ++ [] at eF
    change sF = s1 at eS
    rw [List.append_nil] at eF
    subst eF eS
    exact hQ m h1 Z1 D1 nb1 M L
  | cons x2 l2 IH =>
    intro l1 m h1 s1 Z1 D1 nb1 M L hs hlen hlt eF eS
    have u1 := (M.2.2.2.1.2 q hWq).1
    have ua := (M.2.2.2.1.2 arr eA3).1
    simp only [List.length_cons] at hlen hlt
    obtain ⟨m2, b, hm, hm2, hw2, fb, ob, nxt⟩ := L.nxt
    refine bX47_resolve_10 G (d + 6) h1 _ _ _ ⟨u1.1.trans hk, arr, ((u1.2.2.2.2.2 343 (by decide)).2.2).trans eA1, ua.1.trans eA2, ?_⟩
    rw [ua.2.1, hlen, show Int32.ofNat (l1.length + (l2.length + 1)) = nI (l1.length + (l2.length + 1)) from rfl, nI_leI (by omega) (by omega)]
    refine ⟨fun z => by omega, fun _ => ?_⟩
    rw [nI_cn (by omega)]
    obtain ⟨kc1, ν1, v1, v2, v3⟩ := hE x2 m m2 b h1 s1 Z1 D1 nb1 (hs x2 (List.mem_cons_self ..)) hw2 ob (M.ri ri hm hm2)
    refine ⟨arr, ((u1.2.2.2.2.2 343 (by decide)).2.2).trans eA1, ua.1.trans eA2, (by rw [ua.2.1]; exact vp_in_nI (by omega) (by omega)), b, by rw [ua.2.2.2.2.1]; exact fb, kc1, ν1, v1, v2, C.mono v3 ?_⟩
    rintro _ h2 ⟨rfl, Z2, D2, nb2, a1, a2, a3, ⟨a4, a4'⟩, a5, a6, a7, a8, a9, a10, a11⟩
    have M2 := M.stp hm hm2 a1 a2 a3 a5 a6 a7 a8 a9 a10 a11
    have L2 := nxt h2 Z2 D2 _ M.2.1.1 a5 a6 a4 a4'
    refine KV.i ?_
    rintro _ rfl
    rw [nI_1]
    have := IH (l1 ++ [(rs (Pl ts) (knO O) n 0 x2 s1).1]) m2 h2 (rs (Pl ts) (knO O) n 0 x2 s1).2 Z2 D2 nb2 M2 L2 (fun y hy => hs y (List.mem_cons_of_mem _ hy)) (by rw [List.length_append, List.length_singleton]; omega) (by rw [List.length_append, List.length_singleton]; omega) (by rw [eF, List.append_assoc, List.singleton_append]; rfl) eS
    rw [List.length_append, List.length_singleton] at this
    exact this
end
