/-! THE COMPONENT'S RESOLVER: all patterns -/
/-- in the midst of a tree's range: up to m all is resolved -/
def rM (G : Gh) (W : Nat → Prop) (ts : List (Nat × Nat × Nat)) (O : List (Nat × Nat) × List (Nat × Nat)) (h : AH) (Z : Zt) (D : Dm) (nb lo hi : Nat) (h1 : AH) (Z1 : Zt) (D1 : Dm) (s1 : RSt) (nb1 m : Nat) : Prop := RS G W h1 ts Z1 O s1 nb1 ∧ WB G W h1 ∧ VD s1 D1 ∧ KW W lo hi h h1 ∧ Ext Z Z1 D D1 ∧ (∀ t, D1.1 t → D.1 t ∨ (lo ≤ t ∧ t < m)) ∧ VN ts s1 ∧ nb1 ≤ 18200 ∧ pU h1 nb1 ≤ pU h nb + 200 * (m - lo) ∧ Le h h1 none ∧ lo ≤ m ∧ m ≤ hi
section
variable {G : Gh} {d : Nat} {W N : Nat → Prop} {h h1 h2 h5 h' : AH} {ts : List (Nat × Nat × Nat)} {t i n nb nb' nb1 nb2 r q g fr ba lo hi m m0 m2 lo1 hi1 b k c arr : Nat} {v : Int} {Z Z' Z1 Z2 : Zt} {D D' D1 D2 : Dm} {O : List (Nat × Nat) × List (Nat × Nat)} {s s' s1 s2 s5 : RSt} {x y x' a' b' : Tr} {l l1 l2 : List Tr} {f : Nat → Option Nat} {A : Zt → Dm → AH → Prop}
theorem rM.ini (ri : rI G W ts O h Z D s nb lo hi) (h1 : lo ≤ m) (h2 : m ≤ hi) : rM G W ts O h Z D nb lo hi h Z D s nb m :=
  ⟨ri.1, ri.2.1, ri.2.2.1, KW.rf, Ext.rf, fun t ht => Or.inl ht, ri.2.2.2.2.1, ri.2.2.2.2.2.1, Nat.le_add_right _ _, Le.rf0, h1, h2⟩
theorem rM.ri (k : rM G W ts O h Z D nb lo hi h1 Z1 D1 s1 nb1 m) (ri : rI G W ts O h Z D s nb lo hi) (hm : m ≤ m2) (hm2 : m2 ≤ hi) : rI G W ts O h1 Z1 D1 s1 nb1 m m2 := by
  obtain ⟨k1, k2, k3, k4, k5, k6, k7, k8, k9, k10, k11, k12⟩ := k
  obtain ⟨r1, r2, r3, r4, r5, r6, r7, r8⟩ := ri
  refine ⟨k1, k2, k3, ⟨by omega, hm⟩, k7, k8, fun t ht => ?_, by omega⟩
  rcases k6 t ht with q | q
  · have := r7 t q; omega
  · omega
theorem rM.wd (k : rM G W ts O h Z D nb lo hi h1 Z1 D1 s1 nb1 m) (h0 : m ≤ m2) (h2 : m2 ≤ hi) : rM G W ts O h Z D nb lo hi h1 Z1 D1 s1 nb1 m2 := by
  obtain ⟨k1, k2, k3, k4, k5, k6, k7, k8, k9, k10, k11, k12⟩ := k
  exact ⟨k1, k2, k3, k4, k5, fun t ht => (k6 t ht).imp_right fun q => by omega, k7, k8, by omega, k10, by omega, h2⟩
theorem rM.stp (k : rM G W ts O h Z D nb lo hi h1 Z1 D1 s1 nb1 m) (hm : m ≤ m2) (hm2 : m2 ≤ hi) (a1 : RS G W h2 ts Z2 O s2 nb2) (a2 : WB G W h2) (a3 : VD s2 D2) (a5 : KW W m m2 h1 h2) (a6 : Ext Z1 Z2 D1 D2) (a7 : ∀ t, D2.1 t → D1.1 t ∨ (m ≤ t ∧ t < m2)) (a8 : VN ts s2) (a9 : nb2 ≤ 18200) (a10 : pU h2 nb2 ≤ pU h1 nb1 + 200 * (m2 - m)) (a11 : Le h1 h2 none) : rM G W ts O h Z D nb lo hi h2 Z2 D2 s2 nb2 m2 := by
  obtain ⟨k1, k2, k3, k4, k5, k6, k7, k8, k9, k10, k11, k12⟩ := k
  refine ⟨a1, a2, a3, k4.tr (a5.wd k11 hm2), k5.tr a6, fun t ht => ?_, a8, a9, by omega, k10.tr a11, by omega, hm2⟩
  rcases a7 t ht with q | q
  · exact (k6 t q).imp_right fun q => by omega
  · exact Or.inr (by omega)
theorem rM.fin (k : rM G W ts O h Z D nb lo hi h1 Z1 D1 s1 nb1 m) (a : A Z1 D1 h1) : rP G W ts O h Z D nb lo hi A s1 (.returned none) h1 := by
  obtain ⟨k1, k2, k3, k4, k5, k6, k7, k8, k9, k10, k11, k12⟩ := k
  exact ⟨rfl, Z1, D1, nb1, k1, k2, k3, a, k4, k5, fun t ht => (k6 t ht).imp_right fun q => by omega, k7, k8, by omega, k10⟩
theorem rLs_len {f : Tr → RSt → Tr × RSt} (hf : ∀ x s, (rV s).length ≤ (rV (f x s).2).length) : ∀ l s, (rV s).length ≤ (rV (rLs f l s).2).length := by
  intro l
  induction l with
  | nil => intro s; exact Nat.le_refl _
  | cons x l ih => intro s; exact Nat.le_trans (hf x s) (ih _)
theorem rIf_V {pl : Nat → Nat} {b : Bool} {n t : Nat} : rV (rIf pl b n t s) = rV s := by cases b <;> rfl
/-- a pattern takes no name away -/
theorem rPat_len {pl : Nat → Nat} : ∀ n fr x s, (rV s).length ≤ (rV (rPat pl n fr x s).2).length := by
  intro n
  induction n with
  | zero => intro fr x s; exact Nat.le_refl _
  | succ n ih =>
    intro fr x s
    unfold rPat
    split
    · next k t y =>
      split
      · show _ ≤ ((nv y, t.toNat) :: s.1).length
        rw [List.length_cons]; exact Nat.le_succ _
      split
      · split
        · next v sub =>
          have e1 : (rV s).length ≤ (rV (match lk (rC s) (nv v) with | none => rNote pl 2 t.toNat s | some c => rIf pl (cWith s c == isN sub) 4 t.toNat s)).length := by
            cases lk (rC s) (nv v) with
            | none => exact Nat.le_refl _
            | some c => rw [rIf_V]; exact Nat.le_refl _
          dsimp only
          split
          · exact e1
          · exact Nat.le_trans e1 (ih _ _ _)
        · exact Nat.le_refl _
      split
      · exact rLs_len (fun x s => ih fr x s) _ _
      split
      · split
        · exact Nat.le_trans (ih _ _ _) (ih _ _ _)
        · exact Nat.le_refl _
      split
      · exact ih _ _ _
      · exact Nat.le_refl _
    · exact Nat.le_refl _
theorem pat_pair {a b : Tr} (hP : PR G W ts O n d) (hw : wf (Kd ts) (n2 39 t a b) lo hi) (ha : shP n a) (hb : shP n b) (ot : OTG (X0 ts W h) W h (n2 39 t a b) 0 0 q) (ri : rI G W ts O h Z D s nb lo hi) (hfr : fr ≤ (rV s).length) : C G mX28_resolveFrom (d + 4) [.ref q, .ref (gW G 4), .int (nI fr)] h (rP G W ts O h Z D nb lo hi (rA ts W O lo hi (rPat (Pl ts) (n + 1) fr (n2 39 t a b) s).1 q) (rPat (Pl ts) (n + 1) fr (n2 39 t a b) s).2) ∧ hK h q = 27 := by
  obtain ⟨ht, -, m0, hm1, hm2, hw0⟩ := wf_nd (k := 39) (y := .add a b) (by decide) hw
  unfold wf at hw0
  obtain ⟨m, hm3, hm4, hwa, hwb⟩ := hw0
  obtain ⟨hWq, hkq, ⟨ex, -⟩, oy⟩ := (OTG_nd (k := 39) (by decide)).mp ot
  have hk : hK h q = 27 := by simpa [kc] using hkq
  rw [OTG_c2 (by decide) (by decide)] at oy
  obtain ⟨b1, e1, o1⟩ := OTG_f.mp oy.1
  obtain ⟨b2, e2, o2⟩ := OTG_f.mp ((OTG_ef (m' := 1) (i' := 312) (by decide) (by decide)).mp oy.2)
  refine ⟨?_, hk⟩
  have eR : rPat (Pl ts) (n + 1) fr (n2 39 t a b) s = (n2 39 t (rPat (Pl ts) n fr a s).1 (rPat (Pl ts) n fr b (rPat (Pl ts) n fr a s).2).1, (rPat (Pl ts) n fr b (rPat (Pl ts) n fr a s).2).2) := rfl
  rw [eR]
  have M0 := rM.ini ri hm1 hm2
  obtain ⟨kc1, ν1, v1, v2, v3⟩ := hP a m0 m b1 fr h s Z D nb ha hwa o1 (M0.ri ri hm3 hm4) hfr
  refine bX28_resolveFrom G (d + 3) h _ _ _ ⟨hk, b1, e1, kc1, ν1, v1, v2, C.mono v3 ?_⟩
  rintro _ h2 ⟨rfl, Z1, D1, nb1, a1, a2, a3, ⟨a4, a4'⟩, a5, a6, a7, a8, a9, a10, a11⟩
  have M1 := M0.stp hm3 hm4 a1 a2 a3 a5 a6 a7 a8 a9 a10 a11
  have u1 := (M1.2.2.2.1.2 q hWq).1
  have hTb : TR m hi b := wf.tr _ _ _ hwb
  obtain ⟨kc2, ν2, w1, w2, w3⟩ := hP b m hi b2 fr h2 (rPat (Pl ts) n fr a s).2 Z1 D1 nb1 hb hwb (o2.k0 a5 ri.2.1.1 hTb) (M1.ri ri hm4 (Nat.le_refl _)) (Nat.le_trans hfr (rPat_len ..))
  refine KV.i ⟨b2, ((u1.2.2.2.2.2 312 (by decide)).2.2).trans e2, kc2, ν2, w1, w2, C.mono w3 ?_⟩
  rintro _ h3 ⟨rfl, Z2, D2, nb2, c1, c2, c3, ⟨c4, c4'⟩, c5, c6, c7, c8, c9, c10, c11⟩
  have M2 := M1.stp hm4 (Nat.le_refl _) c1 c2 c3 c5 c6 c7 c8 c9 c10 c11
  have u2 := (M2.2.2.2.1.2 q hWq).1
  refine KV.i (M2.fin ⟨TR_nd (y := .add _ _) ht.1 ht.2 ⟨TR.mono _ _ _ _ _ a4 hm1 hm4, TR.mono _ _ _ _ _ c4 (by omega) (Nat.le_refl _)⟩, ?_⟩)
  refine (OTG_nd (k := 39) (by decide)).mpr ⟨hWq, by rw [u2.1, hk]; decide, ⟨?_, ANN_no (by decide)⟩, (OTG_c2 (by decide) (by decide)).mpr ⟨OTG_f.mpr ⟨b1, ((u2.2.2.2.2.2 311 (by decide)).2.2).trans e1, a4'.k1 c5 c6 (Or.inl (Nat.le_refl _)) a4⟩, (OTG_ef (m' := 1) (i' := 312) (by decide) (by decide)).mpr (OTG_f.mpr ⟨b2, ((u2.2.2.2.2.2 312 (by decide)).2.2).trans e2, c4'⟩)⟩⟩
  have ex2 := ex.mv (fun a ha _ => (M2.2.2.2.1.2 a ha).1) u2
  exact ⟨ex2.1, ex2.2.1, ex2.2.2.1, ex2.2.2.2.1, ex2.2.2.2.2.1, ex2.2.2.2.2.2.1, ex2.2.2.2.2.2.2.1, ex2.2.2.2.2.2.2.2.1, fun _ _ _ => ⟨fun q => by omega, fun q => by omega, fun q => by omega, fun q => by omega⟩⟩
/-- what else a node is, when its children alone change -/
theorem EXs.ch {x2 : Tr} (e : EXs N h k b (.add (.num t) x)) (hk : k ≠ 3 ∧ k ≠ 4 ∧ k ≠ 34 ∧ k ≠ 35 ∧ k ≠ 16 ∧ k ≠ 55) : EXs N h k b (.add (.num t) x2) :=
  ⟨e.1, e.2.1, e.2.2.1, e.2.2.2.1, e.2.2.2.2.1, e.2.2.2.2.2.1, e.2.2.2.2.2.2.1, e.2.2.2.2.2.2.2.1, fun _ _ _ => ⟨fun q => by omega, fun q => by omega, fun q => by omega, fun q => by omega⟩⟩
theorem pat_grp (hP : PR G W ts O n d) (hw : wf (Kd ts) (n1 19 t y) lo hi) (hy : shP n y) (ot : OTG (X0 ts W h) W h (n1 19 t y) 0 0 q) (ri : rI G W ts O h Z D s nb lo hi) (hfr : fr ≤ (rV s).length) : C G mX26_resolveFrom (d + 4) [.ref q, .ref (gW G 4), .int (nI fr)] h (rP G W ts O h Z D nb lo hi (rA ts W O lo hi (rPat (Pl ts) (n + 1) fr (n1 19 t y) s).1 q) (rPat (Pl ts) (n + 1) fr (n1 19 t y) s).2) ∧ hK h q = 25 := by
  obtain ⟨ht, -, m0, hm1, hm2, hw0⟩ := wf_nd (k := 19) (by decide) hw
  obtain ⟨hWq, hkq, ⟨ex, -⟩, oy, g19⟩ := (OTG_ndg (k := 19) (by decide)).mp ot
  have hkk := shP_kind (n + 1) (n1 19 t y) q (Or.inr (Or.inr (Or.inr (Or.inr (Or.inr (Or.inr (Or.inr (Or.inr (Or.inr ⟨t, y, rfl, hy⟩))))))))) ot
  have hk : hK h q = 25 := by
    have : hK h q = 25 ∨ hK h q = 37 := by simpa [kc] using hkq
    omega
  obtain ⟨b1, e1, o1⟩ := OTG_6.mp ((OTG_ef (m' := 6) (i' := 0) (by decide) (by decide)).mp oy)
  rw [hk, if_pos rfl] at e1
  refine ⟨?_, hk⟩
  have eR : rPat (Pl ts) (n + 1) fr (n1 19 t y) s = (n1 19 t (rPat (Pl ts) n fr y s).1, (rPat (Pl ts) n fr y s).2) := rfl
  rw [eR]
  have M0 := rM.ini ri hm1 hm2
  obtain ⟨kc1, ν1, v1, v2, v3⟩ := hP y m0 hi b1 fr h s Z D nb hy hw0 o1 (M0.ri ri hm2 (Nat.le_refl _)) hfr
  refine bX26_resolveFrom G (d + 3) h _ _ _ ⟨hk, b1, e1, kc1, ν1, v1, v2, C.mono v3 ?_⟩
  rintro _ h2 ⟨rfl, Z1, D1, nb1, a1, a2, a3, ⟨a4, a4'⟩, a5, a6, a7, a8, a9, a10, a11⟩
  have M1 := M0.stp hm2 (Nat.le_refl _) a1 a2 a3 a5 a6 a7 a8 a9 a10 a11
  have u1 := (M1.2.2.2.1.2 q hWq).1
  refine KV.i (M1.fin ⟨TR_nd ht.1 ht.2 (TR.mono _ _ _ _ _ a4 hm1 (Nat.le_refl _)), ?_⟩)
  refine (OTG_ndg (k := 19) (by decide)).mpr ⟨hWq, by rw [u1.1, hk]; decide, ⟨(ex.mv (fun a ha _ => (M1.2.2.2.1.2 a ha).1) u1).ch (by decide), ANN_no (by decide)⟩, (OTG_ef (m' := 6) (i' := 0) (by decide) (by decide)).mpr (OTG_6.mpr ⟨b1, ?_, a4'⟩), g19.mvs (fun a ha _ => ⟨(M1.2.2.2.1.2 a ha).1, ha⟩) u1⟩
  rw [u1.1, hk, if_pos rfl]
  exact ((u1.2.2.2.2.2 309 (by decide)).2.2).trans e1
theorem pat_tup_2 (hP : PR G W ts O n d) (ri : rI G W ts O h Z D s nb lo hi) (ht : lo ≤ t ∧ t < hi) (hWq : W q) (hk : hK h q = 26) (ex : EXs W h 37 q (.add (.num t) x)) (eA : ArF W h q 310 arr) :
    ∀ l2 l1 m h1 s1 Z1 D1 nb1, rM G W ts O h Z D nb lo hi h1 Z1 D1 s1 nb1 m → LZ ts W O (aR h arr) l1 l2 m0 m hi Z1 D1 h1 → lo ≤ m0 → (∀ y, y ∈ l2 → shP n y) → fr ≤ (rV s1).length → hL h arr = l1.length + l2.length → l1.length + l2.length < 100000 →
    X G mX27_resolveFrom (d + 4) none [] 2 [(0, .ref q), (1, .ref (gW G 4)), (2, .int (nI fr)), (3, .int (nI l1.length))] [] h1 (rP G W ts O h Z D nb lo hi (rA ts W O lo hi (n1 37 t (ls (l1 ++ (rLs (rPat (Pl ts) n fr) l2 s1).1))) q) (rLs (rPat (Pl ts) n fr) l2 s1).2) := by
  obtain ⟨eA1, eA2, eA3⟩ := eA
  intro l2
  induction l2 with
  | nil =>
    intro l1 m h1 s1 Z1 D1 nb1 M L hm0 hs hfr hlen hlt
    have u1 := (M.2.2.2.1.2 q hWq).1
    have ua := (M.2.2.2.1.2 arr eA3).1
    refine bX27_resolveFrom_2 G (d + 3) h1 _ _ _ _ ⟨u1.1.trans hk, arr, ((u1.2.2.2.2.2 310 (by decide)).2.2).trans eA1, ua.1.trans eA2, ?_⟩
    rw [ua.2.1, hlen, show Int32.ofNat (l1.length + ([] : List Tr).length) = nI (l1.length + ([] : List Tr).length) from rfl, nI_leI (by simp at hlt ⊢; omega) (by simp at hlt ⊢; omega)]
    refine ⟨fun _ => ?_, fun z => absurd (by simp) z⟩
    show rP G W ts O h Z D nb lo hi (rA ts W O lo hi (n1 37 t (ls (l1 ++ []))) q) s1 _ _
    rw [List.append_nil]
    obtain ⟨tg, tr⟩ := L.fin
    refine M.fin ⟨TR_nd ht.1 ht.2 (TR.mono _ _ _ _ _ tr hm0 (Nat.le_refl _)), ?_⟩
    refine (OTG_nd (k := 37) (by decide)).mpr ⟨hWq, by rw [u1.1, hk]; decide, ⟨(ex.mv (fun a ha _ => (M.2.2.2.1.2 a ha).1) u1).ch (by decide), ANN_no (by decide)⟩, (OTG_ef (m' := 21) (i' := 310) (by decide) (by decide)).mpr (OTG_arr.mpr ⟨arr, ⟨((u1.2.2.2.2.2 310 (by decide)).2.2).trans eA1, ua.1.trans eA2, eA3⟩, by rw [ua.2.1, hlen]; simp, by rw [ua.2.2.2.2.1]; exact tg⟩)⟩
  | cons x2 l2 IH =>
    intro l1 m h1 s1 Z1 D1 nb1 M L hm0 hs hfr hlen hlt
    have u1 := (M.2.2.2.1.2 q hWq).1
    have ua := (M.2.2.2.1.2 arr eA3).1
    simp only [List.length_cons] at hlen hlt
    obtain ⟨m2, b, hm, hm2, hw2, fb, ob, nxt⟩ := L.nxt
    refine bX27_resolveFrom_2 G (d + 3) h1 _ _ _ _ ⟨u1.1.trans hk, arr, ((u1.2.2.2.2.2 310 (by decide)).2.2).trans eA1, ua.1.trans eA2, ?_⟩
    rw [ua.2.1, hlen, show Int32.ofNat (l1.length + (l2.length + 1)) = nI (l1.length + (l2.length + 1)) from rfl, nI_leI (by omega) (by omega)]
    refine ⟨fun z => by omega, fun _ => ?_⟩
    rw [nI_cn (by omega)]
    obtain ⟨kc1, ν1, v1, v2, v3⟩ := hP x2 m m2 b fr h1 s1 Z1 D1 nb1 (hs x2 (List.mem_cons_self ..)) hw2 ob (M.ri ri hm hm2) hfr
    refine ⟨arr, ((u1.2.2.2.2.2 310 (by decide)).2.2).trans eA1, ua.1.trans eA2, (by rw [ua.2.1]; exact vp_in_nI (by omega) (by omega)), b, by rw [ua.2.2.2.2.1]; exact fb, kc1, ν1, v1, v2, C.mono v3 ?_⟩
    rintro _ h2 ⟨rfl, Z2, D2, nb2, a1, a2, a3, ⟨a4, a4'⟩, a5, a6, a7, a8, a9, a10, a11⟩
    have M2 := M.stp hm hm2 a1 a2 a3 a5 a6 a7 a8 a9 a10 a11
    have L2 := nxt h2 Z2 D2 _ M.2.1.1 a5 a6 a4 a4'
    refine KV.i ?_
    rintro _ rfl
    rw [nI_1]
    have := IH (l1 ++ [(rPat (Pl ts) n fr x2 s1).1]) m2 h2 (rPat (Pl ts) n fr x2 s1).2 Z2 D2 nb2 M2 L2 hm0 (fun y hy => hs y (List.mem_cons_of_mem _ hy)) (Nat.le_trans hfr (rPat_len ..)) (by rw [List.length_append, List.length_singleton]; omega) (by rw [List.length_append, List.length_singleton]; omega)
    rw [List.length_append, List.length_singleton, List.append_assoc, List.singleton_append] at this
    exact this
theorem pat_tup (hP : PR G W ts O n d) (hw : wf (Kd ts) (n1 37 t (ls l)) lo hi) (hl : ∀ y, y ∈ l → shP n y) (ot : OTG (X0 ts W h) W h (n1 37 t (ls l)) 0 0 q) (ri : rI G W ts O h Z D s nb lo hi) (hfr : fr ≤ (rV s).length) (hsz : l.length < 100000) : C G mX27_resolveFrom (d + 4) [.ref q, .ref (gW G 4), .int (nI fr)] h (rP G W ts O h Z D nb lo hi (rA ts W O lo hi (rPat (Pl ts) (n + 1) fr (n1 37 t (ls l)) s).1 q) (rPat (Pl ts) (n + 1) fr (n1 37 t (ls l)) s).2) ∧ hK h q = 26 := by
  obtain ⟨ht, -, m0, hm1, hm2, hw0⟩ := wf_nd (k := 37) (by decide) hw
  obtain ⟨hWq, hkq, ⟨ex, -⟩, oy⟩ := (OTG_nd (k := 37) (by decide)).mp ot
  have hk : hK h q = 26 := by simpa [kc] using hkq
  obtain ⟨arr, eA, hlen, tg⟩ := OTG_arr.mp ((OTG_ef (m' := 21) (i' := 310) (by decide) (by decide)).mp oy)
  refine ⟨?_, hk⟩
  have eR : rPat (Pl ts) (n + 1) fr (n1 37 t (ls l)) s = (n1 37 t (ls (rLs (rPat (Pl ts) n fr) l s).1), (rLs (rPat (Pl ts) n fr) l s).2) := by
    have : rPat (Pl ts) (n + 1) fr (n1 37 t (ls l)) s = (n1 37 t (ls (rLs (rPat (Pl ts) n fr) (unl (ls l)) s).1), (rLs (rPat (Pl ts) n fr) (unl (ls l)) s).2) := rfl
    rw [this, unl_ls]
  rw [eR]
  exact bX27_resolveFrom G (d + 3) h _ _ _ (pat_tup_2 (s := s) hP ri ht hWq hk ex eA l [] m0 h s Z D nb (rM.ini ri hm1 hm2) (LZ.ini (fun j x hx => tg j x hx) hw0 hm2) hm1 hl hfr (by rw [hlen]; simp) (by simpa using hsz))
theorem pat_lst_2 (hP : PR G W ts O n d) (ri : rI G W ts O h Z D s nb lo hi) (ht : lo ≤ t ∧ t < hi) (hWq : W q) (hk : hK h q = 23) (ex : EXs W h 38 q (.add (.num t) x)) (eA : ArF W h q 308 arr) :
    ∀ l2 l1 m h1 s1 Z1 D1 nb1, rM G W ts O h Z D nb lo hi h1 Z1 D1 s1 nb1 m → LZ ts W O (aR h arr) l1 l2 m0 m hi Z1 D1 h1 → lo ≤ m0 → (∀ y, y ∈ l2 → shP n y) → fr ≤ (rV s1).length → hL h arr = l1.length + l2.length → l1.length + l2.length < 100000 →
    X G mX24_resolveFrom (d + 4) none [] 2 [(0, .ref q), (1, .ref (gW G 4)), (2, .int (nI fr)), (3, .int (nI l1.length))] [] h1 (rP G W ts O h Z D nb lo hi (rA ts W O lo hi (n1 38 t (ls (l1 ++ (rLs (rPat (Pl ts) n fr) l2 s1).1))) q) (rLs (rPat (Pl ts) n fr) l2 s1).2) := by
  obtain ⟨eA1, eA2, eA3⟩ := eA
  intro l2
  induction l2 with
  | nil =>
    intro l1 m h1 s1 Z1 D1 nb1 M L hm0 hs hfr hlen hlt
    have u1 := (M.2.2.2.1.2 q hWq).1
    have ua := (M.2.2.2.1.2 arr eA3).1
    refine bX24_resolveFrom_2 G (d + 3) h1 _ _ _ _ ⟨u1.1.trans hk, arr, ((u1.2.2.2.2.2 308 (by decide)).2.2).trans eA1, ua.1.trans eA2, ?_⟩
    rw [ua.2.1, hlen, show Int32.ofNat (l1.length + ([] : List Tr).length) = nI (l1.length + ([] : List Tr).length) from rfl, nI_leI (by simp at hlt ⊢; omega) (by simp at hlt ⊢; omega)]
    refine ⟨fun _ => ?_, fun z => absurd (by simp) z⟩
    show rP G W ts O h Z D nb lo hi (rA ts W O lo hi (n1 38 t (ls (l1 ++ []))) q) s1 _ _
    rw [List.append_nil]
    obtain ⟨tg, tr⟩ := L.fin
    refine M.fin ⟨TR_nd ht.1 ht.2 (TR.mono _ _ _ _ _ tr hm0 (Nat.le_refl _)), ?_⟩
    refine (OTG_nd (k := 38) (by decide)).mpr ⟨hWq, by rw [u1.1, hk]; decide, ⟨(ex.mv (fun a ha _ => (M.2.2.2.1.2 a ha).1) u1).ch (by decide), ANN_no (by decide)⟩, (OTG_ef (m' := 21) (i' := 308) (by decide) (by decide)).mpr (OTG_arr.mpr ⟨arr, ⟨((u1.2.2.2.2.2 308 (by decide)).2.2).trans eA1, ua.1.trans eA2, eA3⟩, by rw [ua.2.1, hlen]; simp, by rw [ua.2.2.2.2.1]; exact tg⟩)⟩
  | cons x2 l2 IH =>
    intro l1 m h1 s1 Z1 D1 nb1 M L hm0 hs hfr hlen hlt
    have u1 := (M.2.2.2.1.2 q hWq).1
    have ua := (M.2.2.2.1.2 arr eA3).1
    simp only [List.length_cons] at hlen hlt
    obtain ⟨m2, b, hm, hm2, hw2, fb, ob, nxt⟩ := L.nxt
    refine bX24_resolveFrom_2 G (d + 3) h1 _ _ _ _ ⟨u1.1.trans hk, arr, ((u1.2.2.2.2.2 308 (by decide)).2.2).trans eA1, ua.1.trans eA2, ?_⟩
    rw [ua.2.1, hlen, show Int32.ofNat (l1.length + (l2.length + 1)) = nI (l1.length + (l2.length + 1)) from rfl, nI_leI (by omega) (by omega)]
    refine ⟨fun z => by omega, fun _ => ?_⟩
    rw [nI_cn (by omega)]
    obtain ⟨kc1, ν1, v1, v2, v3⟩ := hP x2 m m2 b fr h1 s1 Z1 D1 nb1 (hs x2 (List.mem_cons_self ..)) hw2 ob (M.ri ri hm hm2) hfr
    refine ⟨arr, ((u1.2.2.2.2.2 308 (by decide)).2.2).trans eA1, ua.1.trans eA2, (by rw [ua.2.1]; exact vp_in_nI (by omega) (by omega)), b, by rw [ua.2.2.2.2.1]; exact fb, kc1, ν1, v1, v2, C.mono v3 ?_⟩
    rintro _ h2 ⟨rfl, Z2, D2, nb2, a1, a2, a3, ⟨a4, a4'⟩, a5, a6, a7, a8, a9, a10, a11⟩
    have M2 := M.stp hm hm2 a1 a2 a3 a5 a6 a7 a8 a9 a10 a11
    have L2 := nxt h2 Z2 D2 _ M.2.1.1 a5 a6 a4 a4'
    refine KV.i ?_
    rintro _ rfl
    rw [nI_1]
    have := IH (l1 ++ [(rPat (Pl ts) n fr x2 s1).1]) m2 h2 (rPat (Pl ts) n fr x2 s1).2 Z2 D2 nb2 M2 L2 hm0 (fun y hy => hs y (List.mem_cons_of_mem _ hy)) (Nat.le_trans hfr (rPat_len ..)) (by rw [List.length_append, List.length_singleton]; omega) (by rw [List.length_append, List.length_singleton]; omega)
    rw [List.length_append, List.length_singleton, List.append_assoc, List.singleton_append] at this
    exact this
theorem pat_lst (hP : PR G W ts O n d) (hw : wf (Kd ts) (n1 38 t (ls l)) lo hi) (hl : ∀ y, y ∈ l → shP n y) (ot : OTG (X0 ts W h) W h (n1 38 t (ls l)) 0 0 q) (ri : rI G W ts O h Z D s nb lo hi) (hfr : fr ≤ (rV s).length) (hsz : l.length < 100000) : C G mX24_resolveFrom (d + 4) [.ref q, .ref (gW G 4), .int (nI fr)] h (rP G W ts O h Z D nb lo hi (rA ts W O lo hi (rPat (Pl ts) (n + 1) fr (n1 38 t (ls l)) s).1 q) (rPat (Pl ts) (n + 1) fr (n1 38 t (ls l)) s).2) ∧ hK h q = 23 := by
  obtain ⟨ht, -, m0, hm1, hm2, hw0⟩ := wf_nd (k := 38) (by decide) hw
  obtain ⟨hWq, hkq, ⟨ex, -⟩, oy⟩ := (OTG_nd (k := 38) (by decide)).mp ot
  have hk : hK h q = 23 := by simpa [kc] using hkq
  obtain ⟨arr, eA, hlen, tg⟩ := OTG_arr.mp ((OTG_ef (m' := 21) (i' := 308) (by decide) (by decide)).mp oy)
  refine ⟨?_, hk⟩
  have eR : rPat (Pl ts) (n + 1) fr (n1 38 t (ls l)) s = (n1 38 t (ls (rLs (rPat (Pl ts) n fr) l s).1), (rLs (rPat (Pl ts) n fr) l s).2) := by
    have : rPat (Pl ts) (n + 1) fr (n1 38 t (ls l)) s = (n1 38 t (ls (rLs (rPat (Pl ts) n fr) (unl (ls l)) s).1), (rLs (rPat (Pl ts) n fr) (unl (ls l)) s).2) := rfl
    rw [this, unl_ls]
  rw [eR]
  exact bX24_resolveFrom G (d + 3) h _ _ _ (pat_lst_2 (s := s) hP ri ht hWq hk ex eA l [] m0 h s Z D nb (rM.ini ri hm1 hm2) (LZ.ini (fun j x hx => tg j x hx) hw0 hm2) hm1 hl hfr (by rw [hlen]; simp) (by simpa using hsz))
theorem wf_len : ∀ (l : List Tr) (lo hi : Nat), (∀ y, y ∈ l → ∃ k z, y = Int.Internal.Linear.Expr.mulL k z) → wf (Kd ts) (ls l) lo hi → lo ≤ hi → l.length ≤ hi - lo := by
  intro l
  induction l with
  | nil => intro lo hi _ _ _; exact Nat.zero_le _
  | cons y l ih =>
    intro lo hi hy hw hlh
    unfold ls wf at hw
    obtain ⟨m, m1, m2, m3, m4⟩ := hw
    have := ih m hi (fun z hz => hy z (List.mem_cons_of_mem _ hz)) m4 m2
    obtain ⟨k, z, rfl⟩ := hy y (List.mem_cons_self ..)
    unfold wf at m3
    obtain ⟨a1, a2, -⟩ := m3
    rw [List.length_cons]
    omega
/-- ALL PATTERNS are resolved -/
theorem pats_res : ∀ n d, PR G W ts O n (d + n) := by
  intro n
  induction n with
  | zero => intro d x lo hi q fr h s Z D nb hs; exact hs.elim
  | succ n IH =>
    intro d x lo hi q fr h s Z D nb hs hw ot ri hfr
    have hP := IH d
    have hts := ri.1.1.2.2.2.1
    have h4 := ri.2.2.2.1
    rw [show d + (n + 1) + 3 = d + n + 4 by omega]
    have len : ∀ (k t : Nat) (l : List Tr), k ≠ 33 ∧ k ≠ 50 ∧ k ≠ 58 ∧ k ≠ 56 ∧ k ≠ 53 → wf (Kd ts) (n1 k t (ls l)) lo hi → (∀ y, y ∈ l → shP n y) → l.length < 100000 := by
      intro k t l hk hw hl
      obtain ⟨ht, -, m0, hm1, hm2, hw0⟩ := wf_nd hk hw
      have := wf_len l m0 hi (fun y hy => shP_node (hl y hy)) hw0 hm2
      omega
    rcases hs with ⟨t, rfl⟩ | ⟨t, rfl⟩ | ⟨t, v, rfl⟩ | ⟨t, v, rfl⟩ | ⟨t, v, rfl⟩ | ⟨t, v, y, rfl, hy⟩ | ⟨t, l, rfl, hl⟩ | ⟨t, l, rfl, hl⟩ | ⟨t, a, b, rfl, ha, hb⟩ | ⟨t, y, rfl, hy⟩
    · have hk : hK h q = 20 := by simpa [kc] using ((OTG_n0 (k := 31) (by decide)).mp ot).2.1
      exact ⟨19, _, v19_resolveFrom, hk, bX21_resolveFrom G _ h _ _ _ (pat_leaf ri (wf.tr _ _ _ hw) ot (Or.inl ⟨31, t, Or.inl rfl, rfl⟩))⟩
    · have hk : hK h q = 24 := by simpa [kc] using ((OTG_n0 (k := 36) (by decide)).mp ot).2.1
      exact ⟨23, _, v23_resolveFrom, hk, bX25_resolveFrom G _ h _ _ _ (pat_leaf ri (wf.tr _ _ _ hw) ot (Or.inl ⟨36, t, Or.inr rfl, rfl⟩))⟩
    · obtain ⟨c1, c2⟩ := pat_name (d := d + n + 1) hw ot ri hfr
      exact ⟨20, _, v20_resolveFrom, c2, c1⟩
    · have hk : hK h q = 22 := by simpa [kc] using ((OTG_nd (k := 34) (by decide)).mp ot).2.1
      exact ⟨21, _, v21_resolveFrom, hk, bX23_resolveFrom G _ h _ _ _ (pat_leaf ri (wf.tr _ _ _ hw) ot (Or.inr ⟨34, t, v, Or.inl rfl, rfl⟩))⟩
    · have hk : hK h q = 22 := by simpa [kc] using ((OTG_nd (k := 35) (by decide)).mp ot).2.1
      exact ⟨21, _, v21_resolveFrom, hk, bX23_resolveFrom G _ h _ _ _ (pat_leaf ri (wf.tr _ _ _ hw) ot (Or.inr ⟨35, t, v, Or.inr rfl, rfl⟩))⟩
    · obtain ⟨c1, c2⟩ := pat_con hP hw hy ot ri hfr
      exact ⟨18, _, v18_resolveFrom, c2, c1⟩
    · obtain ⟨c1, c2⟩ := pat_tup hP hw hl ot ri hfr (len 37 t l (by decide) hw hl)
      exact ⟨25, _, v25_resolveFrom, c2, c1⟩
    · obtain ⟨c1, c2⟩ := pat_lst hP hw hl ot ri hfr (len 38 t l (by decide) hw hl)
      exact ⟨22, _, v22_resolveFrom, c2, c1⟩
    · obtain ⟨c1, c2⟩ := pat_pair hP hw ha hb ot ri hfr
      exact ⟨26, _, v26_resolveFrom, c2, c1⟩
    · obtain ⟨c1, c2⟩ := pat_grp hP hw hy ot ri hfr
      exact ⟨24, _, v24_resolveFrom, c2, c1⟩
end
