/-! THE COMPONENT'S RESOLVER: tuples, lists, applications, chains, functions, cases -/
section
variable {G : Gh} {d : Nat} {W N : Nat → Prop} {h h1 h2 h3 h5 h' : AH} {ts : List (Nat × Nat × Nat)} {t i n nb nb' nb1 nb2 r q g fr ba lo hi m m0 m1 m2 lo1 hi1 b k c arr : Nat} {v : Int} {Z Z' Z1 Z2 : Zt} {D D' D1 D2 : Dm} {O : List (Nat × Nat) × List (Nat × Nat)} {s s0 s' s1 s2 s5 : RSt} {x y e x' a' b' : Tr} {l l1 l2 : List Tr} {f : Nat → Option Nat} {A : Zt → Dm → AH → Prop} {K : Nat → Nat}
theorem rLs_ln {F : Tr → RSt → Tr × RSt} : ∀ l s, (rLs F l s).1.length = l.length := by
  intro l
  induction l with
  | nil => intro s; rfl
  | cons x l ih => intro s; show (rLs F l _).1.length + 1 = l.length + 1; rw [ih]
theorem exp_parts (hE : ER G W ts O n d) (hkk : k = 8 ∨ k = 9 ∨ k = 10) (hw : wf (Kd ts) (n1 (k : Nat) t (ls l)) lo hi) (hl : ∀ y, y ∈ l → shE (Vl ts) n 0 y) (ot : OTG (X0 ts W h) W h (n1 (k : Nat) t (ls l)) 0 0 q) (ri : rI G W ts O h Z D s nb lo hi) : C G mX40_resolve (d + 7) [.ref q, .ref (gW G 4)] h (rP G W ts O h Z D nb lo hi (rA ts W O lo hi (rs (Pl ts) (knO O) (n + 1) 0 (n1 (k : Nat) t (ls l)) s).1 q) (rs (Pl ts) (knO O) (n + 1) 0 (n1 (k : Nat) t (ls l)) s).2) ∧ hK h q = k + 30 := by
  obtain ⟨ht, -, m0, hm1, hm2, hw0⟩ := wf_nd (by omega) hw
  obtain ⟨hWq, hkq, ⟨ex, -⟩, oy⟩ := (OTG_nd (by omega) (by omega)).mp ot
  have hk : hK h q = k + 30 := by rcases hkk with rfl | rfl | rfl <;> simpa [kc] using hkq
  have eE : ef (2000 + 8 * k) 0 = (21, 333) := by rcases hkk with rfl | rfl | rfl <;> decide
  obtain ⟨arr, eA, hlen, tg⟩ := OTG_arr.mp ((OTG_ef eE (by decide)).mp oy)
  have hts := ri.1.1.2.2.2.1
  have h4 := ri.2.2.2.1
  have hll := wf_len l m0 hi (fun y hy => shE_node (hl y hy)) hw0 hm2
  have eR : rs (Pl ts) (knO O) (n + 1) 0 (n1 (k : Nat) t (ls l)) s = (n1 (k : Nat) t (ls (rLs (rs (Pl ts) (knO O) n 0) l s).1), (rLs (rs (Pl ts) (knO O) n 0) l s).2) := by
    have e0 : rs (Pl ts) (knO O) (n + 1) 0 (n1 (k : Nat) t (ls l)) s = (n1 (k : Nat) t (ls (rLs (rs (Pl ts) (knO O) n 0) (unl (ls l)) s).1), (rLs (rs (Pl ts) (knO O) n 0) (unl (ls l)) s).2) := by rcases hkk with rfl | rfl | rfl <;> rfl
    rw [e0, unl_ls]
  rw [eR]
  refine ⟨bX40_resolve G (d + 6) h _ _ ?_, hk⟩
  have hHF : ∀ h1, hK h1 q = hK h q → HF h1 q 333 2 := by
    intro h1 e1
    rw [hk] at e1
    rcases hkk with rfl | rfl | rfl
    · exact hf_of 37 e1 rfl (by decide) (by decide)
    · exact hf_of 38 e1 rfl (by decide) (by decide)
    · exact hf_of 39 e1 rfl (by decide) (by decide)
  refine arr40 (m0 := m0) hE ri hWq hHF eA (fun m h1 Z1 D1 nb1 M L => ?_) l [] m0 h s Z D nb (rM.ini ri hm1 hm2) (LZ.ini (fun j x hx => tg j x hx) hw0 hm2) hl (by rw [hlen]; simp) (by simp; omega) rfl rfl
  have u1 := (M.2.2.2.1.2 q hWq).1
  have ua := (M.2.2.2.1.2 arr eA.2.2).1
  obtain ⟨tgF, trF⟩ := L.fin
  refine M.fin ⟨TR_nd ht.1 ht.2 (TR.mono _ _ _ _ _ trF hm1 (Nat.le_refl _)), ?_⟩
  exact (OTG_nd (by omega) (by omega)).mpr ⟨hWq, by rw [u1.1]; exact hkq, ⟨(ex.mv (fun a ha _ => (M.2.2.2.1.2 a ha).1) u1).ch (by omega), ANN_no (by omega)⟩, (OTG_ef eE (by decide)).mpr (OTG_arr.mpr ⟨arr, ⟨((u1.2.2.2.2.2 333 (by decide)).2.2).trans eA.1, ua.1.trans eA.2.1, eA.2.2⟩, by rw [ua.2.1, hlen]; exact (rLs_ln _ _).symm, by rw [ua.2.2.2.2.1]; exact tgF⟩)⟩
theorem rM.cat (k : rM G W ts O h Z D nb lo hi h1 Z1 D1 s1 nb1 m) (r : rM G W ts O h1 Z1 D1 nb1 m hi h2 Z2 D2 s2 nb2 m2) : rM G W ts O h Z D nb lo hi h2 Z2 D2 s2 nb2 m2 := by
  obtain ⟨k1, k2, k3, k4, k5, k6, k7, k8, k9, k10, k11, k12⟩ := k
  obtain ⟨r1, r2, r3, r4, r5, r6, r7, r8, r9, r10, r11, r12⟩ := r
  refine ⟨r1, r2, r3, k4.tr (r4.wd k11 (Nat.le_refl _)), k5.tr r5, fun t ht => ?_, r7, r8, by omega, k10.tr r10, by omega, r12⟩
  rcases r6 t ht with q | q
  · exact (k6 t q).imp_right fun q => by omega
  · exact Or.inr (by omega)
theorem ArF.us (k : ArF W h q g arr) (uq : Us h h' q) (ua : Us h h' arr) (hg : sf g = true) : ArF W h' q g arr := ⟨((uq.2.2.2.2.2 g hg).2.2).trans k.1, ua.1.trans k.2.1, k.2.2⟩
theorem exp_app (hE : ER G W ts O n d) (hw : wf (Kd ts) (n2 15 t e (ls l)) lo hi) (he : shE (Vl ts) n 0 e) (hl : ∀ y, y ∈ l → shE (Vl ts) n 0 y) (ot : OTG (X0 ts W h) W h (n2 15 t e (ls l)) 0 0 q) (ri : rI G W ts O h Z D s nb lo hi) : C G mX44_resolve (d + 7) [.ref q, .ref (gW G 4)] h (rP G W ts O h Z D nb lo hi (rA ts W O lo hi (rs (Pl ts) (knO O) (n + 1) 0 (n2 15 t e (ls l)) s).1 q) (rs (Pl ts) (knO O) (n + 1) 0 (n2 15 t e (ls l)) s).2) ∧ hK h q = 41 := by
  obtain ⟨ht, -, m0, hm1, hm2, hw0⟩ := wf_nd (k := 15) (y := .add e (ls l)) (by decide) hw
  unfold wf at hw0
  obtain ⟨m, hm3, hm4, hwa, hwb⟩ := hw0
  obtain ⟨hWq, hkq, ⟨ex, -⟩, oy⟩ := (OTG_nd (k := 15) (by decide)).mp ot
  have hk : hK h q = 41 := by simpa [kc] using hkq
  rw [OTG_c2 (by decide) (by decide)] at oy
  obtain ⟨b1, e1, o1⟩ := OTG_f.mp oy.1
  obtain ⟨arr, eA, hlen, tg⟩ := OTG_arr.mp ((OTG_ef (m' := 21) (i' := 335) (by decide) (by decide)).mp oy.2)
  have hts := ri.1.1.2.2.2.1
  have h4 := ri.2.2.2.1
  have hll := wf_len l m hi (fun y hy => shE_node (hl y hy)) hwb hm4
  have eR : rs (Pl ts) (knO O) (n + 1) 0 (n2 15 t e (ls l)) s = (n2 15 t (rs (Pl ts) (knO O) n 0 e s).1 (ls (rLs (rs (Pl ts) (knO O) n 0) l (rs (Pl ts) (knO O) n 0 e s).2).1), (rLs (rs (Pl ts) (knO O) n 0) l (rs (Pl ts) (knO O) n 0 e s).2).2) := by
    have e0 : rs (Pl ts) (knO O) (n + 1) 0 (n2 15 t e (ls l)) s = (n2 15 t (rs (Pl ts) (knO O) n 0 e s).1 (ls (rLs (rs (Pl ts) (knO O) n 0) (unl (ls l)) (rs (Pl ts) (knO O) n 0 e s).2).1), (rLs (rs (Pl ts) (knO O) n 0) (unl (ls l)) (rs (Pl ts) (knO O) n 0 e s).2).2) := rfl
    rw [e0, unl_ls]
  rw [eR]
  have M0 := rM.ini ri hm1 hm2
  obtain ⟨kc1, ν1, v1, v2, v3⟩ := hE e m0 m b1 h s Z D nb he hwa o1 (M0.ri ri hm3 hm4)
  refine ⟨bX44_resolve G (d + 6) h _ _ ⟨hk, b1, e1, kc1, ν1, v1, v2, C.mono v3 ?_⟩, hk⟩
  rintro _ h2 ⟨rfl, Z1, D1, nb1, a1, a2, a3, ⟨a4, a4'⟩, a5, a6, a7, a8, a9, a10, a11⟩
  have M1 := M0.stp hm3 hm4 a1 a2 a3 a5 a6 a7 a8 a9 a10 a11
  have ri2 := M1.ri ri hm4 (Nat.le_refl _)
  have trL : ∀ y, y ∈ l → TR m hi y := TR.ls_at (wf.tr _ _ _ hwb)
  have uq := (M1.2.2.2.1.2 q hWq).1
  have ua2 := (M1.2.2.2.1.2 arr eA.2.2).1
  refine KV.i (arr44 (m0 := m) hE ri2 hWq (uq.1.trans hk) (eA.us uq ua2 (by decide)) (fun m' h1 Z2 D2 nb2 M L => ?_) l [] m h2 _ Z1 D1 nb1 (rM.ini ri2 (Nat.le_refl _) hm4) (LZ.ini (fun j x hx => ?_) hwb hm4) hl (by rw [ua2.2.1, hlen]; simp) (by simp; omega) rfl rfl)
  · have MM := M1.cat M
    have u1 := (MM.2.2.2.1.2 q hWq).1
    have ua := (MM.2.2.2.1.2 arr eA.2.2).1
    obtain ⟨tgF, trF⟩ := L.fin
    refine MM.fin ⟨TR_nd (y := .add _ _) ht.1 ht.2 ⟨TR.mono _ _ _ _ _ a4 hm1 hm4, TR.mono _ _ _ _ _ trF (by omega) (Nat.le_refl _)⟩, ?_⟩
    refine (OTG_nd (k := 15) (by decide)).mpr ⟨hWq, by rw [u1.1]; exact hkq, ⟨(ex.mv (fun a ha _ => (MM.2.2.2.1.2 a ha).1) u1).ch (by decide), ANN_no (by decide)⟩, (OTG_c2 (by decide) (by decide)).mpr ⟨OTG_f.mpr ⟨b1, ((u1.2.2.2.2.2 334 (by decide)).2.2).trans e1, a4'.k1 M.2.2.2.1 M.2.2.2.2.1 (Or.inl (Nat.le_refl _)) a4⟩, (OTG_ef (m' := 21) (i' := 335) (by decide) (by decide)).mpr (OTG_arr.mpr ⟨arr, eA.us u1 ua (by decide), by rw [ua.2.1, hlen]; exact (rLs_ln _ _).symm, ?_⟩)⟩⟩
    rw [ua.2.2.2.2.1, ← ua2.2.2.2.2.1]
    exact tgF
  · obtain ⟨b, b1, b2⟩ := tg j x hx
    exact ⟨b, by rw [ua2.2.2.2.2.1]; exact b1, b2.k0 a5 ri.2.1.1 (trL x (List.mem_of_getElem? hx))⟩
/-- operands with their signs -/
def zo : List (Nat × Tr) → List Tr → List (Nat × Tr)
  | p :: ps, x :: l => (p.1, x) :: zo ps l
  | _, _ => []
theorem zo_2 : ∀ (ps : List (Nat × Tr)) (l : List Tr), l.length = ps.length → (zo ps l).map (·.2) = l ∧ ((zo ps l).map fun p => nI p.1) = ps.map fun p => nI p.1 := by
  intro ps
  induction ps with
  | nil => intro l h; cases l with
    | nil => exact ⟨rfl, rfl⟩
    | cons a l => simp at h
  | cons p ps ih =>
    intro l h
    cases l with
    | nil => simp at h
    | cons x l =>
      obtain ⟨a, b⟩ := ih l (by simpa using h)
      exact ⟨by show x :: _ = _; rw [a], by show nI p.1 :: _ = _; rw [b]; rfl⟩
theorem rLs_op : ∀ (ps : List (Nat × Tr)) (s : RSt), rLs (fun o s => match o with | .add g e => (.add g (rs (Pl ts) (knO O) n 0 e s).1, (rs (Pl ts) (knO O) n 0 e s).2) | _ => (o, s)) (ps.map opx) s = ((zo ps (rLs (rs (Pl ts) (knO O) n 0) (ps.map (·.2)) s).1).map opx, (rLs (rs (Pl ts) (knO O) n 0) (ps.map (·.2)) s).2) := by
  intro ps
  induction ps with
  | nil => intro s; rfl
  | cons p ps ih =>
    intro s
    show (_ :: (rLs _ (ps.map opx) (rs (Pl ts) (knO O) n 0 p.2 s).2).1, (rLs _ (ps.map opx) (rs (Pl ts) (knO O) n 0 p.2 s).2).2) = _
    rw [ih]
    rfl
theorem wf_opx : ∀ (ps : List (Nat × Tr)) (lo hi : Nat), wf (Kd ts) (ls (ps.map opx)) lo hi → wf (Kd ts) (ls (ps.map (·.2))) lo hi := by
  intro ps
  induction ps with
  | nil => intro lo hi w; exact w
  | cons p ps ih =>
    intro lo hi w
    change wf (Kd ts) (.add (opx p) (ls (ps.map opx))) lo hi at w
    show wf (Kd ts) (.add p.2 (ls (ps.map (·.2)))) lo hi
    unfold wf at w ⊢
    obtain ⟨m, m1, m2, m3, m4⟩ := w
    unfold opx wf at m3
    obtain ⟨m', q1, q2, -, q3⟩ := m3
    exact ⟨m, m1, m2, wf.mono _ _ _ _ _ q3 q1 (Nat.le_refl _), ih _ _ m4⟩
theorem TR_opx : ∀ (ps : List (Nat × Tr)), TR lo hi (ls (ps.map (·.2))) → TR lo hi (ls (ps.map opx)) := by
  intro ps
  induction ps with
  | nil => intro w; trivial
  | cons p ps ih =>
    intro w
    change TR lo hi (.add p.2 (ls (ps.map (·.2)))) at w
    show TR lo hi (.add (opx p) (ls (ps.map opx)))
    unfold TR at w ⊢
    exact ⟨⟨trivial, w.1⟩, ih w.2⟩
theorem exp_chn {ps : List (Nat × Tr)} (hE : ER G W ts O n d) (hw : wf (Kd ts) (n2 16 t e (ls (ps.map opx))) lo hi) (he : shE (Vl ts) n 0 e) (hl : ∀ p, p ∈ ps → shE (Vl ts) n 0 p.2) (ot : OTG (X0 ts W h) W h (n2 16 t e (ls (ps.map opx))) 0 0 q) (ri : rI G W ts O h Z D s nb lo hi) : C G mX47_resolve (d + 7) [.ref q, .ref (gW G 4)] h (rP G W ts O h Z D nb lo hi (rA ts W O lo hi (rs (Pl ts) (knO O) (n + 1) 0 (n2 16 t e (ls (ps.map opx))) s).1 q) (rs (Pl ts) (knO O) (n + 1) 0 (n2 16 t e (ls (ps.map opx))) s).2) ∧ hK h q = 44 := by
  obtain ⟨ht, -, m0, hm1, hm2, hw0⟩ := wf_nd (k := 16) (y := .add e (ls (ps.map opx))) (by decide) hw
  unfold wf at hw0
  obtain ⟨m, hm3, hm4, hwa, hwo⟩ := hw0
  have hwb := wf_opx ps _ _ hwo
  obtain ⟨hWq, hkq, ⟨ex, -⟩, oy⟩ := (OTG_nd (k := 16) (by decide)).mp ot
  have hk : hK h q = 44 := by simpa [kc] using hkq
  rw [OTG_c2 (by decide) (by decide)] at oy
  obtain ⟨b1, e1, o1⟩ := OTG_f.mp oy.1
  obtain ⟨arr, eA, hlen, tg⟩ := OTG_chn.mp ((OTG_ef (m' := 23) (i' := 343) (by decide) (by decide)).mp oy.2)
  have hl' : ∀ y, y ∈ ps.map (·.2) → shE (Vl ts) n 0 y := fun y hy => by
    obtain ⟨p, p1, rfl⟩ := List.mem_map.mp hy
    exact hl p p1
  have hts := ri.1.1.2.2.2.1
  have h4 := ri.2.2.2.1
  have hll := wf_len (ps.map (·.2)) m hi (fun y hy => shE_node (hl' y hy)) hwb hm4
  rw [List.length_map] at hll
  have eR : rs (Pl ts) (knO O) (n + 1) 0 (n2 16 t e (ls (ps.map opx))) s = (n2 16 t (rs (Pl ts) (knO O) n 0 e s).1 (ls ((zo ps (rLs (rs (Pl ts) (knO O) n 0) (ps.map (·.2)) (rs (Pl ts) (knO O) n 0 e s).2).1).map opx)), (rLs (rs (Pl ts) (knO O) n 0) (ps.map (·.2)) (rs (Pl ts) (knO O) n 0 e s).2).2) := by
    have e0 : rs (Pl ts) (knO O) (n + 1) 0 (n2 16 t e (ls (ps.map opx))) s = (n2 16 t (rs (Pl ts) (knO O) n 0 e s).1 (ls (rLs (fun o s => match o with | .add g e => (.add g (rs (Pl ts) (knO O) n 0 e s).1, (rs (Pl ts) (knO O) n 0 e s).2) | _ => (o, s)) (unl (ls (ps.map opx))) (rs (Pl ts) (knO O) n 0 e s).2).1), (rLs (fun o s => match o with | .add g e => (.add g (rs (Pl ts) (knO O) n 0 e s).1, (rs (Pl ts) (knO O) n 0 e s).2) | _ => (o, s)) (unl (ls (ps.map opx))) (rs (Pl ts) (knO O) n 0 e s).2).2) := rfl
    rw [e0, unl_ls, rLs_op]
  rw [eR]
  have M0 := rM.ini ri hm1 hm2
  obtain ⟨kc1, ν1, v1, v2, v3⟩ := hE e m0 m b1 h s Z D nb he hwa o1 (M0.ri ri hm3 hm4)
  refine ⟨bX47_resolve G (d + 6) h _ _ ⟨hk, b1, e1, kc1, ν1, v1, v2, C.mono v3 ?_⟩, hk⟩
  rintro _ h2 ⟨rfl, Z1, D1, nb1, a1, a2, a3, ⟨a4, a4'⟩, a5, a6, a7, a8, a9, a10, a11⟩
  have M1 := M0.stp hm3 hm4 a1 a2 a3 a5 a6 a7 a8 a9 a10 a11
  have ri2 := M1.ri ri hm4 (Nat.le_refl _)
  have trL : ∀ y, y ∈ ps.map (·.2) → TR m hi y := TR.ls_at (wf.tr _ _ _ hwb)
  have uq := (M1.2.2.2.1.2 q hWq).1
  have ua2 := (M1.2.2.2.1.2 arr eA.2.2).1
  refine KV.i (arr47 (m0 := m) hE ri2 hWq (uq.1.trans hk) (eA.us uq ua2 (by decide)) (fun m' h1 Z2 D2 nb2 M L => ?_) (ps.map (·.2)) [] m h2 _ Z1 D1 nb1 (rM.ini ri2 (Nat.le_refl _) hm4) (LZ.ini (fun j x hx => ?_) hwb hm4) hl' (by rw [ua2.2.1, hlen]; simp) (by simp; omega) rfl rfl)
  · have MM := M1.cat M
    have u1 := (MM.2.2.2.1.2 q hWq).1
    have ua := (MM.2.2.2.1.2 arr eA.2.2).1
    obtain ⟨tgF, trF⟩ := L.fin
    obtain ⟨z1, z2⟩ := zo_2 ps (rLs (rs (Pl ts) (knO O) n 0) (ps.map (·.2)) (rs (Pl ts) (knO O) n 0 e s).2).1 (by rw [rLs_ln, List.length_map])
    have zl : (zo ps (rLs (rs (Pl ts) (knO O) n 0) (ps.map (·.2)) (rs (Pl ts) (knO O) n 0 e s).2).1).length = ps.length := by
      have := congrArg List.length z1
      rw [List.length_map, rLs_ln, List.length_map] at this
      exact this
    generalize zo ps (rLs (rs (Pl ts) (knO O) n 0) (ps.map (·.2)) (rs (Pl ts) (knO O) n 0 e s).2).1 = zz at *
    change TG (XA ts W O Z2 D2 h1) W h1 (aR h2 arr) (rLs (rs (Pl ts) (knO O) n 0) (ps.map (·.2)) (rs (Pl ts) (knO O) n 0 e s).2).1 at tgF
    change TR m hi (ls (rLs (rs (Pl ts) (knO O) n 0) (ps.map (·.2)) (rs (Pl ts) (knO O) n 0 e s).2).1) at trF
    rw [← z1] at tgF trF
    refine MM.fin ⟨TR_nd (y := .add _ _) ht.1 ht.2 ⟨TR.mono _ _ _ _ _ a4 hm1 hm4, TR.mono _ _ _ _ _ (TR_opx _ trF) (by omega) (Nat.le_refl _)⟩, ?_⟩
    refine (OTG_nd (k := 16) (by decide)).mpr ⟨hWq, by rw [u1.1]; exact hkq, ⟨?_, ANN_no (by decide)⟩, (OTG_c2 (by decide) (by decide)).mpr ⟨OTG_f.mpr ⟨b1, ((u1.2.2.2.2.2 341 (by decide)).2.2).trans e1, a4'.k1 M.2.2.2.1 M.2.2.2.2.1 (Or.inl (Nat.le_refl _)) a4⟩, (OTG_ef (m' := 23) (i' := 343) (by decide) (by decide)).mpr (OTG_chn.mpr ⟨arr, eA.us u1 ua (by decide), by rw [ua.2.1, hlen, zl], ?_⟩)⟩⟩
    · have ex1 := ex.mv (fun a ha _ => (MM.2.2.2.1.2 a ha).1) u1
      refine ⟨ex1.1, ex1.2.1, ex1.2.2.1, ex1.2.2.2.1, ex1.2.2.2.2.1, ex1.2.2.2.2.2.1, ex1.2.2.2.2.2.2.1, ex1.2.2.2.2.2.2.2.1, fun t' y hy => ⟨fun q => by omega, fun q => by omega, fun _ => ?_, fun q => by omega⟩⟩
      obtain ⟨e', r', so, g1, g2, g3⟩ := (ex1.2.2.2.2.2.2.2.2 _ _ rfl).2.2.1 rfl
      cases hy
      cases g1
      refine ⟨_, _, so, rfl, g2, ?_⟩
      rw [sgs_opx] at g3 ⊢
      rw [z2]
      exact g3
    · rw [ua.2.2.2.2.1, ← ua2.2.2.2.2.1]
      exact tgF
  · obtain ⟨b, b1, b2⟩ := tg j x hx
    exact ⟨b, by rw [ua2.2.2.2.2.1]; exact b1, b2.k0 a5 ri.2.1.1 (trL x (List.mem_of_getElem? hx))⟩
end
