/-! THE COMPONENT'S RESOLVER: fn and case -/
section
variable {G : Gh} {d : Nat} {W N : Nat → Prop} {h h1 h2 h3 h5 h' : AH} {ts : List (Nat × Nat × Nat)} {t i n nb nb' nb1 nb2 r q g fr ba lo hi m m0 m1 m2 lo1 hi1 b k c arr : Nat} {v : Int} {Z Z' Z1 Z2 : Zt} {D D' D1 D2 : Dm} {O : List (Nat × Nat) × List (Nat × Nat)} {s s0 s' s1 s2 s5 : RSt} {x y e x' a' b' : Tr} {l l1 l2 : List Tr} {f : Nat → Option Nat} {A : Zt → Dm → AH → Prop} {K : Nat → Nat}
theorem row_get (k : RowL N h r m) (e : rowAt h r i = some b) (hi : i < m) : ∃ l n, RowC h r l n ∧ l.length = m ∧ l[i]? = some b := by
  obtain ⟨l, n, el, kc, -⟩ := k
  refine ⟨l, n, kc, el, ?_⟩
  have hl : i < l.length := by omega
  have := kc.at (List.getElem?_eq_getElem hl)
  rw [e] at this
  cases this
  exact List.getElem?_eq_getElem hl
theorem row_sz (k : RowL N h r m) : hK h r = 6 ∧ fI h r 78 = nI m ∧ m < 200000 ∧ N r := by
  obtain ⟨l, n, el, kc, k3, -⟩ := k
  have := kc.2.2.1
  have := kc.2.2.2.2.1
  exact ⟨kc.1, by rw [kc.2.1, el], by omega, k3⟩
theorem c_rcl {l : List Nat} (k : RowC h r l n) (hb : l[i]? = some b) (hk : hK h b = 29) : C G mX7_clause (d + 1) [.ref r, .int (nI i)] h (Ret (.ref b) h) := by
  refine bX7_clause G d h _ _ _ ⟨k.1, C.mono (c_get k hb) ?_⟩
  rintro _ _ ⟨rfl, rfl⟩
  exact KR.i ⟨hk, rfl, rfl⟩
theorem cl_kind (hs : shE (Vl ts) n 1 x) (ot : OTG (X0 ts W h) W h x 0 0 q) : hK h q = 29 := by
  cases n with
  | zero => exact hs.elim
  | succ n =>
    unfold shE at hs
    rw [if_neg (by decide), if_pos rfl] at hs
    obtain ⟨t, v, ps, e, rfl, -⟩ := hs
    simpa [kc] using ((OTG_nd (k := 50) (y := .add (.num v) (.add (ls ps) e)) (by decide)).mp ot).2.1
theorem row32 {N0 : Nat} (hC : CR G W ts O n d) (ri : rI G W ts O h Z D s nb lo hi) (hWq : W q) (hk : hK h q = 30) (eF0 : fR h q 319 = some r) (rl : RowL W h r N0) {Q : Outcome → AH → Prop} {F : List Tr} {sF : RSt}
    (hQ : ∀ m h1 Z1 D1 nb1, rM G W ts O h Z D nb lo hi h1 Z1 D1 sF nb1 m → LZ ts W O (rowAt h r) F [] m0 m hi Z1 D1 h1 → Q (.returned none) h1) :
    ∀ l2 l1 m h1 s1 Z1 D1 nb1, rM G W ts O h Z D nb lo hi h1 Z1 D1 s1 nb1 m → LZ ts W O (rowAt h r) l1 l2 m0 m hi Z1 D1 h1 → (∀ y, y ∈ l2 → shE (Vl ts) n 1 y) → N0 = l1.length + l2.length → F = l1 ++ (rLs (rs (Pl ts) (knO O) n 1) l2 s1).1 → sF = (rLs (rs (Pl ts) (knO O) n 1) l2 s1).2 →
    X G mX32_resolve (d + 7) none [] 2 [(0, .ref q), (1, .ref (gW G 4)), (2, .int (nI l1.length))] [] h1 Q := by
  intro l2
  induction l2 with
  | nil =>
    intro l1 m h1 s1 Z1 D1 nb1 M L hs hlen eF eS
    have u1 := (M.2.2.2.1.2 q hWq).1
    obtain ⟨rl1, ra1, -⟩ := rl.mvs (N' := W) (h' := h1) fun a ha _ => ⟨(M.2.2.2.1.2 a ha).1, ha⟩
    obtain ⟨z1, z2, z3, z4⟩ := row_sz rl1
    refine bX32_resolve_2 G (d + 6) h1 _ _ _ (M.1.1.1.at (by decide)) ⟨u1.1.trans hk, r, ((u1.2.2.2.2.2 319 (by decide)).2.2).trans eF0, z1, ?_⟩
    rw [z2, nI_leI (by omega) (by simp at hlen; omega)]
    refine ⟨fun _ => ?_, fun z => absurd (by simp at hlen; omega) z⟩
    change F = l1 ++ [] at eF
    change sF = s1 at eS
    rw [List.append_nil] at eF
    subst eF eS
    exact hQ m h1 Z1 D1 nb1 M L
  | cons x2 l2 IH =>
    intro l1 m h1 s1 Z1 D1 nb1 M L hs hlen eF eS
    have u1 := (M.2.2.2.1.2 q hWq).1
    obtain ⟨rl1, ra1, -⟩ := rl.mvs (N' := W) (h' := h1) fun a ha _ => ⟨(M.2.2.2.1.2 a ha).1, ha⟩
    obtain ⟨z1, z2, z3, z4⟩ := row_sz rl1
    simp only [List.length_cons] at hlen
    obtain ⟨m2, b, hm, hm2, hw2, fb, ob, nxt⟩ := L.nxt
    obtain ⟨rl0, rn, rc, -, rb⟩ := row_get (i := l1.length) rl1 (by rw [ra1]; exact fb) (by omega)
    have hs2 := hs x2 (List.mem_cons_self ..)
    refine bX32_resolve_2 G (d + 6) h1 _ _ _ (M.1.1.1.at (by decide)) ⟨u1.1.trans hk, r, ((u1.2.2.2.2.2 319 (by decide)).2.2).trans eF0, z1, ?_⟩
    rw [z2, nI_leI (by omega) (by omega)]
    refine ⟨fun z => by omega, fun _ => ⟨r, ((u1.2.2.2.2.2 319 (by decide)).2.2).trans eF0, z1, C.rr (c_rcl (d := d + 5) rc rb (cl_kind hs2 ob)) ?_⟩⟩
    refine C.mono (hC x2 m m m2 b h1 s1 Z1 D1 nb1 hs2 hw2 ⟨Nat.le_refl _, Or.inl rfl⟩ ob (M.ri ri hm hm2)) ?_
    rintro _ h2 ⟨rfl, Z2, D2, nb2, a1, a2, a3, ⟨a4, a4'⟩, a5, a6, a7, a8, a9, a10, a11⟩
    have M2 := M.stp hm hm2 a1 a2 a3 a5 a6 a7 a8 a9 a10 a11
    have L2 := nxt h2 Z2 D2 _ M.2.1.1 a5 a6 a4 a4'
    refine KV.i ?_
    rintro _ rfl
    rw [nI_1]
    have := IH (l1 ++ [(rs (Pl ts) (knO O) n 1 x2 s1).1]) m2 h2 (rs (Pl ts) (knO O) n 1 x2 s1).2 Z2 D2 nb2 M2 L2 (fun y hy => hs y (List.mem_cons_of_mem _ hy)) (by rw [List.length_append, List.length_singleton]; omega) (by rw [eF, List.append_assoc, List.singleton_append]; rfl) eS
    rw [List.length_append, List.length_singleton] at this
    exact this
theorem row33 {N0 : Nat} (hC : CR G W ts O n d) (ri : rI G W ts O h Z D s nb lo hi) (hWq : W q) (hk : hK h q = 31) (eF0 : fR h q 322 = some r) (rl : RowL W h r N0) {Q : Outcome → AH → Prop} {F : List Tr} {sF : RSt}
    (hQ : ∀ m h1 Z1 D1 nb1, rM G W ts O h Z D nb lo hi h1 Z1 D1 sF nb1 m → LZ ts W O (rowAt h r) F [] m0 m hi Z1 D1 h1 → Q (.returned none) h1) :
    ∀ l2 l1 m h1 s1 Z1 D1 nb1, rM G W ts O h Z D nb lo hi h1 Z1 D1 s1 nb1 m → LZ ts W O (rowAt h r) l1 l2 m0 m hi Z1 D1 h1 → (∀ y, y ∈ l2 → shE (Vl ts) n 1 y) → N0 = l1.length + l2.length → F = l1 ++ (rLs (rs (Pl ts) (knO O) n 1) l2 s1).1 → sF = (rLs (rs (Pl ts) (knO O) n 1) l2 s1).2 →
    X G mX33_resolve (d + 7) none [] 10 [(0, .ref q), (1, .ref (gW G 4)), (2, .int (nI l1.length))] [] h1 Q := by
  intro l2
  induction l2 with
  | nil =>
    intro l1 m h1 s1 Z1 D1 nb1 M L hs hlen eF eS
    have u1 := (M.2.2.2.1.2 q hWq).1
    obtain ⟨rl1, ra1, -⟩ := rl.mvs (N' := W) (h' := h1) fun a ha _ => ⟨(M.2.2.2.1.2 a ha).1, ha⟩
    obtain ⟨z1, z2, z3, z4⟩ := row_sz rl1
    refine bX33_resolve_10 G (d + 6) h1 _ _ _ (M.1.1.1.at (by decide)) ⟨u1.1.trans hk, r, ((u1.2.2.2.2.2 322 (by decide)).2.2).trans eF0, z1, ?_⟩
    rw [z2, nI_leI (by omega) (by simp at hlen; omega)]
    refine ⟨fun _ => ?_, fun z => absurd (by simp at hlen; omega) z⟩
    change F = l1 ++ [] at eF
    change sF = s1 at eS
    rw [List.append_nil] at eF
    subst eF eS
    exact hQ m h1 Z1 D1 nb1 M L
  | cons x2 l2 IH =>
    intro l1 m h1 s1 Z1 D1 nb1 M L hs hlen eF eS
    have u1 := (M.2.2.2.1.2 q hWq).1
    obtain ⟨rl1, ra1, -⟩ := rl.mvs (N' := W) (h' := h1) fun a ha _ => ⟨(M.2.2.2.1.2 a ha).1, ha⟩
    obtain ⟨z1, z2, z3, z4⟩ := row_sz rl1
    simp only [List.length_cons] at hlen
    obtain ⟨m2, b, hm, hm2, hw2, fb, ob, nxt⟩ := L.nxt
    obtain ⟨rl0, rn, rc, -, rb⟩ := row_get (i := l1.length) rl1 (by rw [ra1]; exact fb) (by omega)
    have hs2 := hs x2 (List.mem_cons_self ..)
    refine bX33_resolve_10 G (d + 6) h1 _ _ _ (M.1.1.1.at (by decide)) ⟨u1.1.trans hk, r, ((u1.2.2.2.2.2 322 (by decide)).2.2).trans eF0, z1, ?_⟩
    rw [z2, nI_leI (by omega) (by omega)]
    refine ⟨fun z => by omega, fun _ => ⟨r, ((u1.2.2.2.2.2 322 (by decide)).2.2).trans eF0, z1, C.rr (c_rcl (d := d + 5) rc rb (cl_kind hs2 ob)) ?_⟩⟩
    refine C.mono (hC x2 m m m2 b h1 s1 Z1 D1 nb1 hs2 hw2 ⟨Nat.le_refl _, Or.inl rfl⟩ ob (M.ri ri hm hm2)) ?_
    rintro _ h2 ⟨rfl, Z2, D2, nb2, a1, a2, a3, ⟨a4, a4'⟩, a5, a6, a7, a8, a9, a10, a11⟩
    have M2 := M.stp hm hm2 a1 a2 a3 a5 a6 a7 a8 a9 a10 a11
    have L2 := nxt h2 Z2 D2 _ M.2.1.1 a5 a6 a4 a4'
    refine KV.i ?_
    rintro _ rfl
    rw [nI_1]
    have := IH (l1 ++ [(rs (Pl ts) (knO O) n 1 x2 s1).1]) m2 h2 (rs (Pl ts) (knO O) n 1 x2 s1).2 Z2 D2 nb2 M2 L2 (fun y hy => hs y (List.mem_cons_of_mem _ hy)) (by rw [List.length_append, List.length_singleton]; omega) (by rw [eF, List.append_assoc, List.singleton_append]; rfl) eS
    rw [List.length_append, List.length_singleton] at this
    exact this
theorem exp_fn (hC : CR G W ts O n d) (hw : wf (Kd ts) (n1 12 t (ls l)) lo hi) (hl : ∀ y, y ∈ l → shE (Vl ts) n 1 y) (ot : OTG (X0 ts W h) W h (n1 12 t (ls l)) 0 0 q) (ri : rI G W ts O h Z D s nb lo hi) : C G mX32_resolve (d + 7) [.ref q, .ref (gW G 4)] h (rP G W ts O h Z D nb lo hi (rA ts W O lo hi (rs (Pl ts) (knO O) (n + 1) 0 (n1 12 t (ls l)) s).1 q) (rs (Pl ts) (knO O) (n + 1) 0 (n1 12 t (ls l)) s).2) ∧ hK h q = 30 := by
  obtain ⟨ht, -, m0, hm1, hm2, hw0⟩ := wf_nd (k := 12) (by decide) hw
  obtain ⟨hWq, hkq, ⟨ex, -⟩, oy⟩ := (OTG_nd (k := 12) (by decide)).mp ot
  have hk : hK h q = 30 := by simpa [kc] using hkq
  obtain ⟨r, e0, rl, tg⟩ := OTG_row.mp ((OTG_ef (m' := 22) (i' := 319) (by decide) (by decide)).mp oy)
  have eR : rs (Pl ts) (knO O) (n + 1) 0 (n1 12 t (ls l)) s = (n1 12 t (ls (rLs (rs (Pl ts) (knO O) n 1) l s).1), (rLs (rs (Pl ts) (knO O) n 1) l s).2) := by
    have e0 : rs (Pl ts) (knO O) (n + 1) 0 (n1 12 t (ls l)) s = (n1 12 t (ls (rLs (rs (Pl ts) (knO O) n 1) (unl (ls l)) s).1), (rLs (rs (Pl ts) (knO O) n 1) (unl (ls l)) s).2) := rfl
    rw [e0, unl_ls]
  rw [eR]
  refine ⟨bX32_resolve G (d + 6) h _ _ ?_, hk⟩
  refine row32 (m0 := m0) hC ri hWq hk e0 rl (fun m h1 Z1 D1 nb1 M L => ?_) l [] m0 h s Z D nb (rM.ini ri hm1 hm2) (LZ.ini (fun j x hx => tg j x hx) hw0 hm2) hl (by simp) rfl rfl
  have u1 := (M.2.2.2.1.2 q hWq).1
  obtain ⟨tgF, trF⟩ := L.fin
  obtain ⟨rl1, ra1, -⟩ := rl.mvs (N' := W) (h' := h1) fun a ha _ => ⟨(M.2.2.2.1.2 a ha).1, ha⟩
  refine M.fin ⟨TR_nd ht.1 ht.2 (TR.mono _ _ _ _ _ trF hm1 (Nat.le_refl _)), ?_⟩
  exact (OTG_nd (k := 12) (by decide)).mpr ⟨hWq, by rw [u1.1]; exact hkq, ⟨(ex.mv (fun a ha _ => (M.2.2.2.1.2 a ha).1) u1).ch (by decide), ANN_no (by decide)⟩, (OTG_ef (m' := 22) (i' := 319) (by decide) (by decide)).mpr (OTG_row.mpr ⟨r, ((u1.2.2.2.2.2 319 (by decide)).2.2).trans e0, (rLs_ln (F := rs (Pl ts) (knO O) n 1) l s) ▸ rl1, by rw [funext ra1]; exact tgF⟩)⟩
theorem exp_case (hE : ER G W ts O n d) (hC : CR G W ts O n d) (hw : wf (Kd ts) (n2 13 t e (ls l)) lo hi) (he : shE (Vl ts) n 0 e) (hl : ∀ y, y ∈ l → shE (Vl ts) n 1 y) (ot : OTG (X0 ts W h) W h (n2 13 t e (ls l)) 0 0 q) (ri : rI G W ts O h Z D s nb lo hi) : C G mX33_resolve (d + 7) [.ref q, .ref (gW G 4)] h (rP G W ts O h Z D nb lo hi (rA ts W O lo hi (rs (Pl ts) (knO O) (n + 1) 0 (n2 13 t e (ls l)) s).1 q) (rs (Pl ts) (knO O) (n + 1) 0 (n2 13 t e (ls l)) s).2) ∧ hK h q = 31 := by
  obtain ⟨ht, -, m0, hm1, hm2, hw0⟩ := wf_nd (k := 13) (y := .add e (ls l)) (by decide) hw
  unfold wf at hw0
  obtain ⟨m, hm3, hm4, hwa, hwb⟩ := hw0
  obtain ⟨hWq, hkq, ⟨ex, -⟩, oy⟩ := (OTG_nd (k := 13) (by decide)).mp ot
  have hk : hK h q = 31 := by simpa [kc] using hkq
  rw [OTG_c2 (by decide) (by decide)] at oy
  obtain ⟨b1, e1, o1⟩ := OTG_f.mp oy.1
  obtain ⟨r, e0, rl, tg⟩ := OTG_row.mp ((OTG_ef (m' := 22) (i' := 322) (by decide) (by decide)).mp oy.2)
  have eR : rs (Pl ts) (knO O) (n + 1) 0 (n2 13 t e (ls l)) s = (n2 13 t (rs (Pl ts) (knO O) n 0 e s).1 (ls (rLs (rs (Pl ts) (knO O) n 1) l (rs (Pl ts) (knO O) n 0 e s).2).1), (rLs (rs (Pl ts) (knO O) n 1) l (rs (Pl ts) (knO O) n 0 e s).2).2) := by
    have e0 : rs (Pl ts) (knO O) (n + 1) 0 (n2 13 t e (ls l)) s = (n2 13 t (rs (Pl ts) (knO O) n 0 e s).1 (ls (rLs (rs (Pl ts) (knO O) n 1) (unl (ls l)) (rs (Pl ts) (knO O) n 0 e s).2).1), (rLs (rs (Pl ts) (knO O) n 1) (unl (ls l)) (rs (Pl ts) (knO O) n 0 e s).2).2) := rfl
    rw [e0, unl_ls]
  rw [eR]
  have M0 := rM.ini ri hm1 hm2
  obtain ⟨kc1, ν1, v1, v2, v3⟩ := hE e m0 m b1 h s Z D nb he hwa o1 (M0.ri ri hm3 hm4)
  refine ⟨bX33_resolve G (d + 6) h _ _ ⟨hk, b1, e1, kc1, ν1, v1, v2, C.mono v3 ?_⟩, hk⟩
  rintro _ h2 ⟨rfl, Z1, D1, nb1, a1, a2, a3, ⟨a4, a4'⟩, a5, a6, a7, a8, a9, a10, a11⟩
  have M1 := M0.stp hm3 hm4 a1 a2 a3 a5 a6 a7 a8 a9 a10 a11
  have ri2 := M1.ri ri hm4 (Nat.le_refl _)
  have trL : ∀ y, y ∈ l → TR m hi y := TR.ls_at (wf.tr _ _ _ hwb)
  have uq := (M1.2.2.2.1.2 q hWq).1
  obtain ⟨rl2, ra2, -⟩ := rl.mvs (N' := W) (h' := h2) fun a ha _ => ⟨(M1.2.2.2.1.2 a ha).1, ha⟩
  refine KV.i (row33 (m0 := m) hC ri2 hWq (uq.1.trans hk) (((uq.2.2.2.2.2 322 (by decide)).2.2).trans e0) rl2 (fun m' h1 Z2 D2 nb2 M L => ?_) l [] m h2 _ Z1 D1 nb1 (rM.ini ri2 (Nat.le_refl _) hm4) (LZ.ini (fun j x hx => ?_) hwb hm4) hl (by simp) rfl rfl)
  · have MM := M1.cat M
    have u1 := (MM.2.2.2.1.2 q hWq).1
    obtain ⟨tgF, trF⟩ := L.fin
    obtain ⟨rl1, ra1, -⟩ := rl.mvs (N' := W) (h' := h1) fun a ha _ => ⟨(MM.2.2.2.1.2 a ha).1, ha⟩
    refine MM.fin ⟨TR_nd (y := .add _ _) ht.1 ht.2 ⟨TR.mono _ _ _ _ _ a4 hm1 hm4, TR.mono _ _ _ _ _ trF (by omega) (Nat.le_refl _)⟩, ?_⟩
    refine (OTG_nd (k := 13) (by decide)).mpr ⟨hWq, by rw [u1.1]; exact hkq, ⟨(ex.mv (fun a ha _ => (MM.2.2.2.1.2 a ha).1) u1).ch (by decide), ANN_no (by decide)⟩, (OTG_c2 (by decide) (by decide)).mpr ⟨OTG_f.mpr ⟨b1, ((u1.2.2.2.2.2 321 (by decide)).2.2).trans e1, a4'.k1 M.2.2.2.1 M.2.2.2.2.1 (Or.inl (Nat.le_refl _)) a4⟩, (OTG_ef (m' := 22) (i' := 322) (by decide) (by decide)).mpr (OTG_row.mpr ⟨r, ((u1.2.2.2.2.2 322 (by decide)).2.2).trans e0, (rLs_ln (F := rs (Pl ts) (knO O) n 1) l (rs (Pl ts) (knO O) n 0 e s).2) ▸ rl1, ?_⟩)⟩⟩
    rw [funext ra1, ← funext ra2]
    exact tgF
  · obtain ⟨b, b1, b2⟩ := tg j x hx
    exact ⟨b, by rw [ra2]; exact b1, b2.k0 a5 ri.2.1.1 (trL x (List.mem_of_getElem? hx))⟩
end
