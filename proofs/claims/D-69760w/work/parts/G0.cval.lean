/-! THE COMPONENT'S RESOLVER: val; names of functions -/
section
variable {G : Gh} {d : Nat} {W N : Nat → Prop} {h h1 h2 h3 h5 h' : AH} {ts : List (Nat × Nat × Nat)} {t i n nb nb' nb1 nb2 r q g fr ba lo hi m m0 m1 m2 lo1 hi1 b k c arr : Nat} {v : Int} {Z Z' Z1 Z2 : Zt} {D D' D1 D2 : Dm} {O : List (Nat × Nat) × List (Nat × Nat)} {s s0 s' s1 s2 s5 : RSt} {x y e x' a' b' : Tr} {l l1 l2 : List Tr} {f : Nat → Option Nat} {A : Zt → Dm → AH → Prop} {K : Nat → Nat}
theorem dec_val {p : Tr} (hP : PR G W ts O n (d + 3)) (hE : ER G W ts O n d) (hw : wf (Kd ts) (n2 51 t p e) lo hi) (hp : shP n p) (he : shE (Vl ts) n 0 e) (ot : OTG (X0 ts W h) W h (n2 51 t p e) 0 0 q) (ri : rI G W ts O h Z D s nb lo hi) : C G mX30_resolve (d + 7) [.ref q, .ref (gW G 4)] h (rP G W ts O h Z D nb lo hi (rA ts W O lo hi (rs (Pl ts) (knO O) (n + 1) 2 (n2 51 t p e) s).1 q) (rs (Pl ts) (knO O) (n + 1) 2 (n2 51 t p e) s).2) ∧ hK h q = 28 := by
  obtain ⟨ht, -, m0, hm1, hm2, hw0⟩ := wf_nd (k := 51) (y := .add p e) (by decide) hw
  unfold wf at hw0
  obtain ⟨m, hm3, hm4, hwa, hwb⟩ := hw0
  obtain ⟨hWq, hkq, ⟨ex, -⟩, oy⟩ := (OTG_nd (k := 51) (by decide)).mp ot
  have hk : hK h q = 28 := by simpa [kc] using hkq
  rw [OTG_c2 (by decide) (by decide)] at oy
  obtain ⟨b1, e1, o1⟩ := OTG_f.mp oy.1
  obtain ⟨b3, e3, o3⟩ := OTG_f.mp ((OTG_ef (m' := 1) (i' := 315) (by decide) (by decide)).mp oy.2)
  have eR : rs (Pl ts) (knO O) (n + 1) 2 (n2 51 t p e) s = (n2 51 t (rPat (Pl ts) n (rV (rs (Pl ts) (knO O) n 0 e s).2).length p (rs (Pl ts) (knO O) n 0 e s).2).1 (rs (Pl ts) (knO O) n 0 e s).1, (rPat (Pl ts) n (rV (rs (Pl ts) (knO O) n 0 e s).2).length p (rs (Pl ts) (knO O) n 0 e s).2).2) := rfl
  rw [eR]
  obtain ⟨kc1, ν1, v1, v2, v3⟩ := hE e m hi b3 h s Z D nb he hwb o3 (ri.nar (by omega) hm4 (Nat.le_refl _))
  refine ⟨bX30_resolve G (d + 6) h _ _ (ri.1.1.1.at (by decide)) ⟨hk, b3, e3, kc1, ν1, v1, v2, C.mono v3 ?_⟩, hk⟩
  rintro _ h2 ⟨rfl, Z1, D1, nb1, a1, a2, a3, ⟨a4, a4'⟩, a5, a6, a7, a8, a9, a10, a11⟩
  generalize rs (Pl ts) (knO O) n 0 e s = rE at *
  obtain ⟨k1, k2, k3, k4, k5, k6, k7, k8⟩ := id ri
  have u1 := (a5.2 q hWq).1
  obtain ⟨ba, b1', b2', b3', b5, b6, b7, b8, b9, b10, b11⟩ := a1.2.2.2.1
  have ri2 : rI G W ts O h2 Z1 D1 rE.2 nb1 m0 m := ⟨a1, a2, a3, ⟨by omega, hm3⟩, a8, a9, fun t ht => by
    rcases a7 t ht with z | z
    · have := k7 t z; omega
    · omega, by omega⟩
  obtain ⟨kc2, ν2, w1, w2, w3⟩ := hP p m0 m b1 (rV rE.2).length h2 rE.2 Z1 D1 nb1 hp hwa (o1.k0 a5 ri.2.1.1 (wf.tr _ _ _ hwa)) ri2 (Nat.le_refl _)
  refine KV.i ⟨b1, ((u1.2.2.2.2.2 314 (by decide)).2.2).trans e1, kc2, ν2, w1, w2, ?_⟩
  rw [b9]
  refine C.mono w3 ?_
  rintro _ h3 ⟨rfl, Z2, D2, nb2, c1, c2, c3, ⟨c4, c4'⟩, c5, c6, c7, c8, c9, c10, c11⟩
  have kw : KW W lo hi h h3 := (a5.wd (by omega) (Nat.le_refl _)).tr (c5.wd hm1 hm4)
  have uq := (kw.2 q hWq).1
  refine KV.i ⟨rfl, Z2, D2, nb2, c1, c2, c3, ⟨TR_nd (y := .add _ _) ht.1 ht.2 ⟨TR.mono _ _ _ _ _ c4 hm1 hm4, TR.mono _ _ _ _ _ a4 (by omega) (Nat.le_refl _)⟩, ?_⟩, kw, a6.tr c6, fun t ht => ?_, c8, c9, by omega, a11.tr c11⟩
  · exact (OTG_nd (k := 51) (by decide)).mpr ⟨hWq, by rw [uq.1]; exact hkq, ⟨(ex.mv (fun a ha _ => (kw.2 a ha).1) uq).ch (by decide), ANN_no (by decide)⟩, (OTG_c2 (by decide) (by decide)).mpr ⟨OTG_f.mpr ⟨b1, ((uq.2.2.2.2.2 314 (by decide)).2.2).trans e1, c4'⟩, (OTG_ef (m' := 1) (i' := 315) (by decide) (by decide)).mpr (OTG_f.mpr ⟨b3, ((uq.2.2.2.2.2 315 (by decide)).2.2).trans e3, a4'.k1 c5 c6 (Or.inr (Nat.le_refl _)) a4⟩)⟩⟩
  · rcases c7 t ht with z | z
    · exact (a7 t z).imp_right fun z => by omega
    · exact Or.inr (by omega)
/-- a node gets its binding -/
theorem bd_nd {B : Nat} (ri : rI G W ts O h Z D s nb lo hi) (ht : lo ≤ t ∧ t < hi) (hWq : W q) (hkk : hK h q = 21 ∨ hK h q = 45) (htk : tokA h q = t) (hg : g = 305 ∨ g = 346) (bd : bdP G W h ts Z O (rBind (Pl ts) fr t (Vl ts t) s) t nb (rV s).length (.returned (some (.ref B))) h2) (e3 : h3 = pR h2 q g (some B)) :
    ∃ nb', RS G W h3 ts (updF Z.1 t B, Z.2) O (rBind (Pl ts) fr t (Vl ts t) s) nb' ∧ WB G W h3 ∧ VD (rBind (Pl ts) fr t (Vl ts t) s) (fun x => D.1 x ∨ x = t, D.2) ∧ KW W t (t + 1) h h3 ∧ Ext Z (updF Z.1 t B, Z.2) D (fun x => D.1 x ∨ x = t, D.2) ∧ VN ts (rBind (Pl ts) fr t (Vl ts t) s) ∧ nb' ≤ 18200 ∧ pU h3 nb' ≤ pU h nb + 23 ∧ Le h h3 none ∧ fR h3 q g = some B ∧ hK h2 q = hK h q := by
  obtain ⟨k1, k2, k3, k4, k5, k6, k7, k8⟩ := id ri
  obtain ⟨B', nb', eB, f1, f2, r2, fr2, e82, le2, u2, hnb⟩ := bd
  cases eB
  have hlt := k1.1.2.2.2.1
  have hvl := k5.len
  unfold pU at k8
  have w : WQ q h2 h3 := by rw [e3]; exact WQ.rf.pR
  have le3 : Le h2 h3 none := by rw [e3]; exact pR_le (Or.inl (by rcases hg with rfl | rfl <;> decide))
  have f5 : fR h3 q g = some B := by rw [e3, fR_pR, if_pos ⟨rfl, rfl⟩]
  have sfq : ∀ g, sf g = true → fI h3 q g = fI h2 q g ∧ fJ h3 q g = fJ h2 q g ∧ fR h3 q g = fR h2 q g := fun g' hg' => by
    rw [e3, fI_pR, fJ_pR, fR_pR, if_neg (fun e => by rw [e.2] at hg'; rcases hg with rfl | rfl <;> exact absurd hg' (by decide))]
    exact ⟨rfl, rfl, rfl⟩
  have uW : ∀ a, W a → Uf h h2 a := fun a ha => fr2 a (k2.1 a ha) (fun e => k2.2.1 (by rw [← e]; exact ha)) fun e => k2.2.2.1 a e ha
  have hk2 : hK h2 q = hK h q := (uW q hWq).1
  have wb2 : WB G W h2 := ⟨fun a ha => by rw [(uW a ha).1]; exact k2.1 a ha, k2.2.1, fun ba e hW => by
    rcases e82 ba e with q | q
    · exact k2.2.2.1 ba q hW
    · exact k2.1 ba hW q, fun a ha => by rw [(uW a ha).1]; exact k2.2.2.2 a ha⟩
  obtain ⟨r3, wb3⟩ := r2.nW wb2 w le3 (by rw [hk2]; rcases hkk with e | e <;> rw [e] <;> decide) hWq
  have kw : KW W t (t + 1) h h3 := (KW.of le2.1 uW).tr (w.kw (by rw [(uW q hWq).us.tok, htk]; exact ⟨by omega, by omega⟩) sfq)
  have hnD : ∀ x, D.1 x → x ≠ t := fun x hx e => by have := k7 x hx; omega
  have u3 : un h3 = un h2 := w.un
  refine ⟨nb', r3, wb3, ?_, kw, ?_, ?_, by omega, by unfold pU; omega, le2.tr le3, f5, hk2⟩
  · have eC : rCt (rBind (Pl ts) fr t (Vl ts t) s) = rCt s := by unfold rBind rIf rNote rCt; split <;> rfl
    have eD : rDt (rBind (Pl ts) fr t (Vl ts t) s) = rDt s := by unfold rBind rIf rNote rDt; split <;> rfl
    have eR : rC (rBind (Pl ts) fr t (Vl ts t) s) = rC s ∧ rT (rBind (Pl ts) fr t (Vl ts t) s) = rT s := by unfold rBind rIf rNote rC rT; split <;> exact ⟨rfl, rfl⟩
    refine ⟨fun x hx => ?_, by rw [eC]; exact k3.2.1, by rw [eD]; exact k3.2.2.1, k3.2.2.2.mv (fun t h => Or.inl h) ⟨eC, eD⟩ (by rw [eR.1, eR.2]; exact ⟨Nat.le_refl _, Nat.le_refl _⟩)⟩
    rcases List.mem_cons.mp (show x ∈ (Vl ts t, t) :: rV s from hx) with rfl | hx
    · exact Or.inr rfl
    · exact Or.inl (k3.1 x hx)
  · refine ⟨fun x hx => ⟨Or.inl hx, ?_⟩, ⟨Nat.le_refl _, fun _ _ => rfl⟩, ⟨Nat.le_refl _, fun _ _ => rfl⟩⟩
    show updF Z.1 t B x = Z.1 x
    unfold updF
    rw [if_neg (hnD x hx)]
  · refine ⟨List.nodup_cons.mpr ⟨fun hm => ?_, k5.1⟩, fun x hx => ?_⟩
    · obtain ⟨y, hy, e⟩ := List.mem_map.mp hm
      exact hnD y.2 (k3.1 y hy) e
    · rcases List.mem_cons.mp (show x ∈ (Vl ts t, t) :: rV s from hx) with rfl | hx
      · show t < ts.length
        omega
      · exact k5.2 x hx
/-- are two names one? -/
theorem c_twice {t1 t2 : Nat} (c : TkC G h ts) (h1 : t1 < ts.length) (k1 : Kd ts t1 = 280 ∨ Kd ts t1 = 281 ∨ Kd ts t1 = 282) (h2 : t2 < ts.length) (k2 : Kd ts t2 = 280 ∨ Kd ts t2 = 281 ∨ Kd ts t2 = 282) : C G mX9_isTwice (d + 1) [.ref (gW G 4), .int (nI t1), .int (nI t2)] h (Ret (.int (b2 (Vl ts t2 == Vl ts t1))) h) := by
  have hl := c.2.2.2.1
  refine bX9_isTwice G d h _ _ _ (c.1.at (by decide)) (c.1.at (by decide)) ⟨vp_in_nI (by omega) (by decide), vp_in_nI (by omega) (by decide), ?_⟩
  rw [nI_cn (by omega)]
  exact C.ri (c_is c h1 k1 ((c.at h2).2 k2)) ⟨b2_01 _, rfl, rfl⟩
theorem c_rfun {l : List Nat} (k : RowC h r l n) (hb : l[i]? = some b) (hk : hK h b = 45) : C G mX7_fun (d + 1) [.ref r, .int (nI i)] h (Ret (.ref b) h) := by
  refine bX7_fun G d h _ _ _ ⟨k.1, C.mono (c_get k hb) ?_⟩
  rintro _ _ ⟨rfl, rfl⟩
  exact KR.i ⟨hk, rfl, rfl⟩
/-- functions that have their bindings -/
def FBs (W : Nat → Prop) (f : Nat → Option Nat) (fs : List Tr) (Z : Zt) (D : Dm) (h : AH) : Prop := ∀ (j : Nat) (x : Tr), fs[j]? = some x → ∃ b, f j = some b ∧ W b ∧ tokA h b = tkN x ∧ D.1 (tkN x) ∧ fR h b 346 = some (Z.1 (tkN x))
theorem FBs.mv (k : FBs W f l Z D h) (kw : KW W lo hi h h') (e : Ext Z Z' D D') (hd : ∀ x, x ∈ l → tkN x < lo ∨ hi ≤ tkN x) : FBs W f l Z' D' h' := by
  intro j x hx
  obtain ⟨b, b1, b2, b3, b4, b5⟩ := k j x hx
  have u := (kw.2 b b2).2 (by have := hd x (List.mem_of_getElem? hx); omega)
  exact ⟨b, b1, b2, u.us.tok.trans b3, (e.1 _ b4).1, by rw [(u.2.2.2.2.2 346).2.2, (e.1 _ b4).2]; exact b5⟩
/-- the form of a function -/
def shF (V : Nat → Nat) (n : Nat) (f : Tr) : Prop := ∃ (t : Nat) (c0 : Tr) (cs : List Tr), f = n2 54 t (.num (V t)) (ls (c0 :: cs)) ∧ tkN c0 = t ∧ ∀ c, c ∈ c0 :: cs → shE V n 1 c ∧ nv1 c = V (tkN c) ∧ V (tkN c) ≠ 0
theorem shF_tk (k : shF (Vl ts) n x) (w : wf (Kd ts) x lo hi) : (lo ≤ tkN x ∧ tkN x < hi) ∧ Kd ts (tkN x) = 280 := by
  obtain ⟨t, c0, cs, rfl, -⟩ := k
  obtain ⟨ht, hk, -⟩ := wf_nd (k := 54) (by decide) w
  exact ⟨ht, hk.1 (Or.inr (Or.inr (Or.inl rfl)))⟩
/-- the functions' names are bound -/
theorem fun_7 {N0 : Nat} {fs : List Tr} (ri : rI G W ts O h Z D s nb lo hi) (hWq : W q) (hk : hK h q = 46) (eF0 : fR h q 348 = some r) (rl : RowL W h r N0) (hfs : ∀ (j : Nat) (x : Tr), fs[j]? = some x → ∃ b, rowAt h r j = some b ∧ OTG (X0 ts W h) W h x 0 0 b) (hN : N0 = fs.length) {Q : Outcome → AH → Prop}
    (hQ : ∀ m h1 s1 Z1 D1 nb1, rM G W ts O h Z D nb lo hi h1 Z1 D1 s1 nb1 m → s1 = fs.foldl (fun s1 f => rBind (Pl ts) (rV s).length (tkN f) (nv1 f) s1) s → FBs W (rowAt h r) fs Z1 D1 h1 → (∀ t, D1.1 t → D.1 t ∨ ∃ x, x ∈ fs ∧ tkN x = t) → pU h1 nb1 ≤ pU h nb + 23 * fs.length → X G mX49_resolve (d + 7) none [] 53 [(0, .ref q), (1, .ref (gW G 4)), (3, .int 0)] [] h1 Q) :
    ∀ l2 l1 m h1 s1 Z1 D1 nb1, fs = l1 ++ l2 → rM G W ts O h Z D nb lo hi h1 Z1 D1 s1 nb1 m → (rV s).length ≤ (rV s1).length → s1 = l1.foldl (fun s1 f => rBind (Pl ts) (rV s).length (tkN f) (nv1 f) s1) s → FBs W (rowAt h r) l1 Z1 D1 h1 → (∀ t, D1.1 t → D.1 t ∨ ∃ x, x ∈ l1 ∧ tkN x = t) → pU h1 nb1 ≤ pU h nb + 23 * l1.length → (∀ x, x ∈ l1 → tkN x < m) → wf (Kd ts) (ls l2) m hi → (∀ y, y ∈ l2 → shF (Vl ts) n y) →
    X G mX49_resolve (d + 7) none [] 7 [(0, .ref q), (1, .ref (gW G 4)), (2, .int (nI (rV s).length)), (3, .int (nI l1.length))] [] h1 Q := by
  intro l2
  induction l2 with
  | nil =>
    intro l1 m h1 s1 Z1 D1 nb1 efs M hfr eS B hDc hU hlt hwl hs
    have u1 := (M.2.2.2.1.2 q hWq).1
    obtain ⟨rl1, ra1, -⟩ := rl.mvs (N' := W) (h' := h1) fun a ha _ => ⟨(M.2.2.2.1.2 a ha).1, ha⟩
    obtain ⟨z1, z2, z3, z4⟩ := row_sz rl1
    rw [List.append_nil] at efs
    subst efs
    refine bX49_resolve_7 G (d + 6) h1 _ _ _ _ (M.1.1.1.at (by decide)) ⟨u1.1.trans hk, r, ((u1.2.2.2.2.2 348 (by decide)).2.2).trans eF0, z1, ?_⟩
    rw [z2, nI_leI (by omega) (by omega)]
    exact ⟨fun _ => hQ m h1 s1 Z1 D1 nb1 M eS B hDc hU, fun z => by omega⟩
  | cons x2 l2 IH =>
    intro l1 m h1 s1 Z1 D1 nb1 efs M hfr eS B hDc hU hlt hwl hs
    have u1 := (M.2.2.2.1.2 q hWq).1
    obtain ⟨rl1, ra1, -⟩ := rl.mvs (N' := W) (h' := h1) fun a ha _ => ⟨(M.2.2.2.1.2 a ha).1, ha⟩
    obtain ⟨z1, z2, z3, z4⟩ := row_sz rl1
    have hlen : N0 = l1.length + (l2.length + 1) := by rw [hN, efs, List.length_append, List.length_cons]
    obtain ⟨b, fb, ob⟩ := hfs l1.length x2 (by rw [efs, List.getElem?_append_right (Nat.le_refl _), Nat.sub_self]; rfl)
    obtain ⟨rl0, rn, rc, -, rb⟩ := row_get (i := l1.length) rl1 (by rw [ra1]; exact fb) (by omega)
    have hs2 := hs x2 (List.mem_cons_self ..)
    unfold ls wf at hwl
    obtain ⟨m2, hm, hm2, hw2, hwl2⟩ := hwl
    obtain ⟨htk, hk280⟩ := shF_tk hs2 hw2
    obtain ⟨t, c0, cs, ex2, -⟩ := hs2
    have e54 : tkN x2 = t := by rw [ex2]; rfl
    have en54 : nv1 x2 = Vl ts t := by rw [ex2]; rfl
    rw [e54] at htk hk280
    rw [ex2] at ob
    obtain ⟨hWb, hkb, ⟨exb, -⟩, -⟩ := (OTG_nd (k := 54) (y := .add (.num (Vl ts t)) (ls (c0 :: cs))) (by decide)).mp ob
    have hkb0 : hK h b = 45 := by simpa [kc] using hkb
    have ub := (M.2.2.2.1.2 b hWb).1
    have hkb1 : hK h1 b = 45 := ub.1.trans hkb0
    have htkb : tokA h1 b = t := ub.tok.trans exb.tA
    have e344 : fI h1 b 344 = nI t := ((ub.2.2.2.2.2 344 (by decide)).1).trans (exb.tk hkb0 rfl rfl)
    have riC := M.ri ri hm hm2
    obtain ⟨k1, k2, k3, k4, k5, k6, k7, k8⟩ := id riC
    have hvl := k5.len
    have hlt0 := k1.1.2.2.2.1
    have e48 : fR h1 q 348 = some r := ((u1.2.2.2.2.2 348 (by decide)).2.2).trans eF0
    refine bX49_resolve_7 G (d + 6) h1 _ _ _ _ (M.1.1.1.at (by decide)) ⟨u1.1.trans hk, r, e48, z1, ?_⟩
    rw [z2, nI_leI (by omega) (by omega)]
    refine ⟨fun z => by omega, fun _ => ⟨r, e48, z1, C.rr (c_rfun (d := d + 5) rc rb hkb1) ⟨r, e48, z1, C.rr (c_rfun (d := d + 5) rc rb hkb1) ⟨hkb1, ?_⟩⟩⟩⟩
    rw [e344]
    have hvl := k5.len
    have hun : un h1 + 3 * (rV s1).length + 39 ≤ UB := by unfold pU at k8; omega
    refine C.mono (c_bind (d := d + 4) k1 (by omega) hk280 (fun x hx e => by have := k7 x.2 (k3.1 x hx); omega) hfr hun (by omega)) ?_
    intro o h2 bd
    obtain ⟨Bq, -, eo, -, f2, -⟩ := id bd
    subst eo
    refine KR.i ⟨?_, ?_⟩
    · obtain ⟨Bq', nb', eB, f1, f2', r2, fr2, -⟩ := bd
      exact (fr2 b (by rw [hkb1]; decide) (fun e => k2.2.1 (by rw [← e]; exact hWb)) fun e => k2.2.2.1 b e hWb).1.trans hkb1
    intro h3 e3
    obtain ⟨nb', g1, g2, g3, g4, g5, g6, g7, g8, g9, g10, -⟩ := bd_nd riC htk hWb (Or.inr hkb1) htkb (Or.inr rfl) bd e3
    rintro _ rfl
    rw [nI_1]
    have eF : rBind (Pl ts) (rV s).length t (Vl ts t) s1 = (l1 ++ [x2]).foldl (fun s1 f => rBind (Pl ts) (rV s).length (tkN f) (nv1 f) s1) s := by rw [List.foldl_append, ← eS]; show _ = rBind (Pl ts) (rV s).length (tkN x2) (nv1 x2) s1; rw [e54, en54]
    have M2 := M.stp hm hm2 g1 g2 g3 (g4.wd htk.1 htk.2) g5 (fun x hx => hx.imp_right fun z => by rw [z]; exact htk) g6 g7 (by omega) g9
    have := IH (l1 ++ [x2]) m2 h3 _ _ _ nb' (by rw [efs, List.append_assoc, List.singleton_append]) M2 (Nat.le_trans hfr (by show (rV s1).length ≤ (rV s1).length + 1; omega)) eF ?_ (fun x hx => ?_) (by rw [List.length_append, List.length_singleton]; omega) (fun x hx => ?_) hwl2 (fun y hy => hs y (List.mem_cons_of_mem _ hy))
    · rw [List.length_append, List.length_singleton] at this
      exact this
    · have Bm := B.mv g4 g5 (fun x hx => Or.inl (by have := hlt x hx; omega))
      intro j x hx
      by_cases hj : j < l1.length
      · rw [List.getElem?_append_left hj] at hx
        exact Bm j x hx
      · rw [List.getElem?_append_right (by omega)] at hx
        have : j - l1.length = 0 := by
          refine Classical.byContradiction fun hne => ?_
          rw [List.getElem?_eq_none (by simp; omega)] at hx
          cases hx
        rw [this] at hx
        cases hx
        have ej : j = l1.length := by omega
        rw [ej, e54]
        refine ⟨b, fb, hWb, (g4.2 b hWb).1.tok.trans htkb, Or.inr rfl, ?_⟩
        rw [g10]
        show some Bq = some (updF Z1.1 t Bq t)
        unfold updF
        rw [if_pos rfl]
    · rcases hx with hx | hx
      · rcases hDc x hx with z | ⟨y, y1, y2⟩
        · exact Or.inl z
        · exact Or.inr ⟨y, List.mem_append_left _ y1, y2⟩
      · exact Or.inr ⟨x2, List.mem_append_right _ (List.mem_singleton.mpr rfl), by rw [e54, hx]⟩
    · rcases List.mem_append.mp hx with hx | hx
      · have := hlt x hx; omega
      · rw [List.mem_singleton.mp hx, e54]; exact htk.2
end
