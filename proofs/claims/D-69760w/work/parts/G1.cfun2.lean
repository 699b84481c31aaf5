/-! THE COMPONENT'S RESOLVER: functions -/
/-- in the midst of the functions; sg: how many names of theirs lie behind -/
def FI (G : Gh) (W : Nat → Prop) (ts : List (Nat × Nat × Nat)) (O : List (Nat × Nat) × List (Nat × Nat)) (h : AH) (Z : Zt) (D : Dm) (nb lo hi : Nat) (fs : List Tr) (f : Nat → Option Nat) (h1 : AH) (Z1 : Zt) (D1 : Dm) (s1 : RSt) (nb1 m sg : Nat) : Prop := RS G W h1 ts Z1 O s1 nb1 ∧ WB G W h1 ∧ VD s1 D1 ∧ KW W lo hi h h1 ∧ Ext Z Z1 D D1 ∧ (∀ t, D1.1 t → D.1 t ∨ (∃ x, x ∈ fs ∧ tkN x = t) ∨ (lo ≤ t ∧ t < m)) ∧ VN ts s1 ∧ nb1 ≤ 18200 ∧ pU h1 nb1 + 200 * sg ≤ pU h nb + 23 * fs.length + 200 * (m - lo) ∧ Le h h1 none ∧ FBs W f fs Z1 D1 h1 ∧ lo ≤ m ∧ m ≤ hi
/-- behind the look at a clause's name: how many patterns, then the clause itself -/
def FT (G : Gh) (d q b4 b12 : Nat) (x3 x5 : Int32) (Q : Outcome → AH → Prop) (h40 : AH) : Prop := ∃ b42, fR h40 b12 317 = some b42 ∧ (hK h40 b42 = 1008 ∧ (∃ b45, fR h40 b4 345 = some b45 ∧ (hK h40 b45 = 6 ∧ (C G mX7_clause d [.ref (b45), .int (0)] h40 (KR Q (fun b50 h47 => hK h47 b50 = 29 ∧ (∃ b52, fR h47 b50 317 = some b52 ∧ (hK h47 b52 = 1008 ∧ (((Int32.ofNat (hL h40 b42)) = (Int32.ofNat (hL h47 b52)) → (C G mX9_clause d [.ref (gW G 4), .ref (b12)] h47 (KV Q (fun h56 => ∀ x58 : Int32, x58 = x5 + 1 → (X G mX49_resolve (d + 1) none [] 77 [(0, .ref (q)), (1, .ref (gW G 4)), (3, .int (x3)), (4, .ref (b4)), (5, .int (x58))] [] h56 Q))))) ∧ (¬ ((Int32.ofNat (hL h40 b42)) = (Int32.ofNat (hL h47 b52))) → (C G mX9_found d [.ref (gW G 4), .int (4), .int (fI h47 b12 316)] h47 (KV Q (fun h59 => C G mX9_clause d [.ref (gW G 4), .ref (b12)] h59 (KV Q (fun h61 => ∀ x63 : Int32, x63 = x5 + 1 → (X G mX49_resolve (d + 1) none [] 77 [(0, .ref (q)), (1, .ref (gW G 4)), (3, .int (x3)), (4, .ref (b4)), (5, .int (x63))] [] h61 Q))))))))))))))))
/-- a clause of a function by the law -/
def rCl (ts : List (Nat × Nat × Nat)) (O : List (Nat × Nat) × List (Nat × Nat)) (n cp vf : Nat) (c : Tr) (s : RSt) : Tr × RSt := rs (Pl ts) (knO O) n 1 c (rIf (Pl ts) (!(cPs c == cp)) 4 (tkN c) (rIf (Pl ts) (!(nv1 c == vf)) 3 (tkN c) s))
section
variable {G : Gh} {d : Nat} {W N : Nat → Prop} {h h1 h2 h3 h5 h' : AH} {ts : List (Nat × Nat × Nat)} {t i n nb nb' nb1 nb2 r q g fr ba lo hi m m0 m1 m2 lo1 hi1 b k c arr : Nat} {v : Int} {Z Z' Z1 Z2 : Zt} {D D' D1 D2 : Dm} {O : List (Nat × Nat) × List (Nat × Nat)} {s s0 s' s1 s2 s5 : RSt} {x y e x' a' b' : Tr} {l l1 l2 : List Tr} {f : Nat → Option Nat} {A : Zt → Dm → AH → Prop} {K : Nat → Nat} {fs : List Tr} {sg sg' lo' : Nat}
theorem FI.ri (k : FI G W ts O h Z D nb lo hi fs f h1 Z1 D1 s1 nb1 m sg) (ri : rI G W ts O h Z D s nb lo hi) (hm : m ≤ lo') (hm1 : lo' ≤ m2) (hm2 : m2 ≤ hi) (htk : ∀ x, x ∈ fs → tkN x < lo' ∨ m2 ≤ tkN x) (hb : 23 * fs.length + 200 * (m - lo) + 200 * (m2 - lo') ≤ 200 * (hi - lo) + 200 * sg) : rI G W ts O h1 Z1 D1 s1 nb1 lo' m2 := by
  obtain ⟨k1, k2, k3, k4, k5, k6, k7, k8, k9, k10, k11, k12, k13⟩ := k
  obtain ⟨r1, r2, r3, r4, r5, r6, r7, r8⟩ := ri
  refine ⟨k1, k2, k3, ⟨by omega, hm1⟩, k7, k8, fun t ht => ?_, by omega⟩
  rcases k6 t ht with z | ⟨x, z1, z2⟩ | z
  · have := r7 t z; omega
  · have := htk x z1; omega
  · omega
theorem FI.stp (k : FI G W ts O h Z D nb lo hi fs f h1 Z1 D1 s1 nb1 m sg) (hm : m ≤ lo') (hm1 : lo' ≤ m2) (hm2 : m2 ≤ hi) (htk : ∀ x, x ∈ fs → tkN x < lo' ∨ m2 ≤ tkN x) (hsg : sg' ≤ sg + (lo' - m)) (a1 : RS G W h2 ts Z2 O s2 nb2) (a2 : WB G W h2) (a3 : VD s2 D2) (a5 : KW W lo' m2 h1 h2) (a6 : Ext Z1 Z2 D1 D2) (a7 : ∀ t, D2.1 t → D1.1 t ∨ (lo' ≤ t ∧ t < m2)) (a8 : VN ts s2) (a9 : nb2 ≤ 18200) (a10 : pU h2 nb2 ≤ pU h1 nb1 + 200 * (m2 - lo')) (a11 : Le h1 h2 none) : FI G W ts O h Z D nb lo hi fs f h2 Z2 D2 s2 nb2 m2 sg' := by
  obtain ⟨k1, k2, k3, k4, k5, k6, k7, k8, k9, k10, k11, k12, k13⟩ := k
  refine ⟨a1, a2, a3, k4.tr (a5.wd (by omega) hm2), k5.tr a6, fun t ht => ?_, a8, a9, by omega, k10.tr a11, k11.mv a5 a6 htk, by omega, hm2⟩
  rcases a7 t ht with z | z
  · rcases k6 t z with z | z | z
    · exact Or.inl z
    · exact Or.inr (Or.inl z)
    · exact Or.inr (Or.inr (by omega))
  · exact Or.inr (Or.inr (by omega))
theorem FI.wd (k : FI G W ts O h Z D nb lo hi fs f h1 Z1 D1 s1 nb1 m sg) (hm : m ≤ m2) (hm2 : m2 ≤ hi) : FI G W ts O h Z D nb lo hi fs f h1 Z1 D1 s1 nb1 m2 sg := by
  obtain ⟨k1, k2, k3, k4, k5, k6, k7, k8, k9, k10, k11, k12, k13⟩ := k
  refine ⟨k1, k2, k3, k4, k5, fun t ht => ?_, k7, k8, by omega, k10, k11, by omega, hm2⟩
  rcases k6 t ht with z | z | z
  · exact Or.inl z
  · exact Or.inr (Or.inl z)
  · exact Or.inr (Or.inr (by omega))
theorem rIf_eqs {pl : Nat → Nat} {b : Bool} : rV (rIf pl b n t s) = rV s ∧ rCt (rIf pl b n t s) = rCt s ∧ rDt (rIf pl b n t s) = rDt s ∧ rC (rIf pl b n t s) = rC s ∧ rT (rIf pl b n t s) = rT s := by cases b <;> exact ⟨rfl, rfl, rfl, rfl, rfl⟩
theorem FI.fnd (k : FI G W ts O h Z D nb lo hi fs f h1 Z1 D1 s1 nb1 m sg) (w : S4 G [91, 92] h1 h2) (r2 : RS G W h2 ts Z1 O s2 nb1) (e : rV s2 = rV s1 ∧ rCt s2 = rCt s1 ∧ rDt s2 = rDt s1 ∧ rC s2 = rC s1 ∧ rT s2 = rT s1) : FI G W ts O h Z D nb lo hi fs f h2 Z1 D1 s2 nb1 m sg := by
  obtain ⟨k1, k2, k3, k4, k5, k6, k7, k8, k9, k10, k11, k12, k13⟩ := k
  refine ⟨r2, w.wb k2 (by decide), ⟨fun x hx => k3.1 x (by rw [← e.1]; exact hx), by rw [e.2.1]; exact k3.2.1, by rw [e.2.2.1]; exact k3.2.2.1, k3.2.2.2.mv (fun _ h => h) ⟨e.2.1, e.2.2.1⟩ ⟨Nat.le_of_eq (by rw [e.2.2.2.1]), Nat.le_of_eq (by rw [e.2.2.2.2])⟩⟩, k4.tr (w.kw k2), k5, k6, k7.of e.1, k8, by unfold pU at *; rw [w.1.un]; exact k9, k10.tr (w.le (by decide)), k11.mv (w.kw (lo := 0) (hi := 0) k2) Ext.rf fun x _ => Or.inr (Nat.zero_le _), k12, k13⟩
theorem LZ.mv (k : LZ ts W O f l1 l2 lo m hi Z D h) (kw : KW W 0 0 h h') (hW : ∀ a, W a → hK h a ≠ 0) : LZ ts W O f l1 l2 lo m hi Z D h' := by
  obtain ⟨k1, k2, k3, k4, k5⟩ := k
  have tr := TR.ls_at (wf.tr _ _ _ k3)
  refine ⟨fun j y hy => ?_, fun j x hx => ?_, k3, k4, k5⟩
  · obtain ⟨c1, c, c2, c3⟩ := k1 j y hy
    exact ⟨c1, c, c2, c3.k1 kw Ext.rf (Or.inr (Nat.zero_le _)) c1⟩
  · obtain ⟨b, b1, b2⟩ := k2 j x hx
    exact ⟨b, b1, b2.k0 kw hW (tr x (List.mem_of_getElem? hx))⟩
theorem LZ.nx (k : LZ ts W O f l1 (x :: l2) lo m hi Z D h) (m3 : m ≤ m2) (m4 : m2 ≤ hi) (m6 : wf (Kd ts) (ls l2) m2 hi) (b1 : f l1.length = some b) {x' : Tr} (hW : ∀ a, W a → hK h a ≠ 0) (kw : KW W m m2 h h') (e : Ext Z Z' D D') (tr : TR m m2 x') (ot : OTG (XA ts W O Z' D' h') W h' x' 0 0 b) : LZ ts W O f (l1 ++ [x']) l2 lo m2 hi Z' D' h' := by
  obtain ⟨k1, k2, k3, k4, k5⟩ := k
  have trL := TR.ls_at (wf.tr _ _ _ m6)
  refine ⟨fun j y hy => ?_, fun j y hy => ?_, m6, by omega, m4⟩
  · by_cases hj : j < l1.length
    · rw [List.getElem?_append_left hj] at hy
      obtain ⟨c1, c, c2, c3⟩ := k1 j y hy
      exact ⟨TR.mono _ _ _ _ _ c1 (Nat.le_refl _) m3, c, c2, c3.k1 kw e (Or.inl (Nat.le_refl _)) c1⟩
    · rw [List.getElem?_append_right (by omega)] at hy
      have : j - l1.length = 0 := by
        refine Classical.byContradiction fun hne => ?_
        rw [List.getElem?_eq_none (by simp; omega)] at hy
        cases hy
      rw [this] at hy
      cases hy
      have ej : j = l1.length := by omega
      subst ej
      exact ⟨TR.mono _ _ _ _ _ tr (by omega) (Nat.le_refl _), b, b1, ot⟩
  · obtain ⟨c, c1, c2⟩ := k2 (j + 1) y (by simpa using hy)
    refine ⟨c, ?_, c2.k0 kw hW (trL y (List.mem_of_getElem? hy))⟩
    rw [List.length_append, List.length_singleton, show l1.length + 1 + j = l1.length + (j + 1) by omega]
    exact c1
/-- what is known of a clause -/
theorem cl_info (hs : shE (Vl ts) n 1 x) (ot : OTG (X0 ts W h) W h x 0 0 q) : (W q ∧ hK h q = 29 ∧ fI h q 316 = nI (tkN x)) ∧ ∃ arr, fR h q 317 = some arr ∧ hK h arr = 1008 ∧ hL h arr = cPs x ∧ W arr := by
  cases n with
  | zero => exact hs.elim
  | succ n =>
    unfold shE at hs
    rw [if_neg (by decide), if_pos rfl] at hs
    obtain ⟨t, v, ps, e, rfl, -⟩ := hs
    obtain ⟨hWq, hkq, ⟨ex, -⟩, oy⟩ := (OTG_nd (k := 50) (y := .add (.num v) (.add (ls ps) e)) (by decide)).mp ot
    have hk : hK h q = 29 := by simpa [kc] using hkq
    rw [OTG_c2 (by decide) (by decide)] at oy
    have oy2 := (OTG_c2 (by decide) (by decide)).mp oy.2
    obtain ⟨arr, eA, hlen, tg⟩ := OTG_arr.mp oy2.1
    refine ⟨⟨hWq, hk, ex.tk hk rfl rfl⟩, arr, eA.1, eA.2.1, ?_, eA.2.2⟩
    rw [hlen]
    show ps.length = (unl (ls ps)).length
    rw [unl_ls]
theorem cl_tk (hs : shE (Vl ts) n 1 x) (hw : wf (Kd ts) x lo hi) (hv : nv1 x ≠ 0) : (lo ≤ tkN x ∧ tkN x < hi) ∧ Kd ts (tkN x) = 280 ∧ cPs x ≤ hi - lo := by
  cases n with
  | zero => exact hs.elim
  | succ n =>
    unfold shE at hs
    rw [if_neg (by decide), if_pos rfl] at hs
    obtain ⟨t, v, ps, e, rfl, hps, -⟩ := hs
    obtain ⟨ht, hkd, m, m1, hm10, hmv, hm2, hm3, hwp, hwe⟩ := wf_50 hw
    have hll := wf_len ps m m1 (fun y hy => shP_node (hps y hy)) hwp hm2
    have e1 : cPs (n3 50 t (.num v) (ls ps) e) = ps.length := by show (unl (ls ps)).length = _; rw [unl_ls]
    refine ⟨ht, hkd (fun z => hv (by show v.toNat = 0; rw [z]; rfl)), by rw [e1]; omega⟩
theorem fun_77 {NC tf vf b4 rc b0 arr0 cp sg0 mB mF : Nat} {x3 : Int32} {hS : AH} {ZS : Zt} {DS : Dm} (hC : CR G W ts O n d) (ri : rI G W ts O h Z D s nb lo hi) (hW4 : W b4) (hk4 : hK h b4 = 45) (e344 : fI h b4 344 = nI tf) (e345 : fR h b4 345 = some rc) (rl : RowL W h rc NC) (h0 : rowAt h rc 0 = some b0) (h0i : W b0 ∧ hK h b0 = 29 ∧ fR h b0 317 = some arr0 ∧ hK h arr0 = 1008 ∧ hL h arr0 = cp ∧ W arr0) (hcp : cp < 5000) (htf : (mB ≤ tf ∧ tf < mF) ∧ Kd ts tf = 280) (hvf : vf = Vl ts tf) (hmB : lo ≤ mB) (hmF : mF ≤ hi)
    (htk : ∀ x, x ∈ fs → tkN x < mB ∨ tkN x = tf ∨ mF ≤ tkN x) (hbud : fs.length ≤ sg0 + 1 + (hi - mF)) (hNC : 0 < NC) {Q : Outcome → AH → Prop} {F : List Tr} {sF : RSt}
    (hQ : ∀ h1 Z1 D1 nb1, FI G W ts O h Z D nb lo hi fs f h1 Z1 D1 sF nb1 mF (sg0 + 1) → (∃ m, LZ ts W O (rowAt h rc) F [] mB m mF Z1 D1 h1) → KW W mB mF hS h1 → Ext ZS Z1 DS D1 → X G mX49_resolve (d + 7) none [] 53 [(0, .ref q), (1, .ref (gW G 4)), (3, .int (x3 + 1))] [] h1 Q) :
    ∀ c2 c1 m h1 s1 Z1 D1 nb1, FI G W ts O h Z D nb lo hi fs f h1 Z1 D1 s1 nb1 m (sg0 + if c1 = [] then 0 else 1) → LZ ts W O (rowAt h rc) c1 c2 mB m mF Z1 D1 h1 → KW W mB mF hS h1 → Ext ZS Z1 DS D1 → (∀ y, y ∈ c2 → shE (Vl ts) n 1 y ∧ nv1 y = Vl ts (tkN y) ∧ Vl ts (tkN y) ≠ 0) → NC = c1.length + c2.length → F = c1 ++ (rLs (rCl ts O n cp vf) c2 s1).1 → sF = (rLs (rCl ts O n cp vf) c2 s1).2 → (c1 = [] → ∃ y r, c2 = y :: r ∧ tkN y = tf) → (c1 ≠ [] → tf < m) →
    X G mX49_resolve (d + 7) none [] 77 [(0, .ref q), (1, .ref (gW G 4)), (3, .int x3), (4, .ref b4), (5, .int (nI c1.length))] [] h1 Q := by
  intro c2
  induction c2 with
  | nil =>
    intro c1 m h1 s1 Z1 D1 nb1 M L kS eS hs hlen eF eSt hc0 hc1
    have u1 := (M.2.2.2.1.2 b4 hW4).1
    obtain ⟨rl1, ra1, -⟩ := rl.mvs (N' := W) (h' := h1) fun a ha _ => ⟨(M.2.2.2.1.2 a ha).1, ha⟩
    obtain ⟨z1, z2, z3, z4⟩ := row_sz rl1
    simp only [List.length_nil] at hlen
    have hne : c1 ≠ [] := fun e => by rw [e] at hlen; simp at hlen; omega
    rw [if_neg hne] at M
    refine bX49_resolve_77 G (d + 6) h1 _ _ _ _ _ (M.1.1.1.at (by decide)) ⟨u1.1.trans hk4, rc, ((u1.2.2.2.2.2 345 (by decide)).2.2).trans e345, z1, ?_⟩
    rw [z2, nI_leI (by omega) (by omega)]
    refine ⟨fun _ => ?_, fun z => absurd (by omega) z⟩
    rintro _ rfl
    change F = c1 ++ [] at eF
    change sF = s1 at eSt
    rw [List.append_nil] at eF
    subst eF eSt
    exact hQ h1 Z1 D1 nb1 (M.wd L.2.2.2.2 hmF) ⟨m, L⟩ kS eS
  | cons x2 c2 IH =>
    intro c1 m h1 s1 Z1 D1 nb1 M L kS eS hs hlen eF eSt hc0 hc1
    have u1 := (M.2.2.2.1.2 b4 hW4).1
    obtain ⟨rl1, ra1, -⟩ := rl.mvs (N' := W) (h' := h1) fun a ha _ => ⟨(M.2.2.2.1.2 a ha).1, ha⟩
    obtain ⟨z1, z2, z3, z4⟩ := row_sz rl1
    simp only [List.length_cons] at hlen
    obtain ⟨m2, hm, hm2, hw2, hwl2⟩ := (show ∃ m2, m ≤ m2 ∧ m2 ≤ mF ∧ wf (Kd ts) x2 m m2 ∧ wf (Kd ts) (ls c2) m2 mF by have := L.2.2.1; unfold ls wf at this; exact this)
    obtain ⟨b12, fb, ob⟩ := L.2.1 0 x2 rfl
    rw [Nat.add_zero] at fb
    obtain ⟨rl0, rn, rc0, -, rb⟩ := row_get (i := c1.length) rl1 (by rw [ra1]; exact fb) (by omega)
    obtain ⟨hsx, hvx, hvx0⟩ := hs x2 (List.mem_cons_self ..)
    obtain ⟨⟨hW12, hk12, e316⟩, arr, eA1, eA2, eA3, eA4⟩ := cl_info hsx ob
    obtain ⟨htx, hkx, hpx⟩ := cl_tk hsx hw2 (by rw [hvx]; exact hvx0)
    have e45 : fR h1 b4 345 = some rc := ((u1.2.2.2.2.2 345 (by decide)).2.2).trans e345
    have e44 : fI h1 b4 344 = nI tf := ((u1.2.2.2.2.2 344 (by decide)).1).trans e344
    have r4 := ri.2.2.2.1
    have hts := ri.1.1.2.2.2.1
    have hmB0 := L.2.2.2.1
    obtain ⟨lo', hl1, hl2, hl3, hl4, hl5, hl6⟩ : ∃ lo', m ≤ lo' ∧ lo' ≤ m2 ∧ (lo' = m ∨ (nv1 x2 ≠ 0 ∧ lo' ≤ tkN x2 + 1)) ∧ (∀ x, x ∈ fs → tkN x < lo' ∨ m2 ≤ tkN x) ∧ 23 * fs.length + 200 * (m - lo) + 200 * (m2 - lo') ≤ 200 * (hi - lo) + 200 * (sg0 + if c1 = [] then 0 else 1) ∧ sg0 + 1 ≤ (sg0 + if c1 = [] then 0 else 1) + (lo' - m) := by
      by_cases hc : c1 = []
      · obtain ⟨y, r, e1, e2⟩ := hc0 hc
        cases e1
        refine ⟨tf + 1, by omega, by omega, Or.inr ⟨by rw [hvx]; exact hvx0, by omega⟩, fun x hx => ?_, ?_, ?_⟩
        · have := htk x hx; omega
        · rw [if_pos hc]; omega
        · rw [if_pos hc]; omega
      · have := hc1 hc
        refine ⟨m, Nat.le_refl _, hm, Or.inl rfl, fun x hx => ?_, ?_, ?_⟩
        · have := htk x hx; omega
        · rw [if_neg hc]; omega
        · rw [if_neg hc]; omega
    have tail2 : ∀ hx s4, FI G W ts O h Z D nb lo hi fs f hx Z1 D1 s4 nb1 m (sg0 + if c1 = [] then 0 else 1) → LZ ts W O (rowAt h rc) c1 (x2 :: c2) mB m mF Z1 D1 hx → KW W mB mF hS hx → s4 = rIf (Pl ts) (!(cPs x2 == cp)) 4 (tkN x2) (rIf (Pl ts) (!(nv1 x2 == vf)) 3 (tkN x2) s1) → C G mX9_clause (d + 6) [.ref (gW G 4), .ref (b12)] hx (KV Q (fun h56 => ∀ x58 : Int32, x58 = nI c1.length + 1 → (X G mX49_resolve (d + 7) none [] 77 [(0, .ref (q)), (1, .ref (gW G 4)), (3, .int (x3)), (4, .ref (b4)), (5, .int (x58))] [] h56 Q))) := by
      intro hx s4 Mx Lx kSx e4
      obtain ⟨b', fb', ob'⟩ := Lx.2.1 0 x2 rfl
      rw [Nat.add_zero] at fb'
      cases fb.symm.trans fb'
      have rC := Mx.ri ri hl1 hl2 (by omega) hl4 hl5
      refine C.mono (hC x2 m lo' m2 b12 hx s4 Z1 D1 nb1 hsx hw2 ⟨hl1, hl3⟩ ob' rC) ?_
      rintro _ h2 ⟨rfl, Z2, D2, nb2, a1, a2, a3, ⟨a4, a4'⟩, a5, a6, a7, a8, a9, a10, a11⟩
      have M2 := Mx.stp (sg' := sg0 + 1) hl1 hl2 (by omega) hl4 hl6 a1 a2 a3 a5 a6 a7 a8 a9 a10 a11
      have kw2 : KW W m m2 hx h2 := a5.wd hl1 (Nat.le_refl _)
      have L2 := Lx.nx hm hm2 hwl2 fb' Mx.2.1.1 kw2 a6 a4 a4'
      refine KV.i ?_
      rintro _ rfl
      rw [nI_1]
      have eg : rs (Pl ts) (knO O) n 1 x2 s4 = rCl ts O n cp vf x2 s1 := by rw [e4]; rfl
      rw [eg] at L2 M2
      have hne : c1 ++ [(rCl ts O n cp vf x2 s1).1] ≠ [] := by simp
      have := IH (c1 ++ [(rCl ts O n cp vf x2 s1).1]) m2 h2 _ Z2 D2 nb2 (by rw [if_neg hne]; exact M2) L2 (kSx.tr (kw2.wd hmB0 hm2)) (eS.tr a6) (fun y hy => hs y (List.mem_cons_of_mem _ hy)) (by rw [List.length_append, List.length_singleton]; omega) (by rw [eF, List.append_assoc, List.singleton_append]; rfl) eSt (fun z => absurd z hne) (fun _ => ?_)
      · rw [List.length_append, List.length_singleton] at this
        exact this
      · by_cases hc : c1 = []
        · obtain ⟨y, r, e1, e2⟩ := hc0 hc
          cases e1
          omega
        · have := hc1 hc
          omega
    have tail : ∀ hx s3, FI G W ts O h Z D nb lo hi fs f hx Z1 D1 s3 nb1 m (sg0 + if c1 = [] then 0 else 1) → LZ ts W O (rowAt h rc) c1 (x2 :: c2) mB m mF Z1 D1 hx → KW W mB mF hS hx → s3 = rIf (Pl ts) (!(nv1 x2 == vf)) 3 (tkN x2) s1 → FT G (d + 6) q b4 b12 x3 (nI c1.length) Q hx := by
      intro hx s3 Mx Lx kSx e3
      obtain ⟨b', fb', ob'⟩ := Lx.2.1 0 x2 rfl
      rw [Nat.add_zero] at fb'
      cases fb.symm.trans fb'
      obtain ⟨⟨-, hk12x, e316x⟩, arrx, xA1, xA2, xA3, xA4⟩ := cl_info hsx ob'
      have u4x := (Mx.2.2.2.1.2 b4 hW4).1
      obtain ⟨rlx, rax, -⟩ := rl.mvs (N' := W) (h' := hx) fun a ha _ => ⟨(Mx.2.2.2.1.2 a ha).1, ha⟩
      obtain ⟨z1x, z2x, z3x, z4x⟩ := row_sz rlx
      obtain ⟨i1, i2, i3, i4, i5, i6⟩ := h0i
      have u0 := (Mx.2.2.2.1.2 b0 i1).1
      have ua0 := (Mx.2.2.2.1.2 arr0 i6).1
      obtain ⟨rl00, rn0, rc00, -, rb0⟩ := row_get (i := 0) rlx (by rw [rax]; exact h0) hNC
      refine ⟨arrx, xA1, xA2, rc, ((u4x.2.2.2.2.2 345 (by decide)).2.2).trans e345, z1x, ?_⟩
      have c0 : C G mX7_clause (d + 6) [.ref rc, .int (nI 0)] hx (Ret (.ref b0) hx) := c_rcl (d := d + 5) rc00 rb0 (u0.1.trans i2)
      refine C.rr c0 ⟨u0.1.trans i2, arr0, ((u0.2.2.2.2.2 317 (by decide)).2.2).trans i3, ua0.1.trans i4, ?_⟩
      rw [xA3, ua0.2.1, i5, show Int32.ofNat (cPs x2) = nI (cPs x2) from rfl, show Int32.ofNat cp = nI cp from rfl, nI_eq (by omega) (by omega)]
      refine ⟨fun z => ?_, fun z => ?_⟩
      · refine tail2 hx s3 Mx Lx kSx ?_
        rw [z, beq_self_eq_true, e3]
        rfl
      · rw [e316x]
        refine C.mono (r_found (n := 4) Mx.1 (by omega) (by decide)) ?_
        rintro _ h2 ⟨rfl, w2, r2⟩
        have kw0 : KW W 0 0 hx h2 := w2.kw Mx.2.1
        refine KV.i (tail2 h2 _ (Mx.fnd w2 r2 ⟨rfl, rfl, rfl, rfl, rfl⟩) (Lx.mv kw0 Mx.2.1.1) (kSx.tr (w2.kw Mx.2.1)) ?_)
        have zb : (!(cPs x2 == cp)) = true := by simp [z]
        rw [zb, e3]
        rfl
    refine bX49_resolve_77 G (d + 6) h1 _ _ _ _ _ (M.1.1.1.at (by decide)) ⟨u1.1.trans hk4, rc, e45, z1, ?_⟩
    rw [z2, nI_leI (by omega) (by omega)]
    refine ⟨fun z => by omega, fun _ => ⟨rc, e45, z1, C.rr (c_rcl (d := d + 5) rc0 rb hk12) ⟨hk12, ?_⟩⟩⟩
    rw [e316, e44]
    refine C.ri (c_twice (d := d + 5) M.1.1 (by omega) (Or.inl hkx) (by omega) (Or.inl htf.2)) ?_
    rw [b2_0]
    refine ⟨fun z => ?_, fun z => ?_⟩
    · rw [e316]
      refine C.mono (r_found (n := 3) M.1 (by omega) (by decide)) ?_
      rintro _ h2 ⟨rfl, w2, r2⟩
      have kw0 : KW W 0 0 h1 h2 := w2.kw M.2.1
      refine KV.i (tail h2 _ (M.fnd w2 r2 ⟨rfl, rfl, rfl, rfl, rfl⟩) (L.mv kw0 M.2.1.1) (kS.tr (w2.kw M.2.1)) ?_)
      have zb : (!(nv1 x2 == vf)) = true := by
        rw [hvx, hvf]
        simp at z ⊢
        exact fun e => z e.symm
      rw [zb]
      rfl
    · refine tail h1 s1 M L kS ?_
      have zb : (!(nv1 x2 == vf)) = false := by
        rw [hvx, hvf]
        simp at z ⊢
        exact z.symm
      rw [zb]
      rfl
/-- a function by the law -/
def rFn (ts : List (Nat × Nat × Nat)) (O : List (Nat × Nat) × List (Nat × Nat)) (n : Nat) (f : Tr) (s : RSt) : Tr × RSt := (.mulL 54 (.add (.num (tkN f)) (.add (.num (nv1 f)) (ls (rLs (rCl ts O n (cPs ((fCs f).getD 0 (.num 0))) (nv1 f)) (fCs f) s).1))), (rLs (rCl ts O n (cPs ((fCs f).getD 0 (.num 0))) (nv1 f)) (fCs f) s).2)
theorem fun_53 {N0 m0 : Nat} (hC : CR G W ts O n d) (ri : rI G W ts O h Z D s nb lo hi) (hWq : W q) (hk : hK h q = 46) (eF0 : fR h q 348 = some r) (rl : RowL W h r N0) (hfs : ∀ (j : Nat) (x : Tr), fs[j]? = some x → ∃ b, rowAt h r j = some b ∧ OTG (X0 ts W h) W h x 0 0 b) (hN : N0 = fs.length) {Q : Outcome → AH → Prop} {F : List Tr} {sF : RSt}
    (hQ : ∀ m h1 Z1 D1 nb1, FI G W ts O h Z D nb lo hi fs (rowAt h r) h1 Z1 D1 sF nb1 m fs.length → LZ ts W O (rowAt h r) F [] m0 m hi Z1 D1 h1 → Q (.returned none) h1) :
    ∀ l2 l1 l1' m h1 s1 Z1 D1 nb1, fs = l1 ++ l2 → l1'.length = l1.length → FI G W ts O h Z D nb lo hi fs (rowAt h r) h1 Z1 D1 s1 nb1 m l1.length → LZ ts W O (rowAt h r) l1' l2 m0 m hi Z1 D1 h1 → (∀ x, x ∈ l1 → tkN x < m) → (∀ y, y ∈ l2 → shF (Vl ts) n y) → F = l1' ++ (rLs (rFn ts O n) l2 s1).1 → sF = (rLs (rFn ts O n) l2 s1).2 →
    X G mX49_resolve (d + 7) none [] 53 [(0, .ref q), (1, .ref (gW G 4)), (3, .int (nI l1.length))] [] h1 Q := by
  intro l2
  induction l2 with
  | nil =>
    intro l1 l1' m h1 s1 Z1 D1 nb1 efs hl' M L hlt hs eF eS
    have u1 := (M.2.2.2.1.2 q hWq).1
    obtain ⟨rl1, ra1, -⟩ := rl.mvs (N' := W) (h' := h1) fun a ha _ => ⟨(M.2.2.2.1.2 a ha).1, ha⟩
    obtain ⟨z1, z2, z3, z4⟩ := row_sz rl1
    rw [List.append_nil] at efs
    subst efs
    change F = l1' ++ [] at eF
    change sF = s1 at eS
    rw [List.append_nil] at eF
    subst eF eS
    refine bX49_resolve_53 G (d + 6) h1 _ _ _ ⟨u1.1.trans hk, r, ((u1.2.2.2.2.2 348 (by decide)).2.2).trans eF0, z1, ?_⟩
    rw [z2, nI_leI (by omega) (by omega)]
    exact ⟨fun _ => hQ m h1 Z1 D1 nb1 M L, fun z => by omega⟩
  | cons x2 l2 IH =>
    intro l1 l1' m h1 s1 Z1 D1 nb1 efs hl' M L hlt hs eF eS
    have u1 := (M.2.2.2.1.2 q hWq).1
    obtain ⟨rl1, ra1, -⟩ := rl.mvs (N' := W) (h' := h1) fun a ha _ => ⟨(M.2.2.2.1.2 a ha).1, ha⟩
    obtain ⟨z1, z2, z3, z4⟩ := row_sz rl1
    have hlen : fs.length = l1.length + (l2.length + 1) := by rw [efs, List.length_append, List.length_cons]
    obtain ⟨b, fb, ob⟩ := hfs l1.length x2 (by rw [efs, List.getElem?_append_right (Nat.le_refl _), Nat.sub_self]; rfl)
    obtain ⟨rl0, rn, rc0, -, rb⟩ := row_get (i := l1.length) rl1 (by rw [ra1]; exact fb) (by omega)
    have hs2 := hs x2 (List.mem_cons_self ..)
    obtain ⟨m2, hm, hm2, hw2, hwl2⟩ := (show ∃ m2, m ≤ m2 ∧ m2 ≤ hi ∧ wf (Kd ts) x2 m m2 ∧ wf (Kd ts) (ls l2) m2 hi by have := L.2.2.1; unfold ls wf at this; exact this)
    obtain ⟨htk, hk280⟩ := shF_tk hs2 hw2
    obtain ⟨t, c0, cs, ex2, ec0, hcs⟩ := hs2
    have e54 : tkN x2 = t := by rw [ex2]; rfl
    have en54 : nv1 x2 = Vl ts t := by rw [ex2]; rfl
    have ec54 : fCs x2 = c0 :: cs := by rw [ex2]; show unl (ls (c0 :: cs)) = _; rw [unl_ls]
    rw [e54] at htk hk280
    rw [ex2] at ob hw2
    obtain ⟨hWb, hkb, ⟨exb, -⟩, oy⟩ := (OTG_nd (k := 54) (y := .add (.num (Vl ts t)) (ls (c0 :: cs))) (by decide)).mp ob
    have hkb0 : hK h b = 45 := by simpa [kc] using hkb
    have ub := (M.2.2.2.1.2 b hWb).1
    have hkb1 : hK h1 b = 45 := ub.1.trans hkb0
    have e344 : fI h b 344 = nI t := exb.tk hkb0 rfl rfl
    rw [OTG_c2 (by decide) (by decide)] at oy
    obtain ⟨rc, e345, rlc, tgc⟩ := OTG_row.mp ((OTG_ef (m' := 22) (i' := 345) (by decide) (by decide)).mp oy.2)
    obtain ⟨-, -, mB, hmB1, hmB2, hw0⟩ := wf_nd (k := 54) (y := .add (.num (Vl ts t)) (ls (c0 :: cs))) (by decide) hw2
    unfold wf at hw0
    obtain ⟨mB', hmB3, hmB4, -, hwc⟩ := hw0
    have trc := TR.ls_at (wf.tr _ _ _ hwc)
    obtain ⟨b0, hb0, ob0⟩ := tgc 0 c0 rfl
    obtain ⟨⟨i1, i2, -⟩, arr0, i3, i4, i5, i6⟩ := cl_info (hcs c0 (List.mem_cons_self ..)).1 ob0
    have hts := ri.1.1.2.2.2.1
    have r4 := ri.2.2.2.1
    obtain ⟨m3, hm3, hm4, hwc0, -⟩ := (show ∃ m3, mB' ≤ m3 ∧ m3 ≤ m2 ∧ wf (Kd ts) c0 mB' m3 ∧ wf (Kd ts) (ls cs) m3 m2 by unfold ls wf at hwc; exact hwc)
    obtain ⟨hc0x, hc0v, hc0z⟩ := hcs c0 (List.mem_cons_self ..)
    obtain ⟨htc0, -, hpc0⟩ := cl_tk hc0x hwc0 (by rw [hc0v]; exact hc0z)
    rw [ec0] at htc0
    have hl2 := wf_len l2 m2 hi (fun y hy => by obtain ⟨t, c0, cs, e, -⟩ := hs y (List.mem_cons_of_mem _ hy); exact ⟨_, _, e⟩) hwl2 hm2
    have tk2 : ∀ y, y ∈ l2 → m2 ≤ tkN y := fun y hy => by
      have trY := TR.ls_at (wf.tr _ _ _ hwl2) y hy
      obtain ⟨t', c0', cs', e, -⟩ := hs y (List.mem_cons_of_mem _ hy)
      rw [e] at trY ⊢
      have := trY.1
      change (m2 : Int) ≤ (t' : Nat) at this
      show m2 ≤ t'
      omega
    have e48 : fR h1 q 348 = some r := ((u1.2.2.2.2.2 348 (by decide)).2.2).trans eF0
    refine bX49_resolve_53 G (d + 6) h1 _ _ _ ⟨u1.1.trans hk, r, e48, z1, ?_⟩
    rw [z2, nI_leI (by omega) (by omega)]
    refine ⟨fun z => by omega, fun _ => ⟨r, e48, z1, C.rr (c_rfun (d := d + 5) rc0 rb hkb1) ?_⟩⟩
    have := fun_77 (q := q) (f := rowAt h r) (tf := t) (vf := nv1 x2) (b4 := b) (rc := rc) (b0 := b0) (arr0 := arr0) (cp := cPs c0) (sg0 := l1.length) (mB := mB') (mF := m2) (fs := fs) (x3 := nI l1.length) (hS := h1) (ZS := Z1) (DS := D1) (Q := Q) (F := (rLs (rCl ts O n (cPs c0) (nv1 x2)) (c0 :: cs) s1).1) (sF := (rLs (rCl ts O n (cPs c0) (nv1 x2)) (c0 :: cs) s1).2) hC ri hWb hkb0 e344 e345 rlc hb0 ⟨i1, i2, i3, i4, i5, i6⟩ (by omega) ⟨⟨by omega, by omega⟩, hk280⟩ en54 (by have := M.2.2.2.2.2.2.2.2.2.2.2.1; omega) hm2 (fun x hx => ?_) (by omega) (by simp) ?_ (c0 :: cs) [] mB' h1 s1 Z1 D1 nb1 (by rw [if_pos rfl]; exact M.wd (by omega) (by omega)) (LZ.ini (fun j x hx => ?_) hwc hmB4) KW.rf Ext.rf hcs (by simp) rfl rfl (fun _ => ⟨c0, cs, rfl, ec0⟩) (fun z => absurd rfl z)
    · exact this
    · rw [efs] at hx
      rcases List.mem_append.mp hx with hx | hx
      · have := hlt x hx; omega
      · rcases List.mem_cons.mp hx with rfl | hx
        · exact Or.inr (Or.inl e54)
        · exact Or.inr (Or.inr (tk2 x hx))
    · rintro h2 Z2 D2 nb2 M2 ⟨mx, Lc⟩ kS eX
      obtain ⟨tgF, trF⟩ := Lc.fin
      obtain ⟨rlc2, rac2, -⟩ := rlc.mvs (N' := W) (h' := h2) fun a ha _ => ⟨(M2.2.2.2.1.2 a ha).1, ha⟩
      have ub2 := (M2.2.2.2.1.2 b hWb).1
      obtain ⟨b', fb', -, -, bD, bZ⟩ := M2.2.2.2.2.2.2.2.2.2.2.1 l1.length x2 (by rw [efs, List.getElem?_append_right (Nat.le_refl _), Nat.sub_self]; rfl)
      cases fb.symm.trans fb'
      rw [e54] at bD bZ
      have kw : KW W m m2 h1 h2 := kS.wd (by omega) (Nat.le_refl _)
      have o54 : OTG (XA ts W O Z2 D2 h2) W h2 (n2 54 t (.num (Vl ts t)) (ls (rLs (rCl ts O n (cPs c0) (nv1 x2)) (c0 :: cs) s1).1)) 0 0 b := by
        refine (OTG_nd (k := 54) (y := .add _ _) (by decide)).mpr ⟨hWb, by rw [ub2.1]; exact hkb, ⟨(exb.mv (fun a ha _ => (M2.2.2.2.1.2 a ha).1) ub2).ch (by decide), fun t' z hz => ?_⟩, (OTG_c2 (by decide) (by decide)).mpr ⟨OTG_7 (Or.inl ⟨_, rfl⟩), (OTG_ef (m' := 22) (i' := 345) (by decide) (by decide)).mpr (OTG_row.mpr ⟨rc, ((ub2.2.2.2.2.2 345 (by decide)).2.2).trans e345, (rLs_ln (F := rCl ts O n (cPs c0) (nv1 x2)) (c0 :: cs) s1) ▸ rlc2, by rw [funext rac2]; exact tgF⟩)⟩⟩
        cases hz
        exact ⟨fun q => by omega, fun q => by omega, fun q => by omega, fun q => by omega, fun _ => ⟨bD, bZ⟩, fun q => by omega, fun q => by omega, fun q => by omega, fun q => by omega, fun q => by omega⟩
      have tr54 : TR m m2 (n2 54 t (.num (Vl ts t)) (ls (rLs (rCl ts O n (cPs c0) (nv1 x2)) (c0 :: cs) s1).1)) := TR_nd (y := .add _ _) htk.1 htk.2 ⟨trivial, TR.mono _ _ _ _ _ trF (by omega) (Nat.le_refl _)⟩
      have eFn : rFn ts O n x2 s1 = (n2 54 t (.num (Vl ts t)) (ls (rLs (rCl ts O n (cPs c0) (nv1 x2)) (c0 :: cs) s1).1), (rLs (rCl ts O n (cPs c0) (nv1 x2)) (c0 :: cs) s1).2) := by
        unfold rFn
        rw [ec54, e54]
        show (Int.Internal.Linear.Expr.mulL 54 (.add (.num t) (.add (.num (nv1 x2 : Nat)) (ls (rLs (rCl ts O n (cPs c0) (nv1 x2)) (c0 :: cs) s1).1))), _) = _
        rw [en54]
        rfl
      have fb1 : rowAt h r l1'.length = some b := by rw [hl']; exact fb
      have L2 := L.nx hm hm2 hwl2 fb1 M.2.1.1 kw eX tr54 o54
      rw [nI_1]
      have := IH (l1 ++ [x2]) (l1' ++ [n2 54 t (.num (Vl ts t)) (ls (rLs (rCl ts O n (cPs c0) (nv1 x2)) (c0 :: cs) s1).1)]) m2 h2 _ Z2 D2 nb2 (by rw [efs, List.append_assoc, List.singleton_append]) (by rw [List.length_append, List.length_append, hl']; rfl) (by rw [List.length_append, List.length_singleton]; exact M2) L2 (fun x hx => ?_) (fun y hy => hs y (List.mem_cons_of_mem _ hy)) ?_ ?_
      · rw [List.length_append, List.length_singleton] at this
        exact this
      · rcases List.mem_append.mp hx with hx | hx
        · have := hlt x hx; omega
        · rw [List.mem_singleton.mp hx, e54]; exact htk.2
      · rw [eF, List.append_assoc, List.singleton_append]
        show _ ++ ((rFn ts O n x2 s1).1 :: (rLs (rFn ts O n) l2 (rFn ts O n x2 s1).2).1) = _
        rw [eFn]
      · rw [eS]
        show (rLs (rFn ts O n) l2 (rFn ts O n x2 s1).2).2 = _
        rw [eFn]
    · obtain ⟨b5, b6, b7⟩ := tgc j x hx
      exact ⟨b5, b6, b7.k0 M.2.2.2.1 ri.2.1.1 (trc x (List.mem_of_getElem? hx))⟩
theorem dec_funs (hC : CR G W ts O n d) (hw : wf (Kd ts) (n1 52 t (ls fs)) lo hi) (hfs : ∀ f, f ∈ fs → shF (Vl ts) n f) (ot : OTG (X0 ts W h) W h (n1 52 t (ls fs)) 0 0 q) (ri : rI G W ts O h Z D s nb lo hi) : C G mX49_resolve (d + 7) [.ref q, .ref (gW G 4)] h (rP G W ts O h Z D nb lo hi (rA ts W O lo hi (rs (Pl ts) (knO O) (n + 1) 2 (n1 52 t (ls fs)) s).1 q) (rs (Pl ts) (knO O) (n + 1) 2 (n1 52 t (ls fs)) s).2) ∧ hK h q = 46 := by
  obtain ⟨ht, -, m0, hm1, hm2, hw0⟩ := wf_nd (k := 52) (y := ls fs) (by decide) hw
  obtain ⟨hWq, hkq, ⟨ex, -⟩, oy⟩ := (OTG_nd (k := 52) (by decide)).mp ot
  have hk : hK h q = 46 := by simpa [kc] using hkq
  obtain ⟨r, e0, rl, tg⟩ := OTG_row.mp ((OTG_ef (m' := 22) (i' := 348) (by decide) (by decide)).mp oy)
  have eR : rs (Pl ts) (knO O) (n + 1) 2 (n1 52 t (ls fs)) s = (n1 52 t (ls (rLs (rFn ts O n) fs (fs.foldl (fun s1 f => rBind (Pl ts) (rV s).length (tkN f) (nv1 f) s1) s)).1), (rLs (rFn ts O n) fs (fs.foldl (fun s1 f => rBind (Pl ts) (rV s).length (tkN f) (nv1 f) s1) s)).2) := by
    have e0 : rs (Pl ts) (knO O) (n + 1) 2 (n1 52 t (ls fs)) s = (n1 52 t (ls (rLs (rFn ts O n) (unl (ls fs)) ((unl (ls fs)).foldl (fun s1 f => rBind (Pl ts) (rV s).length (tkN f) (nv1 f) s1) s)).1), (rLs (rFn ts O n) (unl (ls fs)) ((unl (ls fs)).foldl (fun s1 f => rBind (Pl ts) (rV s).length (tkN f) (nv1 f) s1) s)).2) := rfl
    rw [e0, unl_ls]
  rw [eR]
  obtain ⟨ba, b1, b2', b3, b5, b6, b7, b8, b9, b10, b11⟩ := ri.1.2.2.2.1
  have trL := TR.ls_at (wf.tr _ _ _ hw0)
  refine ⟨bX49_resolve G (d + 6) h _ _ (ri.1.1.1.at (by decide)) ?_, hk⟩
  rintro _ rfl
  rw [b9]
  refine fun_7 (n := n) (d := d) ri hWq hk e0 rl (fun j x hx => tg j x hx) rfl (fun m h1 s1 Z1 D1 nb1 M eS B hDc hU => ?_) fs [] m0 h s Z D nb rfl (rM.ini ri hm1 hm2) (Nat.le_refl _) rfl (fun j x hx => by simp at hx) (fun t ht => Or.inl ht) (by simp) (fun x hx => by simp at hx) hw0 hfs
  obtain ⟨c1, c2, c3, c4, c5, c6, c7, c8, c9, c10, c11, c12⟩ := M
  have I0 : FI G W ts O h Z D nb lo hi fs (rowAt h r) h1 Z1 D1 s1 nb1 m0 0 := ⟨c1, c2, c3, c4, c5, fun t ht => (hDc t ht).imp_right Or.inl, c7, c8, by omega, c10, B, hm1, hm2⟩
  subst eS
  refine fun_53 (m0 := m0) (F := (rLs (rFn ts O n) fs (fs.foldl (fun s1 f => rBind (Pl ts) (rV s).length (tkN f) (nv1 f) s1) s)).1) (sF := (rLs (rFn ts O n) fs (fs.foldl (fun s1 f => rBind (Pl ts) (rV s).length (tkN f) (nv1 f) s1) s)).2) hC ri hWq hk e0 rl (fun j x hx => tg j x hx) rfl (fun m h2 Z2 D2 nb2 M L => ?_) fs [] [] m0 h1 _ Z1 D1 nb1 rfl rfl I0 (LZ.ini (fun j x hx => ?_) hw0 hm2) (fun x hx => by simp at hx) hfs rfl rfl
  · obtain ⟨tgF, trF⟩ := L.fin
    obtain ⟨k1, k2, k3, k4, k5, k6, k7, k8, k9, k10, k11, k12, k13⟩ := M
    obtain ⟨rl2, ra2, -⟩ := rl.mvs (N' := W) (h' := h2) fun a ha _ => ⟨(k4.2 a ha).1, ha⟩
    have uq := (k4.2 q hWq).1
    refine ⟨rfl, Z2, D2, nb2, k1, k2, k3, ⟨TR_nd ht.1 ht.2 (TR.mono _ _ _ _ _ trF hm1 (Nat.le_refl _)), ?_⟩, k4, k5, fun t' ht' => ?_, k7, k8, by omega, k10⟩
    · exact (OTG_nd (k := 52) (by decide)).mpr ⟨hWq, by rw [uq.1]; exact hkq, ⟨(ex.mv (fun a ha _ => (k4.2 a ha).1) uq).ch (by decide), ANN_no (by decide)⟩, (OTG_ef (m' := 22) (i' := 348) (by decide) (by decide)).mpr (OTG_row.mpr ⟨r, ((uq.2.2.2.2.2 348 (by decide)).2.2).trans e0, (rLs_ln (F := rFn ts O n) fs _) ▸ rl2, by rw [funext ra2]; exact tgF⟩)⟩
    · rcases k6 t' ht' with z | ⟨x, z1, z2⟩ | z
      · exact Or.inl z
      · refine Or.inr ?_
        have trX := trL x z1
        obtain ⟨t0, c0, cs, e, -⟩ := hfs x z1
        rw [e] at trX z2
        obtain ⟨y1, y2, -⟩ := trX
        change (m0 : Int) ≤ (t0 : Nat) at y1
        change ((t0 : Nat) : Int) < hi at y2
        change t0 = t' at z2
        omega
      · exact Or.inr (by omega)
  · obtain ⟨b5, b6, b7⟩ := tg j x hx
    exact ⟨b5, b6, b7.k0 c4 ri.2.1.1 (trL x (List.mem_of_getElem? hx))⟩
end
