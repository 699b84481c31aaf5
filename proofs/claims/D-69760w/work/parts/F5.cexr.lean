/-! THE COMPONENT'S RESOLVER: names, constructors, constants -/
section
variable {G : Gh} {d : Nat} {W N : Nat → Prop} {h h1 h2 h3 h5 h' : AH} {ts : List (Nat × Nat × Nat)} {t i n nb nb' nb1 nb2 r q g fr ba lo hi m m0 m1 m2 lo1 hi1 b k c arr : Nat} {v : Int} {Z Z' Z1 Z2 : Zt} {D D' D1 D2 : Dm} {O : List (Nat × Nat) × List (Nat × Nat)} {s s' s1 s2 s5 : RSt} {x y e x' a' b' : Tr} {l l1 l2 ps : List Tr} {f : Nat → Option Nat} {A : Zt → Dm → AH → Prop} {K : Nat → Nat}
theorem node_wr (kw : KW W lo hi h h2) (le : Le h h2 none) (r : RS G W h2 ts Z O s5 nb) (wb : WB G W h2) (w : WQ q h2 h3) (le3 : Le h2 h3 none) (sfq : ∀ g, sf g = true → fI h3 q g = fI h2 q g ∧ fJ h3 q g = fJ h2 q g ∧ fR h3 q g = fR h2 q g) (hWq : W q) (hkk : hK h q ∉ RKs ∧ hK h q ≠ 8 ∧ hK h q < 56 ∧ hK h q ≠ 2) (ex : EXs W h k q x) (ht : (lo : Int) ≤ tkn x ∧ tkn x < hi) :
    RS G W h3 ts Z O s5 nb ∧ WB G W h3 ∧ KW W lo hi h h3 ∧ Le h h3 none ∧ un h3 = un h2 ∧ hK h3 q = hK h q ∧ EXs W h3 k q x := by
  have uq := (kw.2 q hWq).1
  obtain ⟨r5, wb5⟩ := r.nW wb w le3 (by rw [uq.1]; exact hkk) hWq
  have kw5 : KW W lo hi h h3 := kw.tr (w.kw (by rw [uq.tok, ex.tA]; exact ht) sfq)
  exact ⟨r5, wb5, kw5, le.tr le3, w.un, by rw [w.2.1.1]; exact uq.1, ex.mv (fun a ha _ => (kw5.2 a ha).1) (kw5.2 q hWq).1⟩
theorem leaf_fin (ri : rI G W ts O h Z D s nb lo hi) (r3 : RS G W h3 ts Z O s' nb) (wb3 : WB G W h3) (kw3 : KW W lo hi h h3) (le3 : Le h h3 none) (u3 : un h3 = un h) (vd : VD s' D) (hV : VN ts s') (a : A Z D h3) : rP G W ts O h Z D nb lo hi A s' (.returned none) h3 :=
  ⟨rfl, Z, D, nb, r3, wb3, vd, a, kw3, Ext.rf, fun t ht => Or.inl ht, hV, ri.2.2.2.2.2.1, by unfold pU; omega, le3⟩
theorem up_lk {V : List (Nat × Nat)} {v c : Nat} (e : lk V v = some c) : ∃ p, upV V v = some p ∧ V[p]? = some (v, c) := by
  induction V with
  | nil => cases e
  | cons x V ih =>
    rw [lk_cons] at e
    unfold upV
    rw [List.findIdx?_cons]
    by_cases hx : (x.1 == v) = true
    · rw [if_pos hx] at e
      cases e
      rw [if_pos hx]
      exact ⟨0, rfl, by have : x.1 = v := by simpa using hx
                        rw [← this]; rfl⟩
    · rw [if_neg hx] at e
      obtain ⟨p, p1, p2⟩ := ih e
      rw [if_neg hx]
      unfold upV at p1
      rw [p1]
      exact ⟨p + 1, rfl, by simpa using p2⟩
theorem VD.rif (k : VD s D) {pl : Nat → Nat} {b : Bool} {n t : Nat} : VD (rIf pl b n t s) D := by cases b <;> exact k
/-- a name -/
theorem exp_name (hw : wf (Kd ts) (n1 1 t (.num v)) lo hi) (ot : OTG (X0 ts W h) W h (n1 1 t (.num v)) 0 0 q) (ri : rI G W ts O h Z D s nb lo hi) : C G mX35_resolve (d + 7) [.ref q, .ref (gW G 4)] h (rP G W ts O h Z D nb lo hi (rA ts W O lo hi (rs (Pl ts) (knO O) (n + 1) 0 (n1 1 t (.num v)) s).1 q) (rs (Pl ts) (knO O) (n + 1) 0 (n1 1 t (.num v)) s).2) ∧ hK h q = 33 := by
  obtain ⟨ht, hkd, -⟩ := wf_nd (k := 1) (by decide) hw
  have hk280 : Kd ts t = 280 := hkd.1 (Or.inl rfl)
  obtain ⟨hWq, hkq, ⟨ex, en⟩, -⟩ := (OTG_nd (k := 1) (by decide)).mp ot
  have hk : hK h q = 33 := by simpa [kc] using hkq
  have ev : v = (Vl ts t : Int) := by
    have := (en _ _ rfl).1 (by decide)
    simpa [tkn] using this
  have ev2 : nv (.num v) = Vl ts t := by rw [ev]; rfl
  obtain ⟨k1, k2, k3, k4, k5, k6, k7, k8⟩ := id ri
  have hlt := k1.1.2.2.2.1
  obtain ⟨ba, b1, b2', b3, b5, b6, b7, b8, b9, b10, b11⟩ := id k1.2.2.2.1
  have eR : rs (Pl ts) (knO O) (n + 1) 0 (n1 1 t (.num v)) s = (n1 1 t (.add (.num (opN (lk (rV s) (nv (.num v))))) (.num (opN (upV (rV s) (nv (.num v)))))), rIf (Pl ts) ((lk (rV s) (nv (.num v))).isNone && !knO O (nv (.num v))) 2 t s) := rfl
  rw [ev2] at eR
  rw [eR]
  refine ⟨?_, hk⟩
  have sfq : ∀ (h2 h3 : AH) (o : Option Nat), h3 = pR h2 q 326 o → ∀ g, sf g = true → fI h3 q g = fI h2 q g ∧ fJ h3 q g = fJ h2 q g ∧ fR h3 q g = fR h2 q g := fun h2 h3 o e3 g hg => by
    rw [e3, fI_pR, fJ_pR, fR_pR, if_neg (fun e => by rw [e.2] at hg; exact absurd hg (by decide))]
    exact ⟨rfl, rfl, rfl⟩
  have trx : TR lo hi (n1 1 t (.add (.num (opN (lk (rV s) (Vl ts t)))) (.num (opN (upV (rV s) (Vl ts t)))))) := TR_nd ht.1 ht.2 ⟨trivial, trivial⟩
  have tki : (lo : Int) ≤ tkn (.add (.num t) (.num v)) ∧ tkn (.add (.num t) (.num v)) < hi := ⟨by show (lo : Int) ≤ (t : Nat); omega, by show ((t : Nat) : Int) < hi; omega⟩
  -- behind a binding that was found
  have fnd : ∀ B, hK h B = 13 → (lk (rV s) (Vl ts t) = none → (lk O.1 (Vl ts t)).or (lk O.2 (Vl ts t)) = some B) → (∀ t', lk (rV s) (Vl ts t) = some t' → B = Z.1 t') → ((lk (rV s) (Vl ts t)).isNone && !knO O (Vl ts t)) = false → ∀ h14, h14 = pR h q 326 (some B) → OC (fR h14 q 326) (rP G W ts O h Z D nb lo hi (rA ts W O lo hi (n1 1 t (.add (.num (opN (lk (rV s) (Vl ts t)))) (.num (opN (upV (rV s) (Vl ts t)))))) q) (rIf (Pl ts) ((lk (rV s) (Vl ts t)).isNone && !knO O (Vl ts t)) 2 t s) (.returned none) h14) (fun b15 => OC (fR h14 q 326) (False) (fun b17 => hK h14 b17 = 13 ∧ (∀ h20, h20 = pI h14 q 327 (((fI h14 (gW G 4) 84) - 1) - (fI h14 b17 129)) → (rP G W ts O h Z D nb lo hi (rA ts W O lo hi (n1 1 t (.add (.num (opN (lk (rV s) (Vl ts t)))) (.num (opN (upV (rV s) (Vl ts t)))))) q) (rIf (Pl ts) ((lk (rV s) (Vl ts t)).isNone && !knO O (Vl ts t)) 2 t s) (.returned none) h20)))) := by
    intro B hB13 hOut hLoc hno h14 e14
    have f14 : fR h14 q 326 = some B := by rw [e14, fR_pR, if_pos ⟨rfl, rfl⟩]
    have q4 : gW G 4 ≠ q := fun e => k2.2.1 (by rw [e]; exact hWq)
    have hBq : B ≠ q := fun e => by rw [e, hk] at hB13; cases hB13
    refine ⟨fun e => (by rw [f14] at e; cases e), fun _ _ => ⟨fun e => (by rw [f14] at e; cases e), fun b17 e17 => ?_⟩⟩
    cases f14.symm.trans e17
    refine ⟨by rw [e14, hK_pR]; exact hB13, ?_⟩
    intro h20 e20
    have w : WQ q h h20 := by rw [e20, e14]; exact WQ.rf.pR.pI
    have le20 : Le h h20 none := by
      rw [e20, e14]
      exact (pR_le (Or.inl (by decide))).tr (pI_le (Or.inl (by decide)))
    have sf20 : ∀ g, sf g = true → fI h20 q g = fI h q g ∧ fJ h20 q g = fJ h q g ∧ fR h20 q g = fR h q g := fun g hg => by
      have := sfq h h14 (some B) e14 g hg
      rw [e20, fI_pI, if_neg (fun e => by rw [e.2] at hg; exact absurd hg (by decide)), fJ_pI, fR_pI]
      exact this
    obtain ⟨r3, wb3, kw3, le3, u3, hk3, ex3⟩ := node_wr KW.rf Le.rf0 k1 k2 w le20 sf20 hWq (by rw [hk]; decide) ex tki
    have f20 : fR h20 q 326 = some B := by rw [e20, fR_pI]; exact f14
    have f27 : fI h20 q 327 = fI h (gW G 4) 84 - 1 - fI h B 129 := by
      rw [e20, fI_pI, if_pos ⟨rfl, rfl⟩, e14, fI_pR]
    rw [hno]
    refine leaf_fin ri r3 wb3 kw3 le3 u3 k3 k5 ⟨trx, ?_⟩
    refine (OTG_nd (k := 1) (by decide)).mpr ⟨hWq, by rw [hk3, hk]; decide, ⟨ex3.ch (by decide), fun t' z hz => ?_⟩, R7 (by decide) (Or.inr ⟨_, _, rfl⟩)⟩
    cases hz
    refine ⟨fun _ => ⟨_, _, rfl, fun h0 => ?_, fun h0 B' hB' => ?_⟩, fun q => by omega, fun q => by omega, fun q => by omega, fun q => by omega, fun q => by omega, fun q => by omega, fun q => by omega, fun q => by omega, fun q => by omega⟩
    · cases hl : lk (rV s) (Vl ts t) with
      | none => rw [hl] at h0; exact absurd h0 (by decide)
      | some t' =>
        obtain ⟨p, p1, p2⟩ := up_lk hl
        obtain ⟨g1, g2, g3, g4⟩ := b11 p _ p2
        have hp := (List.getElem?_eq_some_iff.mp p2).1
        have eB := hLoc t' hl
        rw [p1]
        refine ⟨k3.1 _ (List.mem_of_getElem? p2), by rw [f20, eB]; rfl, ?_⟩
        rw [f27, eB, b10, g4, show nI (rV s).length - 1 = nI ((rV s).length - 1) from nI_sub (b := 1) (by omega) (by omega), nI_sub (by omega) (by omega), show (rV s).length - 1 - ((rV s).length - 1 - p) = p by omega, nI_toInt (by omega)]
        rfl
    · cases hl : lk (rV s) (Vl ts t) with
      | some t' => rw [hl] at h0; exact absurd h0 (by show ¬ ((t' : Nat) : Int) < 0; omega)
      | none =>
        have e1 := hOut hl
        have e2 : (lk O.1 (Vl ts t)).or (lk O.2 (Vl ts t)) = some B' := hB'
        rw [f20]
        exact e1.symm.trans e2
  refine bX35_resolve G (d + 6) h _ _ (k1.1.1.at (by decide)) ⟨hk, ?_⟩
  rw [show fI h q 296 = nI t from ex.tk hk rfl rfl]
  refine C.mono (c_name (d := d + 5) k1.1 k1.2.1 k1.2.2.1 k1.2.2.2.1 (by omega) hk280) ?_
  intro o h2 hq
  cases hl : lk (rV s) (Vl ts t) with
  | some t' =>
    rw [hl] at hq
    obtain ⟨rfl, e2⟩ := hq
    obtain ⟨p, p1, p2⟩ := up_lk hl
    obtain ⟨g1, g2, g3, g4⟩ := b11 p _ p2
    rw [e2, ← hl]
    exact KN.i (fnd (Z.1 t') g2 (fun e => (by rw [hl] at e; cases e)) (fun t'' e => (by rw [hl] at e; cases e; rfl)) (by rw [hl]; rfl))
  | none =>
    rw [hl] at hq
    cases ho : (lk O.1 (Vl ts t)).or (lk O.2 (Vl ts t)) with
    | some B =>
      rw [Option.map_none, Option.none_or, ho] at hq
      obtain ⟨rfl, e2⟩ := hq
      have hB : hK h B = 13 := by
        cases h1 : lk O.1 (Vl ts t) with
        | some B1 =>
          rw [h1, Option.some_or] at ho
          cases ho
          obtain ⟨x, x1, x2, x3⟩ := lk_mem h1
          have := (k1.2.2.1.2.2 x (Or.inl x1)).1
          rw [x3] at this
          exact this
        | none =>
          rw [h1, Option.none_or] at ho
          obtain ⟨x, x1, x2, x3⟩ := lk_mem ho
          have := (k1.2.2.1.2.2 x (Or.inr x1)).1
          rw [x3] at this
          exact this
      have kn : knO O (Vl ts t) = true := by
        unfold knO
        cases h1 : lk O.1 (Vl ts t) with
        | some B1 => rfl
        | none => rw [h1, Option.none_or] at ho; rw [ho]; rfl
      rw [e2, ← hl]
      exact KN.i (fnd B hB (fun _ => ho) (fun t'' e => (by rw [hl] at e; cases e)) (by rw [hl, kn]; rfl))
    | none =>
      rw [Option.map_none, Option.none_or, ho] at hq
      obtain ⟨rfl, w2, n2'⟩ := hq
      have kn : knO O (Vl ts t) = false := by
        unfold knO
        cases h1 : lk O.1 (Vl ts t) with
        | some B1 => rw [h1, Option.some_or] at ho; cases ho
        | none => rw [h1, Option.none_or] at ho; rw [ho]; rfl
      refine KN.i0 ?_
      intro h5 e5
      have f5 : fR h5 q 326 = none := by rw [e5, fR_pR, if_pos ⟨rfl, rfl⟩]
      refine ⟨fun _ => ?_, fun b e => (by rw [f5] at e; cases e)⟩
      have w : WQ q h2 h5 := by rw [e5]; exact WQ.rf.pR
      have le5 : Le h2 h5 none := by rw [e5]; exact pR_le (Or.inl (by decide))
      have r2 := k1.found w2 n2'
      obtain ⟨r3, wb3, kw3, le3, u3, hk3, ex3⟩ := node_wr (w2.kw k2) (w2.le (by decide)) r2 (w2.wb k2 (by decide)) w le5 (sfq h2 h5 none e5) hWq (by rw [hk]; decide) ex tki
      rw [hl] at trx
      rw [kn]
      refine leaf_fin ri r3 wb3 kw3 le3 (u3.trans w2.1.un) k3 k5 ⟨trx, ?_⟩
      refine (OTG_nd (k := 1) (by decide)).mpr ⟨hWq, by rw [hk3, hk]; decide, ⟨ex3.ch (by decide), fun t' z hz => ?_⟩, R7 (by decide) (Or.inr ⟨_, _, rfl⟩)⟩
      cases hz
      refine ⟨fun _ => ⟨_, _, rfl, fun h0 => absurd h0 (by decide), fun h0 B' hB' => ?_⟩, fun q => by omega, fun q => by omega, fun q => by omega, fun q => by omega, fun q => by omega, fun q => by omega, fun q => by omega, fun q => by omega, fun q => by omega⟩
      have e2 : (lk O.1 (Vl ts t)).or (lk O.2 (Vl ts t)) = some B' := hB'
      rw [ho] at e2
      cases e2
/-- a constructor -/
theorem exp_con (hw : wf (Kd ts) (n1 2 t (.num v)) lo hi) (ot : OTG (X0 ts W h) W h (n1 2 t (.num v)) 0 0 q) (ri : rI G W ts O h Z D s nb lo hi) : C G mX36_resolve (d + 7) [.ref q, .ref (gW G 4)] h (rP G W ts O h Z D nb lo hi (rA ts W O lo hi (rs (Pl ts) (knO O) (n + 1) 0 (n1 2 t (.num v)) s).1 q) (rs (Pl ts) (knO O) (n + 1) 0 (n1 2 t (.num v)) s).2) ∧ hK h q = 34 := by
  obtain ⟨ht, hkd, -⟩ := wf_nd (k := 2) (by decide) hw
  have hk281 : Kd ts t = 281 := hkd.2.1 (Or.inl rfl)
  obtain ⟨hWq, hkq, ⟨ex, en⟩, -⟩ := (OTG_nd (k := 2) (by decide)).mp ot
  have hk : hK h q = 34 := by simpa [kc] using hkq
  have ev : v = (Vl ts t : Int) := by
    have := (en _ _ rfl).1 (by decide)
    simpa [tkn] using this
  have ev2 : nv (.num v) = Vl ts t := by rw [ev]; rfl
  obtain ⟨k1, k2, k3, k4, k5, k6, k7, k8⟩ := id ri
  have eR : rs (Pl ts) (knO O) (n + 1) 0 (n1 2 t (.num v)) s = (n1 2 t (.num (opN (lk (rC s) (nv (.num v))))), rIf (Pl ts) (lk (rC s) (nv (.num v))).isNone 2 t s) := rfl
  rw [ev2] at eR
  rw [eR]
  refine ⟨?_, hk⟩
  have tki : (lo : Int) ≤ tkn (.add (.num t) (.num v)) ∧ tkn (.add (.num t) (.num v)) < hi := ⟨by show (lo : Int) ≤ (t : Nat); omega, by show ((t : Nat) : Int) < hi; omega⟩
  have stp : ∀ (h2 h5 : AH) (s5 : RSt) (ob : Option Nat), h5 = pR h2 q 328 ob → KW W lo hi h h2 → Le h h2 none → RS G W h2 ts Z O s5 nb → WB G W h2 → un h2 = un h → VD s5 D → VN ts s5 → (∀ c, lk (rC s) (Vl ts t) = some c → c < D.2.1 ∧ ob = some (Z.2.1 c)) → rP G W ts O h Z D nb lo hi (rA ts W O lo hi (n1 2 t (.num (opN (lk (rC s) (Vl ts t))))) q) s5 (.returned none) h5 := by
    intro h2 h5 s5 ob e5 kw le r wb u2 vd hV hc
    have w : WQ q h2 h5 := by rw [e5]; exact WQ.rf.pR
    have le5 : Le h2 h5 none := by rw [e5]; exact pR_le (Or.inl (by decide))
    have sfq : ∀ g, sf g = true → fI h5 q g = fI h2 q g ∧ fJ h5 q g = fJ h2 q g ∧ fR h5 q g = fR h2 q g := fun g hg => by
      rw [e5, fI_pR, fJ_pR, fR_pR, if_neg (fun e => by rw [e.2] at hg; exact absurd hg (by decide))]
      exact ⟨rfl, rfl, rfl⟩
    have f5 : fR h5 q 328 = ob := by rw [e5, fR_pR, if_pos ⟨rfl, rfl⟩]
    obtain ⟨r3, wb3, kw3, le3, u3, hk3, ex3⟩ := node_wr kw le r wb w le5 sfq hWq (by rw [hk]; decide) ex tki
    refine leaf_fin ri r3 wb3 kw3 le3 (u3.trans u2) vd hV ⟨TR_nd ht.1 ht.2 trivial, ?_⟩
    refine (OTG_nd (k := 2) (by decide)).mpr ⟨hWq, by rw [hk3, hk]; decide, ⟨ex3.ch (by decide), fun t' z hz => ?_⟩, R7 (by decide) (Or.inl ⟨_, rfl⟩)⟩
    cases hz
    refine ⟨fun q => by omega, fun _ => ⟨_, rfl, fun h0 => ?_⟩, fun q => by omega, fun q => by omega, fun q => by omega, fun q => by omega, fun q => by omega, fun q => by omega, fun q => by omega, fun q => by omega⟩
    cases hl : lk (rC s) (Vl ts t) with
    | none => rw [hl] at h0; exact absurd h0 (by decide)
    | some c =>
      obtain ⟨c1, c2⟩ := hc c hl
      exact ⟨c1, by rw [f5, c2]; rfl⟩
  refine bX36_resolve G (d + 6) h _ _ (k1.1.1.at (by decide)) ⟨hk, ?_⟩
  rw [show fI h q 296 = nI t from ex.tk hk rfl rfl]
  have hlt := k1.1.2.2.2.1
  refine C.mono (c_con (d := d + 5) k1.1 k1.2.1 k1.2.2.2.2.1 (by omega) hk281) ?_
  intro o h2 hq
  cases hl : lk (rC s) (Vl ts t) with
  | none =>
    rw [hl] at hq
    obtain ⟨rfl, w2, n2'⟩ := hq
    refine KN.i0 ?_
    intro h5 e5
    have := stp h2 h5 (rNote (Pl ts) 2 t s) none e5 (w2.kw k2) (w2.le (by decide)) (k1.found w2 n2') (w2.wb k2 (by decide)) w2.1.un k3 k5 (fun c e => (by rw [hl] at e; cases e))
    rw [hl] at this
    exact this
  | some c =>
    rw [hl] at hq
    obtain ⟨rfl, e2⟩ := hq
    rw [e2]
    obtain ⟨x, x1, x2, x3⟩ := lk_mem hl
    obtain ⟨yc, y1, y2⟩ := k1.2.2.2.2.1.2.1 x x1
    rw [x3] at y1
    have hcl : c < (rCt s).length := (List.getElem?_eq_some_iff.mp y1).1
    refine KN.i ?_
    intro h5 e5
    have := stp h h5 s (some (Z.2.1 c)) e5 KW.rf Le.rf0 k1 k2 rfl k3 k5 (fun c' e => by rw [hl] at e; cases e; exact ⟨by rw [k3.2.1]; exact hcl, rfl⟩)
    rw [hl] at this
    exact this
end
