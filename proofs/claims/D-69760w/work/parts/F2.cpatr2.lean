/-! THE COMPONENT'S RESOLVER: patterns of constructors -/
section
variable {G : Gh} {d : Nat} {W N : Nat → Prop} {h h1 h2 h5 h' : AH} {ts : List (Nat × Nat × Nat)} {t i n nb nb' r q g fr ba lo hi m m2 lo1 hi1 b k c : Nat} {v ic : Int} {Z Z' : Zt} {D D' : Dm} {O : List (Nat × Nat) × List (Nat × Nat)} {s s' s5 : RSt} {x y x' : Tr} {l l1 l2 : List Tr} {f : Nat → Option Nat}
theorem shP_node (k : shP n y) : ∃ kk z, y = .mulL kk z := by
  cases n with
  | zero => exact k.elim
  | succ n =>
    rcases k with ⟨t, rfl⟩ | ⟨t, rfl⟩ | ⟨t, v, rfl⟩ | ⟨t, v, rfl⟩ | ⟨t, v, rfl⟩ | ⟨t, v, y, rfl, -⟩ | ⟨t, l, rfl, -⟩ | ⟨t, l, rfl, -⟩ | ⟨t, a, b, rfl, -⟩ | ⟨t, y, rfl, hy⟩ <;> exact ⟨_, _, rfl⟩
theorem lk_mem {C : List (Nat × Nat)} {v c : Nat} (e : lk C v = some c) : ∃ x, x ∈ C ∧ x.1 = v ∧ x.2 = c := by
  induction C with
  | nil => cases e
  | cons p C ih =>
    rw [lk_cons] at e
    by_cases hp : (p.1 == v) = true
    · rw [if_pos hp] at e
      cases e
      exact ⟨p, List.mem_cons_self .., by simpa using hp, rfl⟩
    · rw [if_neg hp] at e
      obtain ⟨x, x1, x2⟩ := ih e
      exact ⟨x, List.mem_cons_of_mem _ x1, x2⟩
/-- behind the constructor itself -/
theorem con_tail (hP : PR G W ts O n d) (ri : rI G W ts O h Z D s nb lo hi) (ht : lo ≤ t ∧ t < hi) (hm : t + 1 ≤ m ∧ m ≤ hi) (hw : wf (Kd ts) y m hi) (hy : y = .num 0 ∨ shP n y) (hfr : fr ≤ (rV s5).length)
    (r5 : RS G W h5 ts Z O s5 nb) (wb : WB G W h5) (vd : VD s5 D) (hV : VN ts s5) (kw : KW W lo hi h h5) (le : Le h h5 none) (u5 : un h5 = un h) (hWq : W q) (hkq : hK h5 q = 19) (ex : EXs W h5 33 q (.add (.num t) (.add (.num ic) y))) (hid : 0 ≤ ic → ic.toNat < D.2.1 ∧ fR h5 q 304 = some (Z.2.1 ic.toNat)) (oy : OTG (X0 ts W h5) W h5 y 5 303 q) :
    OC (fR h5 q 303) (rP G W ts O h Z D nb lo hi (rA ts W O lo hi (n2 33 t (.num ic) (if isN y = true then y else (rPat (Pl ts) n fr y s5).1)) q) (if isN y = true then s5 else (rPat (Pl ts) n fr y s5).2) (.returned none) h5) (fun _ => OC (fR h5 q 303) False (fun b10 => ∃ (k : Nat) (ν : Mu), VT ⟨"LetMill$Pat", "resolveFrom", "(LLetMill$Scope;I)V"⟩ VMPat_resolveFrom k ν ∧ hK h5 b10 = k + 1 ∧ C G ν (d + 3) [.ref (b10), .ref (gW G 4), .int (nI fr)] h5 (KV (rP G W ts O h Z D nb lo hi (rA ts W O lo hi (n2 33 t (.num ic) (if isN y = true then y else (rPat (Pl ts) n fr y s5).1)) q) (if isN y = true then s5 else (rPat (Pl ts) n fr y s5).2)) (fun h12 => rP G W ts O h Z D nb lo hi (rA ts W O lo hi (n2 33 t (.num ic) (if isN y = true then y else (rPat (Pl ts) n fr y s5).1)) q) (if isN y = true then s5 else (rPat (Pl ts) n fr y s5).2) (.returned none) h12)))) := by
  obtain ⟨k1, k2, k3, k4, k5, k6, k7, k8⟩ := id ri
  have exy : ∀ y', EXs W h5 33 q (.add (.num t) (.add (.num ic) y')) := fun y' => ⟨ex.1, ex.2.1, ex.2.2.1, ex.2.2.2.1, ex.2.2.2.2.1, ex.2.2.2.2.2.1, ex.2.2.2.2.2.2.1, ex.2.2.2.2.2.2.2.1, fun _ _ _ => ⟨fun q => by omega, fun q => by omega, fun q => by omega, fun q => by omega⟩⟩
  have an : ∀ y', ANN ts O Z D h5 33 q (.add (.num t) (.add (.num ic) y')) := by
    intro y' t' z hz
    cases hz
    exact ⟨fun q => by omega, fun q => by omega, fun q => by omega, fun _ => ⟨ic, y', rfl, hid⟩, fun q => by omega, fun q => by omega, fun q => by omega, fun q => by omega, fun q => by omega, fun q => by omega⟩
  rcases hy with rfl | hy
  · have hn : fR h5 q 303 = none := by
      rcases OTG_5.mp oy with ⟨-, e⟩ | ⟨b, -, o⟩
      · exact e
      · obtain ⟨kk, z, e⟩ := OTG_0 o
        cases e
    refine ⟨fun _ => ?_, fun b e => (by rw [hn] at e; cases e)⟩
    rw [if_pos (show isN (Int.Internal.Linear.Expr.num 0) = true from rfl), if_pos (show isN (Int.Internal.Linear.Expr.num 0) = true from rfl)]
    refine ⟨rfl, Z, D, nb, r5, wb, vd, ⟨TR_nd (y := .add (.num ic) (.num 0)) ht.1 ht.2 ⟨trivial, trivial⟩, ?_⟩, kw, Ext.rf, fun t ht => Or.inl ht, hV, k6, by unfold pU; omega, le⟩
    refine (OTG_nd (k := 33) (by decide)).mpr ⟨hWq, by rw [hkq]; decide, ⟨exy _, an _⟩, ?_⟩
    exact (OTG_c2 (by decide) (by decide)).mpr ⟨OTG_7 (Or.inl ⟨_, rfl⟩), (OTG_ef (m' := 5) (i' := 303) (by decide) (by decide)).mpr (OTG_5.mpr (Or.inl ⟨rfl, hn⟩))⟩
  · obtain ⟨kk, z, ey⟩ := shP_node hy
    have hN : isN y = false := by rw [ey]; rfl
    rcases OTG_5.mp oy with ⟨e, -⟩ | ⟨b, eb, ob⟩
    · rw [ey] at e; cases e
    refine ⟨fun e => (by rw [eb] at e; cases e), fun _ _ => ⟨fun e => (by rw [eb] at e; cases e), fun b' e' => ?_⟩⟩
    cases eb.symm.trans e'
    rw [if_neg (by rw [hN]; decide), if_neg (by rw [hN]; decide)]
    have ri5 : rI G W ts O h5 Z D s5 nb m hi := ⟨r5, wb, vd, ⟨k4.1, hm.2⟩, by omega, k6, fun x hx => by have := k7 x hx; omega, by unfold pU at k8 ⊢; omega⟩
    obtain ⟨kc', ν, v1, v2, v3⟩ := hP y m hi b fr h5 s5 Z D nb hy hw ob ri5 hfr
    refine ⟨kc', ν, v1, v2, C.mono v3 ?_⟩
    rintro _ h6 ⟨rfl, Z', D', nb', a1, a2, a3, ⟨a4, a4'⟩, a5, a6, a7, a8, a9, a10, a11⟩
    have tq : tokA h5 q = t := ex.tA
    have uq := (a5.2 q hWq).2 (Or.inl (by rw [tq]; omega))
    refine KV.i ⟨rfl, Z', D', nb', a1, a2, a3, ⟨TR_nd (y := .add (.num ic) (rPat (Pl ts) n fr y s5).1) ht.1 ht.2 ⟨trivial, TR.mono _ _ _ _ _ a4 (by omega) (Nat.le_refl _)⟩, ?_⟩, kw.tr (a5.wd (by omega) (Nat.le_refl _)), a6, fun x hx => (a7 x hx).imp_right fun q => by omega, a8, a9, by unfold pU at a10 ⊢; omega, le.tr a11⟩
    refine (OTG_nd (k := 33) (by decide)).mpr ⟨hWq, by rw [uq.1, hkq]; decide, ⟨(exy _).mv (fun a ha _ => (a5.2 a ha).1) uq.us, (an _).mv uq a6⟩, ?_⟩
    exact (OTG_c2 (by decide) (by decide)).mpr ⟨OTG_7 (Or.inl ⟨_, rfl⟩), (OTG_ef (m' := 5) (i' := 303) (by decide) (by decide)).mpr (OTG_5.mpr (Or.inr ⟨b, (uq.2.2.2.2.2 303).2.2.trans eb, a4'⟩))⟩
theorem VD.note (k : VD s D) {pl : Nat → Nat} {n t : Nat} : VD (rNote pl n t s) D := k
theorem pat_con (hP : PR G W ts O n d) (hw : wf (Kd ts) (n2 33 t (.num v) y) lo hi) (hy : y = .num 0 ∨ shP n y) (ot : OTG (X0 ts W h) W h (n2 33 t (.num v) y) 0 0 q) (ri : rI G W ts O h Z D s nb lo hi) (hfr : fr ≤ (rV s).length) : C G mX20_resolveFrom (d + 4) [.ref q, .ref (gW G 4), .int (nI fr)] h (rP G W ts O h Z D nb lo hi (rA ts W O lo hi (rPat (Pl ts) (n + 1) fr (n2 33 t (.num v) y) s).1 q) (rPat (Pl ts) (n + 1) fr (n2 33 t (.num v) y) s).2) ∧ hK h q = 19 := by
  obtain ⟨ht, hk281, m0, hm1, hm2, hw0⟩ := wf_33 (y := .add (.num v) y) hw
  unfold wf at hw0
  obtain ⟨m, hm3, hm4, -, hwy⟩ := hw0
  obtain ⟨hWq, hkq, ⟨ex, en⟩, oy⟩ := (OTG_nd (k := 33) (by decide)).mp ot
  have hk : hK h q = 19 := by simpa [kc] using hkq
  rw [OTG_c2 (by decide) (by decide)] at oy
  have oy5 := (OTG_ef (m' := 5) (i' := 303) (by decide) (by decide)).mp oy.2
  have ev : v = (Vl ts t : Int) := by
    obtain ⟨z, ez⟩ := (en _ _ rfl).2 (by decide)
    have : (Int.Internal.Linear.Expr.num v) = .num (Vl ts (tkn (.add (.num t) (.add (.num v) y))).toNat) := by injection ez
    simpa [tkn] using this
  have ev2 : nv (.num v) = Vl ts t := by rw [ev]; rfl
  obtain ⟨k1, k2, k3, k4, k5, k6, k7, k8⟩ := id ri
  have hlt := k1.1.2.2.2.1
  refine ⟨?_, hk⟩
  have tq : tokA h q = t := ex.tA
  have hyT : TR m hi y := wf.tr _ _ _ hwy
  -- behind the search: the annotation is written
  have stp : ∀ (h2 h5 : AH) (s5 : RSt) (ob : Option Nat), h5 = pR h2 q 304 ob → KW W lo hi h h2 → Le h h2 none → RS G W h2 ts Z O s5 nb → WB G W h2 → un h2 = un h → RS G W h5 ts Z O s5 nb ∧ WB G W h5 ∧ KW W lo hi h h5 ∧ Le h h5 none ∧ un h5 = un h ∧ hK h5 q = 19 ∧ EXs W h5 33 q (.add (.num t) (.add (.num v) y)) ∧ fR h5 q 304 = ob ∧ OTG (X0 ts W h5) W h5 y 5 303 q := by
    intro h2 h5 s5 ob e5 kw le r wb u2
    have uq := (kw.2 q hWq).1
    have w : WQ q h2 h5 := by rw [e5]; exact WQ.rf.pR
    have le5 : Le h2 h5 none := by rw [e5]; exact pR_le (Or.inl (by decide))
    have sfq : ∀ g, sf g = true → fI h5 q g = fI h2 q g ∧ fJ h5 q g = fJ h2 q g ∧ fR h5 q g = fR h2 q g := fun g hg => by
      rw [e5, fI_pR, fJ_pR, fR_pR, if_neg (fun e => by rw [e.2] at hg; exact absurd hg (by decide))]
      exact ⟨rfl, rfl, rfl⟩
    have hk2 : hK h2 q = 19 := uq.1.trans hk
    obtain ⟨r5, wb5⟩ := r.nW wb w le5 (by rw [hk2]; decide) hWq
    have kw5 : KW W lo hi h h5 := kw.tr (w.kw (by rw [uq.tok, tq]; omega) sfq)
    refine ⟨r5, wb5, kw5, le.tr le5, by rw [w.un]; exact u2, by rw [w.2.1.1]; exact hk2, ex.mv (fun a ha _ => (kw5.2 a ha).1) (kw5.2 q hWq).1, by rw [e5, fR_pR, if_pos ⟨rfl, rfl⟩], ?_⟩
    have u5 := (kw5.2 q hWq).1
    rcases OTG_5.mp oy5 with ⟨e1, e2⟩ | ⟨b, eb, ob'⟩
    · exact OTG_5.mpr (Or.inl ⟨e1, ((u5.2.2.2.2.2 303 (by decide)).2.2).trans e2⟩)
    · exact OTG_5.mpr (Or.inr ⟨b, ((u5.2.2.2.2.2 303 (by decide)).2.2).trans eb, ob'.k0 kw5 k2.1 hyT⟩)
  refine bX20_resolveFrom G (d + 3) h _ _ _ (k1.1.1.at (by decide)) ⟨hk, ?_⟩
  rw [show fI h q 302 = nI t from ex.tk hk rfl rfl]
  refine C.mono (c_con (d := d + 2) k1.1 k1.2.1 k1.2.2.2.2.1 (by omega) hk281) ?_
  -- what the law says
  have eR : ∀ c : Option Nat, lk (rC s) (Vl ts t) = c → rPat (Pl ts) (n + 1) fr (n2 33 t (.num v) y) s = (n2 33 t (.num (opN c)) (if isN y = true then y else (rPat (Pl ts) n fr y (match c with | none => rNote (Pl ts) 2 t s | some c => rIf (Pl ts) (cWith s c == isN y) 4 t s)).1), (if isN y = true then (match c with | none => rNote (Pl ts) 2 t s | some c => rIf (Pl ts) (cWith s c == isN y) 4 t s) else (rPat (Pl ts) n fr y (match c with | none => rNote (Pl ts) 2 t s | some c => rIf (Pl ts) (cWith s c == isN y) 4 t s)).2)) := by
    intro c hc
    have e : rPat (Pl ts) (n + 1) fr (n2 33 t (.num v) y) s = (let c := lk (rC s) (nv (.num v)); let s1 := match c with | none => rNote (Pl ts) 2 t s | some c => rIf (Pl ts) (cWith s c == isN y) 4 t s; if isN y = true then (.mulL 33 (.add (.num t) (.add (.num (opN c)) y)), s1) else (.mulL 33 (.add (.num t) (.add (.num (opN c)) (rPat (Pl ts) n fr y s1).1)), (rPat (Pl ts) n fr y s1).2)) := rfl
    rw [e, ev2, hc]
    cases hN : isN y <;> rfl
  intro o h2 hq
  cases hl : lk (rC s) (Vl ts t) with
  | none =>
    rw [hl] at hq
    obtain ⟨rfl, w2, n2'⟩ := hq
    rw [eR none hl]
    refine KN.i0 ?_
    intro h5 e5
    have r2 := k1.found w2 n2'
    obtain ⟨r5, wb5, kw5, le5, u5, hk5, ex5, f5, oy5'⟩ := stp h2 h5 (rNote (Pl ts) 2 t s) none e5 (w2.kw k2) (w2.le (by decide)) r2 (w2.wb k2 (by decide)) w2.1.un
    refine ⟨fun _ => ?_, fun b e => (by rw [f5] at e; cases e)⟩
    exact con_tail (ic := -1) hP ri ht ⟨by omega, hm4⟩ hwy hy hfr r5 wb5 k3 (by exact k5) kw5 le5 u5 hWq hk5 ⟨ex5.1, ex5.2.1, ex5.2.2.1, ex5.2.2.2.1, ex5.2.2.2.2.1, ex5.2.2.2.2.2.1, ex5.2.2.2.2.2.2.1, ex5.2.2.2.2.2.2.2.1, fun _ _ _ => ⟨fun q => by omega, fun q => by omega, fun q => by omega, fun q => by omega⟩⟩ (fun q => absurd q (by decide)) oy5'
  | some c =>
    rw [hl] at hq
    obtain ⟨rfl, e2⟩ := hq
    rw [eR (some c) hl, e2]
    obtain ⟨x, x1, x2, x3⟩ := lk_mem hl
    obtain ⟨yc, y1, y2⟩ := k1.2.2.2.2.1.2.1 x x1
    rw [x3] at y1
    have co := k1.2.2.2.2.1.2.2 c yc y1
    have hcl : c < (rCt s).length := (List.getElem?_eq_some_iff.mp y1).1
    have ecw : cWith s c = !isN yc.2.2.2 := by unfold cWith; rw [y1]
    refine KN.i ?_
    intro h5 e5
    obtain ⟨r5, wb5, kw5, le5, u5, hk5, ex5, f5, oy5'⟩ := stp h h5 s (some (Z.2.1 c)) e5 KW.rf Le.rf0 k1 k2 rfl
    have co5 := r5.2.2.2.2.1.2.2 c yc y1
    refine ⟨fun e => (by rw [f5] at e; cases e), fun _ _ => ⟨fun e => (by rw [f5] at e; cases e), fun b77 e77 => ?_⟩⟩
    cases f5.symm.trans e77
    refine ⟨co5.1, ?_⟩
    have e371 : fI h5 (Z.2.1 c) 371 = b2 (cWith s c) := by rw [ecw]; exact co5.2.2.2.2.2
    have t302 : fI h5 q 302 = nI t := ex5.tk hk5 rfl rfl
    have exI : ∀ id : Int, EXs W h5 33 q (.add (.num t) (.add (.num id) y)) := fun id => ⟨ex5.1, ex5.2.1, ex5.2.2.1, ex5.2.2.2.1, ex5.2.2.2.2.1, ex5.2.2.2.2.2.1, ex5.2.2.2.2.2.2.1, ex5.2.2.2.2.2.2.2.1, fun _ _ _ => ⟨fun q => by omega, fun q => by omega, fun q => by omega, fun q => by omega⟩⟩
    have hid : (0 : Int) ≤ (c : Nat) → ((c : Nat) : Int).toNat < D.2.1 ∧ fR h5 q 304 = some (Z.2.1 ((c : Nat) : Int).toNat) := fun _ => ⟨by rw [k3.2.1]; exact hcl, f5⟩
    have noN : ∀ bb, (cWith s c == isN y) = bb → bb = false → rIf (Pl ts) (cWith s c == isN y) 4 t s = s := fun bb e1 e2 => by rw [e1, e2]; rfl
    have plain : (cWith s c == isN y) = false → OC (fR h5 q 303) (rP G W ts O h Z D nb lo hi (rA ts W O lo hi (n2 33 t (.num (opN (some c))) (if isN y = true then y else (rPat (Pl ts) n fr y (rIf (Pl ts) (cWith s c == isN y) 4 t s)).1)) q) (if isN y = true then rIf (Pl ts) (cWith s c == isN y) 4 t s else (rPat (Pl ts) n fr y (rIf (Pl ts) (cWith s c == isN y) 4 t s)).2) (.returned none) h5) (fun _ => OC (fR h5 q 303) False (fun b10 => ∃ (k : Nat) (ν : Mu), VT ⟨"LetMill$Pat", "resolveFrom", "(LLetMill$Scope;I)V"⟩ VMPat_resolveFrom k ν ∧ hK h5 b10 = k + 1 ∧ C G ν (d + 3) [.ref (b10), .ref (gW G 4), .int (nI fr)] h5 (KV (rP G W ts O h Z D nb lo hi (rA ts W O lo hi (n2 33 t (.num (opN (some c))) (if isN y = true then y else (rPat (Pl ts) n fr y (rIf (Pl ts) (cWith s c == isN y) 4 t s)).1)) q) (if isN y = true then rIf (Pl ts) (cWith s c == isN y) 4 t s else (rPat (Pl ts) n fr y (rIf (Pl ts) (cWith s c == isN y) 4 t s)).2)) (fun h12 => rP G W ts O h Z D nb lo hi (rA ts W O lo hi (n2 33 t (.num (opN (some c))) (if isN y = true then y else (rPat (Pl ts) n fr y (rIf (Pl ts) (cWith s c == isN y) 4 t s)).1)) q) (if isN y = true then rIf (Pl ts) (cWith s c == isN y) 4 t s else (rPat (Pl ts) n fr y (rIf (Pl ts) (cWith s c == isN y) 4 t s)).2) (.returned none) h12)))) := by
      intro e
      rw [e]
      exact con_tail (ic := (c : Nat)) hP ri ht ⟨by omega, hm4⟩ hwy hy hfr r5 wb5 k3 k5 kw5 le5 u5 hWq hk5 (exI _) hid oy5'
    have note : (cWith s c == isN y) = true → C G mX9_found (d + 3) [.ref (gW G 4), .int (nI 4), .int (nI t)] h5 (KV (rP G W ts O h Z D nb lo hi (rA ts W O lo hi (n2 33 t (.num (opN (some c))) (if isN y = true then y else (rPat (Pl ts) n fr y (rIf (Pl ts) (cWith s c == isN y) 4 t s)).1)) q) (if isN y = true then rIf (Pl ts) (cWith s c == isN y) 4 t s else (rPat (Pl ts) n fr y (rIf (Pl ts) (cWith s c == isN y) 4 t s)).2)) (fun h32 => OC (fR h32 q 303) (rP G W ts O h Z D nb lo hi (rA ts W O lo hi (n2 33 t (.num (opN (some c))) (if isN y = true then y else (rPat (Pl ts) n fr y (rIf (Pl ts) (cWith s c == isN y) 4 t s)).1)) q) (if isN y = true then rIf (Pl ts) (cWith s c == isN y) 4 t s else (rPat (Pl ts) n fr y (rIf (Pl ts) (cWith s c == isN y) 4 t s)).2) (.returned none) h32) (fun _ => OC (fR h32 q 303) False (fun b10 => ∃ (k : Nat) (ν : Mu), VT ⟨"LetMill$Pat", "resolveFrom", "(LLetMill$Scope;I)V"⟩ VMPat_resolveFrom k ν ∧ hK h32 b10 = k + 1 ∧ C G ν (d + 3) [.ref (b10), .ref (gW G 4), .int (nI fr)] h32 (KV (rP G W ts O h Z D nb lo hi (rA ts W O lo hi (n2 33 t (.num (opN (some c))) (if isN y = true then y else (rPat (Pl ts) n fr y (rIf (Pl ts) (cWith s c == isN y) 4 t s)).1)) q) (if isN y = true then rIf (Pl ts) (cWith s c == isN y) 4 t s else (rPat (Pl ts) n fr y (rIf (Pl ts) (cWith s c == isN y) 4 t s)).2)) (fun h12 => rP G W ts O h Z D nb lo hi (rA ts W O lo hi (n2 33 t (.num (opN (some c))) (if isN y = true then y else (rPat (Pl ts) n fr y (rIf (Pl ts) (cWith s c == isN y) 4 t s)).1)) q) (if isN y = true then rIf (Pl ts) (cWith s c == isN y) 4 t s else (rPat (Pl ts) n fr y (rIf (Pl ts) (cWith s c == isN y) 4 t s)).2) (.returned none) h12)))))) := by
      intro e
      rw [e]
      refine C.mono (r_found (n := 4) r5 (by omega) (by decide)) ?_
      rintro _ h6 ⟨rfl, w6, r6⟩
      have q4 : q ≠ gW G 4 := fun e => k2.2.1 (by rw [← e]; exact hWq)
      have uq := w6.1.uf q4
      have kw6 : KW W lo hi h h6 := kw5.tr (w6.kw wb5)
      have oy6 : OTG (X0 ts W h6) W h6 y 5 303 q := by
        rcases OTG_5.mp oy5' with ⟨e1, e2⟩ | ⟨b, eb, ob'⟩
        · exact OTG_5.mpr (Or.inl ⟨e1, ((uq.2.2.2.2.2 303).2.2).trans e2⟩)
        · exact OTG_5.mpr (Or.inr ⟨b, ((uq.2.2.2.2.2 303).2.2).trans eb, ob'.k0 (w6.kw (lo := lo) (hi := hi) wb5) wb5.1 hyT⟩)
      exact KV.i (con_tail (ic := (c : Nat)) hP ri ht ⟨by omega, hm4⟩ hwy hy hfr r6 (w6.wb wb5 (by decide)) k3 k5 kw6 (le5.tr (w6.le (by decide))) (by rw [w6.1.un]; exact u5) hWq (uq.1.trans hk5) ((exI _).mv (fun a ha _ => ((w6.kw (lo := lo) (hi := hi) wb5).2 a ha).1) uq.us) (fun h0 => ⟨(hid h0).1, (uq.2.2.2.2.2 304).2.2.trans (hid h0).2⟩) oy6)
    rw [t302, e371]
    refine ⟨fun e3 => ?_, fun b3 e3 => ?_⟩
    · have hNy : isN y = true := by
        rcases hy with rfl | hy
        · rfl
        · rcases OTG_5.mp oy5' with ⟨e1, -⟩ | ⟨b, eb, -⟩
          · rw [e1]; rfl
          · rw [e3] at eb; cases eb
      rw [b2_0]
      refine ⟨fun z => plain (by rw [z, hNy]; rfl), fun z => note (by rw [bt z, hNy]; rfl)⟩
    · have hNy : isN y = false := by
        rcases OTG_5.mp oy5' with ⟨e1, e2⟩ | ⟨b, eb, ob'⟩
        · rw [e3] at e2; cases e2
        · obtain ⟨kk, z, e⟩ := OTG_0 ob'
          rw [e]; rfl
      refine ⟨fun z => plain ?_, fun z => note ?_⟩
      · rw [hNy]
        cases hcw : cWith s c with
        | true => rfl
        | false => rw [hcw] at z; exact absurd z (by decide)
      · rw [hNy]
        cases hcw : cWith s c with
        | false => rfl
        | true => rw [hcw] at z; exact absurd rfl z
end
