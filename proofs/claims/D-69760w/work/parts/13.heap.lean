/-! FIELDS, ARRAYS, NEW CELLS -/
theorem gty_k {g t : Nat} (hk : kindOk (g, t) = true) : g < 375 ∧ (t = 0 → gty g = .int) ∧ (t = 1 → gty g = .long) ∧ (t = 3 → gty g = .boolean) ∧ (t = 2 → (gty g).isReference = true) := by
  simp only [kindOk, Bool.and_eq_true, decide_eq_true_eq] at hk
  refine ⟨hk.1, ?_, ?_, ?_, ?_⟩ <;> (intro e; subst e; simpa using hk.2)
theorem fits_rf {ty : FieldType} (h : ty.isReference = true) (r : Option Nat) : narrow ty (va_rf r) = va_rf r ∧ fits ty (va_rf r) = true := by
  cases ty <;> simp [FieldType.isReference] at h <;> cases r <;> exact ⟨rfl, rfl⟩
theorem cty_ok {c : Nat} (hc : c < 56) : ∀ k, k < (ftab c).length → parseFieldDescriptor (ctab c k).2.2.1 = some (gty ((ftab c).getD k (0, 0)).1) := by
  intro k hk
  have e : (ftab c)[k]? = some (ftab c)[k] := List.getElem?_eq_getElem hk
  rcases hq : (ftab c)[k] with ⟨g, t⟩
  rw [hq] at e
  rw [ctab_at e, List.getD, e]
  exact gty_at (gty_k (ftab_at hc e)).1
theorem pI_le {h : AH} {a g : Nat} {v : Int32} {ex : Option Nat} (hf : gfin g = false ∨ ex = some a) : Le h (pI h a g v) ex := by
  refine ⟨⟨Nat.le_refl _, Nat.le_refl _⟩, fun x _ => ⟨rfl, rfl, fun hne y hy => ⟨?_, rfl, rfl⟩⟩⟩
  simp only [pI, fI, up2]
  rw [if_neg]
  rintro ⟨rfl, rfl⟩
  rcases hf with q | q
  · rw [hy] at q; cases q
  · exact hne q.symm
theorem pJ_le {h : AH} {a g : Nat} {v : Int64} {ex : Option Nat} (hf : gfin g = false ∨ ex = some a) : Le h (pJ h a g v) ex := by
  refine ⟨⟨Nat.le_refl _, Nat.le_refl _⟩, fun x _ => ⟨rfl, rfl, fun hne y hy => ⟨rfl, ?_, rfl⟩⟩⟩
  simp only [pJ, fJ, up2]
  rw [if_neg]
  rintro ⟨rfl, rfl⟩
  rcases hf with q | q
  · rw [hy] at q; cases q
  · exact hne q.symm
theorem pR_le {h : AH} {a g : Nat} {v : Option Nat} {ex : Option Nat} (hf : gfin g = false ∨ ex = some a) : Le h (pR h a g v) ex := by
  refine ⟨⟨Nat.le_refl _, Nat.le_refl _⟩, fun x _ => ⟨rfl, rfl, fun hne y hy => ⟨rfl, rfl, ?_⟩⟩⟩
  simp only [pR, fR, up2]
  rw [if_neg]
  rintro ⟨rfl, rfl⟩
  rcases hf with q | q
  · rw [hy] at q; cases q
  · exact hne q.symm
theorem sI_le {h : AH} {a i : Nat} {v : Int32} {ex : Option Nat} : Le h (sI h a i v) ex := ⟨⟨Nat.le_refl _, Nat.le_refl _⟩, fun _ _ => ⟨rfl, rfl, fun _ _ _ => ⟨rfl, rfl, rfl⟩⟩⟩
theorem sJ_le {h : AH} {a i : Nat} {v : Int64} {ex : Option Nat} : Le h (sJ h a i v) ex := ⟨⟨Nat.le_refl _, Nat.le_refl _⟩, fun _ _ => ⟨rfl, rfl, fun _ _ _ => ⟨rfl, rfl, rfl⟩⟩⟩
theorem sR_le {h : AH} {a i : Nat} {v : Option Nat} {ex : Option Nat} : Le h (sR h a i v) ex := ⟨⟨Nat.le_refl _, Nat.le_refl _⟩, fun _ _ => ⟨rfl, rfl, fun _ _ _ => ⟨rfl, rfl, rfl⟩⟩⟩
theorem nO_le {h : AH} {q k : Nat} {ex : Option Nat} (hq : hK h q = 0) : Le h (nO h q k) ex := by
  refine ⟨⟨Nat.le_succ _, Nat.le_add_right _ _⟩, fun x hx => ?_⟩
  have hne : x ≠ q := fun e => hx (e ▸ hq)
  refine ⟨?_, rfl, fun _ y _ => ⟨?_, ?_, ?_⟩⟩ <;> simp [nO, hK, fI, fJ, fR, up1, upr, hne]
theorem nA_le {h : AH} {q t n : Nat} {ex : Option Nat} (hq : hK h q = 0) : Le h (nA h q t n) ex := by
  refine ⟨⟨Nat.le_succ _, Nat.le_add_right _ _⟩, fun x hx => ?_⟩
  have hne : x ≠ q := fun e => hx (e ▸ hq)
  refine ⟨?_, ?_, fun _ y _ => ⟨rfl, rfl, rfl⟩⟩ <;> simp [nA, hK, hL, up1, hne]
section
variable {w : Nat → Nat} {m : Nat} {h : AH} {ex : Option Nat}
theorem pI_lm {a g : Nat} {v : Int32} (hf : gfin g = false ∨ ex = some a) (hm : m.testBit g = true ∨ ex = some a) : Lm w m h (pI h a g v) ex := by
  refine ⟨pI_le hf, fun _ => ⟨rfl, rfl, rfl, rfl⟩, fun x _ => ⟨fun hne y hy => ⟨?_, rfl, rfl⟩, Or.inr ⟨rfl, rfl, rfl⟩⟩⟩
  simp only [pI, fI, up2]
  rw [if_neg]
  rintro ⟨rfl, rfl⟩
  rcases hm with q | q
  · rw [hy] at q; cases q
  · exact hne q.symm
theorem pJ_lm {a g : Nat} {v : Int64} (hf : gfin g = false ∨ ex = some a) (hm : m.testBit g = true ∨ ex = some a) : Lm w m h (pJ h a g v) ex := by
  refine ⟨pJ_le hf, fun _ => ⟨rfl, rfl, rfl, rfl⟩, fun x _ => ⟨fun hne y hy => ⟨rfl, ?_, rfl⟩, Or.inr ⟨rfl, rfl, rfl⟩⟩⟩
  simp only [pJ, fJ, up2]
  rw [if_neg]
  rintro ⟨rfl, rfl⟩
  rcases hm with q | q
  · rw [hy] at q; cases q
  · exact hne q.symm
theorem pR_lm {a g : Nat} {v : Option Nat} (hf : gfin g = false ∨ ex = some a) (hm : m.testBit g = true ∨ ex = some a) : Lm w m h (pR h a g v) ex := by
  refine ⟨pR_le hf, fun _ => ⟨rfl, rfl, rfl, rfl⟩, fun x _ => ⟨fun hne y hy => ⟨rfl, rfl, ?_⟩, Or.inr ⟨rfl, rfl, rfl⟩⟩⟩
  simp only [pR, fR, up2]
  rw [if_neg]
  rintro ⟨rfl, rfl⟩
  rcases hm with q | q
  · rw [hy] at q; cases q
  · exact hne q.symm
theorem sI_lm {a i t : Nat} {v : Int32} (ha : hK h a = 1000 + t) (hs : Sk w m a t) : Lm w m h (sI h a i v) ex := by
  refine ⟨sI_le, fun _ => ⟨rfl, rfl, rfl, rfl⟩, fun x _ => ⟨fun _ _ _ => ⟨rfl, rfl, rfl⟩, ?_⟩⟩
  by_cases e : x = a
  · subst e
    rw [ha, Nat.add_sub_cancel_left]
    exact Or.inl hs
  · exact Or.inr ⟨by funext y; simp [sI, aI, up2, e], rfl, rfl⟩
theorem sJ_lm {a i t : Nat} {v : Int64} (ha : hK h a = 1000 + t) (hs : Sk w m a t) : Lm w m h (sJ h a i v) ex := by
  refine ⟨sJ_le, fun _ => ⟨rfl, rfl, rfl, rfl⟩, fun x _ => ⟨fun _ _ _ => ⟨rfl, rfl, rfl⟩, ?_⟩⟩
  by_cases e : x = a
  · subst e
    rw [ha, Nat.add_sub_cancel_left]
    exact Or.inl hs
  · exact Or.inr ⟨rfl, by funext y; simp [sJ, aJ, up2, e], rfl⟩
theorem sR_lm {a i t : Nat} {v : Option Nat} (ha : hK h a = 1000 + t) (hs : Sk w m a t) : Lm w m h (sR h a i v) ex := by
  refine ⟨sR_le, fun _ => ⟨rfl, rfl, rfl, rfl⟩, fun x _ => ⟨fun _ _ _ => ⟨rfl, rfl, rfl⟩, ?_⟩⟩
  by_cases e : x = a
  · subst e
    rw [ha, Nat.add_sub_cancel_left]
    exact Or.inl hs
  · exact Or.inr ⟨rfl, rfl, by funext y; simp [sR, aR, up2, e]⟩
theorem nO_lm {q k : Nat} (hm : m.testBit 399 = true) (hq : hK h q = 0) : Lm w m h (nO h q k) ex := by
  refine ⟨nO_le hq, fun hb => (by rw [hm] at hb; cases hb), fun x hx => ?_⟩
  have hne : x ≠ q := fun e => hx (e ▸ hq)
  exact ⟨fun _ y _ => ⟨by simp [nO, fI, upr, hne], by simp [nO, fJ, upr, hne], by simp [nO, fR, upr, hne]⟩, Or.inr ⟨rfl, rfl, rfl⟩⟩
theorem nA_lm {q t n : Nat} (hm : m.testBit 399 = true) (hq : hK h q = 0) : Lm w m h (nA h q t n) ex := by
  refine ⟨nA_le hq, fun hb => (by rw [hm] at hb; cases hb), fun x hx => ?_⟩
  have hne : x ≠ q := fun e => hx (e ▸ hq)
  exact ⟨fun _ y _ => ⟨rfl, rfl, rfl⟩, Or.inr ⟨by funext y; simp [nA, aI, upr, hne], by funext y; simp [nA, aJ, upr, hne], by funext y; simp [nA, aR, upr, hne]⟩⟩
end
theorem nw_new {p : Program} {l : Launch} {e : Env} {R : Room} {s : State} {m : MethodId} {args : Array Value} {below : List Frame} {meth : Method} {c0 : Code} {H : Heap} {locs : List Loc} {cells slots : Nat} {Q : State → Prop} {cc : ByteArray} {pc : Nat} {ls : Array Slot} {rest : List Value} {D : va_G} {cl : List vw_C} {A : Nat → Prop} {tys : List (ClassId × FieldType)} {ws : va_W} {H0 : Heap}
    (hexec : p.tables.exec = Jvm.exec) (hb : c0.code = cc) {own C : String} {T : u_T} {N ci index : Nat} {Ts : List Cond} (hts : ∀ w ∈ Ts, w.before args s = true) (hin : ∀ w ∈ u_ws C T N, w ∈ Ts) (ty : Nat → FieldType) (hty : ∀ k, k < N → parseFieldDescriptor (T k).2.2.1 = some (ty k)) (hown : s.vm.findClass own = some m.cls) (hcl : (Cond.classLink own index C).before args s = true) (hinst : (Cond.instantiable C N).before args s = true) (hini : (Cond.initialized C).before args s = true)
    (hK : va_K D cl tys s) (hP : va_P D cl ws H) (hD : va_D A ws) (hS : va_S A H0 H locs) (hA : ∀ q, H0.size ≤ q → A q) (hc : cl[ci]? = some (C, T, N)) {fs : List Value} (hfs : ∀ j, j < N → defaultValue (ty j) = vp_V fs j) (hcells : cells + 1 ≤ R.cells) (hslots : slots + N ≤ R.slots) (hdg : decode cc pc = .ok (.new index, 3))
    (kk : ∀ (q : Nat) (H1 : Heap), va_P D cl (ws ++ [(q, .inr (ci, fs))]) H1 → va_D A (ws ++ [(q, .inr (ci, fs))]) → va_S A H0 H1 locs → (∃ cell : Cell, H1[q]? = some cell ∧ cell.monitor.owner = none ∧ cell.monitor.count = 0) →
      W p l e R s m args below meth c0 H1 locs (cells + 1) (slots + N) Q (F0 m (pc + 3) ls (.ref q :: rest))) : W p l e R s m args below meth c0 H locs cells slots Q (F0 m pc ls rest) := by
  have hKn := hK.1 ci _ hc
  refine W.newcK hexec hb hown hcl hinst hini rfl hdg hcells hslots hKn.2.1 rfl fun H1 kC hkC e1 z1 o1 => ?_
  have hold : va_P D cl ws H1 := hP.kept fun k x hx => o1 x.1 ((hP k x hx).lt)
  have hone : va_P D cl [(H.size, .inr (ci, fs))] H1 := by
    intro k x hx
    match k with
    | 0 => cases hx; exact ⟨_, hc, (u_born ty hts hin hKn hkC e1 hty).to hfs⟩
    | k + 1 => simp at hx
  exact kk H.size H1 (hold.app hone) (hD.push hP rfl (hA _ hS.1)) ⟨Nat.le_trans hS.1 (by omega), fun x h1 h2 => (o1 x (Nat.lt_of_lt_of_le h1 hS.1)).trans (hS.2.1 x h1 h2), hS.2.2⟩ ⟨_, e1, rfl, rfl⟩
section
variable {G : Gh} {μ : Mu} {d pc pc' : Nat} {ex : Option Nat} {Fr : List Nat} {L L' : List (Nat × Value)} {st : List Value} {h : AH} {Q : Outcome → AH → Prop}
theorem ref_same {s : State} {args : Array Value} {ref O n d : String} (hts : ∀ w ∈ lw_all, w.before args s = true) (hsm : ref = O ∨ Cond.sameField ref O n d ∈ lw_all) : ∀ x, s.fieldFound? O n d = some x → s.fieldFound? ref n d = some x := by
  rcases hsm with rfl | hsm
  · exact fun _ h => h
  · exact u_same (hts _ hsm)
theorem x_get {index a g t : Nat} {ref O n dd : String} {fin : Bool} (hd : decode (mC μ) pc = .ok (.getfield index, 3)) (hg : gtab g = (O, n, dd, fin)) (hw : Cond.fieldLink (mY μ).cls index ref n dd ∈ lw_all) (hsm : ref = O ∨ Cond.sameField ref O n dd ∈ lw_all) (hp : pc + 3 = pc') (hf : HF h a g t)
    (kk : X G μ d ex Fr pc' L (fval h a (g, t) :: st) h Q) : X G μ d ex Fr pc L (.ref a :: st) h Q := by
  subst hp
  intro l p e R s m args below meth c h0 H locs ls F hR hS hl h1 h2 hb
  obtain ⟨ci, hc, hka, hin⟩ := hf
  obtain ⟨dom, hm, hP, hD, hmo⟩ := id hR
  obtain ⟨q0, -, hq0⟩ := wl_at (G := G) (h := h) ((hm a).mpr (by omega))
  rw [ent_obj hc hka] at hq0
  obtain ⟨k, hk⟩ := List.getElem?_of_mem hin
  have hkl := (List.getElem?_eq_some_iff.mp hk).1
  have ek : ctab ci k = (O, n, dd, fin) := (ctab_at hk).trans hg
  refine va_get (C := cname ci) (T := ctab ci) (N := (ftab ci).length) (ref := ref) (index := index) (Ts := lw_all) F.1.1 F.1.2.1 F.1.2.2.2.2.2.1 (cl_words hc) F.1.2.2.2.2.1 F.2.1.1.1.1 hP q0 hq0 (cl_at hc) k hkl ?_ ?_ (flds_at hk) hd (kk l p e R s m args below meth c h0 H locs ls F hR hS hl h1 h2 hb)
  · rw [ek]; exact F.1.2.2.2.2.2.1 _ hw
  · rw [ek]; exact ref_same F.1.2.2.2.2.2.1 hsm
theorem x_getI {index a g : Nat} {ref O n dd : String} {fin : Bool} (hd : decode (mC μ) pc = .ok (.getfield index, 3)) (hg : gtab g = (O, n, dd, fin)) (hw : Cond.fieldLink (mY μ).cls index ref n dd ∈ lw_all) (hsm : ref = O ∨ Cond.sameField ref O n dd ∈ lw_all) (hp : pc + 3 = pc') (hf : HF h a g 0) (kk : X G μ d ex Fr pc' L (.int (fI h a g) :: st) h Q) : X G μ d ex Fr pc L (.ref a :: st) h Q := x_get hd hg hw hsm hp hf kk
theorem x_getZ {index a g : Nat} {ref O n dd : String} {fin : Bool} (hd : decode (mC μ) pc = .ok (.getfield index, 3)) (hg : gtab g = (O, n, dd, fin)) (hw : Cond.fieldLink (mY μ).cls index ref n dd ∈ lw_all) (hsm : ref = O ∨ Cond.sameField ref O n dd ∈ lw_all) (hp : pc + 3 = pc') (hf : HF h a g 3) (kk : X G μ d ex Fr pc' L (.int (fI h a g) :: st) h Q) : X G μ d ex Fr pc L (.ref a :: st) h Q := x_get hd hg hw hsm hp hf kk
theorem x_getJ {index a g : Nat} {ref O n dd : String} {fin : Bool} (hd : decode (mC μ) pc = .ok (.getfield index, 3)) (hg : gtab g = (O, n, dd, fin)) (hw : Cond.fieldLink (mY μ).cls index ref n dd ∈ lw_all) (hsm : ref = O ∨ Cond.sameField ref O n dd ∈ lw_all) (hp : pc + 3 = pc') (hf : HF h a g 1) (kk : X G μ d ex Fr pc' L (.long (fJ h a g) :: st) h Q) : X G μ d ex Fr pc L (.ref a :: st) h Q := x_get hd hg hw hsm hp hf kk
theorem x_getR {index a g : Nat} {ref O n dd : String} {fin : Bool} (hd : decode (mC μ) pc = .ok (.getfield index, 3)) (hg : gtab g = (O, n, dd, fin)) (hw : Cond.fieldLink (mY μ).cls index ref n dd ∈ lw_all) (hsm : ref = O ∨ Cond.sameField ref O n dd ∈ lw_all) (hp : pc + 3 = pc') (hf : HF h a g 2) {b : Nat} (hb : fR h a g = some b) (kk : X G μ d ex Fr pc' L (.ref b :: st) h Q) : X G μ d ex Fr pc L (.ref a :: st) h Q := x_get hd hg hw hsm hp hf (by show X G μ d ex Fr pc' L (va_rf (fR h a g) :: st) h Q; rw [hb]; exact kk)
theorem x_getN {index a g : Nat} {ref O n dd : String} {fin : Bool} (hd : decode (mC μ) pc = .ok (.getfield index, 3)) (hg : gtab g = (O, n, dd, fin)) (hw : Cond.fieldLink (mY μ).cls index ref n dd ∈ lw_all) (hsm : ref = O ∨ Cond.sameField ref O n dd ∈ lw_all) (hp : pc + 3 = pc') (hf : HF h a g 2) (hb : fR h a g = none) (kk : X G μ d ex Fr pc' L (.null :: st) h Q) : X G μ d ex Fr pc L (.ref a :: st) h Q := x_get hd hg hw hsm hp hf (by show X G μ d ex Fr pc' L (va_rf (fR h a g) :: st) h Q; rw [hb]; exact kk)
theorem x_put {index a g t : Nat} {ref O n dd : String} {fin : Bool} {v : Value} {h' : AH} (hd : decode (mC μ) pc = .ok (.putfield index, 3)) (hg : gtab g = (O, n, dd, fin)) (hw : Cond.fieldLink (mY μ).cls index ref n dd ∈ lw_all) (hsm : ref = O ∨ Cond.sameField ref O n dd ∈ lw_all) (hfin : fin = false ∨ (fin = true ∧ (mY μ).name = "<init>" ∧ O = (mY μ).cls ∧ ex = some a)) (hp : pc + 3 = pc') (hf : HF h a g t)
    (hn : kindOk (g, t) = true → narrow (gty g) v = v ∧ fits (gty g) v = true) (e1 : hK h' = hK h) (e2 : ∀ x, x ≠ a → ent G h' x = ent G h x) (e3 : fval h' a (g, t) = v) (e4 : ∀ q : Nat × Nat, q.1 ≠ g → fval h' a q = fval h a q) (e5 : hc h' = hc h) (e6 : hs h' = hs h) (e7 : Lm (gW G) (mM μ) h h' ex) (e8 : hN h' = none)
    (kk : X G μ d ex Fr pc' L st h' Q) : X G μ d ex Fr pc L (v :: .ref a :: st) h Q := by
  subst hp
  intro l p e R s m args below meth c h0 H locs ls F hR hS hl h1 h2 hb
  obtain ⟨ci, hci, hka, hin⟩ := hf
  obtain ⟨dom, hm, hP, hD, hmo⟩ := id hR
  obtain ⟨q0, hq1, hq0⟩ := wl_at (G := G) (h := h) ((hm a).mpr (by omega))
  rw [ent_obj hci hka] at hq0
  obtain ⟨k, hk⟩ := List.getElem?_of_mem hin
  have hkl := (List.getElem?_eq_some_iff.mp hk).1
  have ek : ctab ci k = (O, n, dd, fin) := (ctab_at hk).trans hg
  have hko := ftab_at hci hk
  have hE : ent G h' a = .inr (ci, (flds h a ci).set k v) := by
    rw [ent_obj hci (by rw [e1]; exact hka), flds_set hci hk e4, e3]
  have hpar : parseFieldDescriptor (ctab ci k).2.2.1 = some (gty g) := by
    have := cty_ok hci k hkl
    rw [List.getD, hk] at this
    exact this
  have kk' : ∀ (H1 : Heap) (locs1 : List Loc), va_P (gD G) cl ((wl G dom h).set q0 (a, .inr (ci, (flds h a ci).set k v))) H1 → va_D (gA G) ((wl G dom h).set q0 (a, .inr (ci, (flds h a ci).set k v))) → va_S (gA G) s.heap H1 locs1 → W p l e R s m args below meth c H1 locs1 (hc h - hc h0) (hs h - hs h0) (XQ G (mM μ) s below h0 ex Q) (F0 m (pc + 3) ls st) := by
    intro H1 locs1 hP1 hD1 hS1
    rw [← hE] at hP1 hD1
    have := kk l p e R s m args below meth c h0 H1 locs1 ls F (Rp.of_set hm hD hq1 e2 e1 hP1 hD1 (Mo.no e8)) hS1 hl (h1.tr e7) h2 (by unfold Bd; rw [e5, e6]; exact hb)
    rw [e5, e6] at this
    exact this
  rcases hfin with hfin | ⟨hfin, hini, hown, -⟩
  · exact va_put (C := cname ci) (T := ctab ci) (N := (ftab ci).length) (ref := ref) (index := index) (Ts := lw_all) F.1.1 F.1.2.1 F.1.2.2.2.2.2.1 (cl_words hci) (fun k => gty ((ftab ci).getD k (0, 0)).1) (cty_ok hci) (cl_nm hci) F.1.2.2.2.2.1 F.2.1.1.1.1 hP hD hS q0 hq0 (cl_at hci) k hkl (by rw [ek]; exact F.1.2.2.2.2.2.1 _ hw) (by rw [ek]; exact ref_same F.1.2.2.2.2.2.1 hsm) (by rw [ek]; exact hfin) hpar (hn hko).1 (hn hko).2 (by simpa [flds] using hkl) hd kk'
  · exact va_putF (C := cname ci) (T := ctab ci) (N := (ftab ci).length) (ref := ref) (index := index) (Ts := lw_all) F.1.1 F.1.2.1 F.1.2.2.2.2.2.1 (cl_words hci) (fun k => gty ((ftab ci).getD k (0, 0)).1) (cty_ok hci) (cl_nm hci) F.1.2.2.2.2.1 F.2.1.1.1.1 hP hD hS q0 hq0 (cl_at hci) k hkl (by rw [ek]; exact F.1.2.2.2.2.2.1 _ hw) (by rw [ek]; exact ref_same F.1.2.2.2.2.2.1 hsm) (by rw [ek]; exact hfin) (F.2.1.2.2.2.trans hini) (by rw [ek]; exact hown) hpar (hn hko).1 (hn hko).2 (by simpa [flds] using hkl) hd kk'
theorem x_putI {index a g : Nat} {ref O n dd : String} {fin : Bool} {v : Int32} (hd : decode (mC μ) pc = .ok (.putfield index, 3)) (hg : gtab g = (O, n, dd, fin)) (hw : Cond.fieldLink (mY μ).cls index ref n dd ∈ lw_all) (hsm : ref = O ∨ Cond.sameField ref O n dd ∈ lw_all) (hfin : fin = false ∨ (fin = true ∧ (mY μ).name = "<init>" ∧ O = (mY μ).cls ∧ ex = some a)) (hmk : (mM μ).testBit g = true ∨ ex = some a) (hp : pc + 3 = pc') (hf : HF h a g 0)  (kk : ∀ h', h' = pI h a g v → X G μ d ex Fr pc' L st h' Q) : X G μ d ex Fr pc L (.int v :: .ref a :: st) h Q := by
  refine x_put (h' := pI h a g v) hd hg hw hsm hfin hp hf (fun hk => ?_) rfl (fun x hx => ?_) ?_ (fun q hq => ?_) rfl rfl ?_ rfl (kk _ rfl)
  · rw [(gty_k hk).2.1 rfl]; exact ⟨rfl, rfl⟩
  · apply ent_other <;> first | rfl | (funext y; simp [pI, fI, fJ, fR, up2, hx])
  · simp [fval, pI, fI, fJ, fR, up2, va_rf]
  · simp [fval, pI, fI, fJ, fR, up2, hq]
  · exact pI_lm (by rw [gfin, hg]; exact hfin.imp id (fun q => q.2.2.2)) hmk
theorem x_putZ {index a g : Nat} {ref O n dd : String} {fin : Bool} {v : Int32} (hd : decode (mC μ) pc = .ok (.putfield index, 3)) (hg : gtab g = (O, n, dd, fin)) (hw : Cond.fieldLink (mY μ).cls index ref n dd ∈ lw_all) (hsm : ref = O ∨ Cond.sameField ref O n dd ∈ lw_all) (hfin : fin = false ∨ (fin = true ∧ (mY μ).name = "<init>" ∧ O = (mY μ).cls ∧ ex = some a)) (hmk : (mM μ).testBit g = true ∨ ex = some a) (hp : pc + 3 = pc') (hf : HF h a g 3) (hz : v = 0 ∨ v = 1) (kk : ∀ h', h' = pI h a g v → X G μ d ex Fr pc' L st h' Q) : X G μ d ex Fr pc L (.int v :: .ref a :: st) h Q := by
  refine x_put (h' := pI h a g v) hd hg hw hsm hfin hp hf (fun hk => ?_) rfl (fun x hx => ?_) ?_ (fun q hq => ?_) rfl rfl ?_ rfl (kk _ rfl)
  · rw [(gty_k hk).2.2.2.1 rfl]; rcases hz with rfl | rfl <;> exact ⟨by decide, by decide⟩
  · apply ent_other <;> first | rfl | (funext y; simp [pI, fI, fJ, fR, up2, hx])
  · simp [fval, pI, fI, fJ, fR, up2, va_rf]
  · simp [fval, pI, fI, fJ, fR, up2, hq]
  · exact pI_lm (by rw [gfin, hg]; exact hfin.imp id (fun q => q.2.2.2)) hmk
theorem x_putJ {index a g : Nat} {ref O n dd : String} {fin : Bool} {v : Int64} (hd : decode (mC μ) pc = .ok (.putfield index, 3)) (hg : gtab g = (O, n, dd, fin)) (hw : Cond.fieldLink (mY μ).cls index ref n dd ∈ lw_all) (hsm : ref = O ∨ Cond.sameField ref O n dd ∈ lw_all) (hfin : fin = false ∨ (fin = true ∧ (mY μ).name = "<init>" ∧ O = (mY μ).cls ∧ ex = some a)) (hmk : (mM μ).testBit g = true ∨ ex = some a) (hp : pc + 3 = pc') (hf : HF h a g 1)  (kk : ∀ h', h' = pJ h a g v → X G μ d ex Fr pc' L st h' Q) : X G μ d ex Fr pc L (.long v :: .ref a :: st) h Q := by
  refine x_put (h' := pJ h a g v) hd hg hw hsm hfin hp hf (fun hk => ?_) rfl (fun x hx => ?_) ?_ (fun q hq => ?_) rfl rfl ?_ rfl (kk _ rfl)
  · rw [(gty_k hk).2.2.1 rfl]; exact ⟨rfl, rfl⟩
  · apply ent_other <;> first | rfl | (funext y; simp [pJ, fI, fJ, fR, up2, hx])
  · simp [fval, pJ, fI, fJ, fR, up2, va_rf]
  · simp [fval, pJ, fI, fJ, fR, up2, hq]
  · exact pJ_lm (by rw [gfin, hg]; exact hfin.imp id (fun q => q.2.2.2)) hmk
theorem x_putR {index a g : Nat} {ref O n dd : String} {fin : Bool} {b : Nat} (hd : decode (mC μ) pc = .ok (.putfield index, 3)) (hg : gtab g = (O, n, dd, fin)) (hw : Cond.fieldLink (mY μ).cls index ref n dd ∈ lw_all) (hsm : ref = O ∨ Cond.sameField ref O n dd ∈ lw_all) (hfin : fin = false ∨ (fin = true ∧ (mY μ).name = "<init>" ∧ O = (mY μ).cls ∧ ex = some a)) (hmk : (mM μ).testBit g = true ∨ ex = some a) (hp : pc + 3 = pc') (hf : HF h a g 2)  (kk : ∀ h', h' = pR h a g (some b) → X G μ d ex Fr pc' L st h' Q) : X G μ d ex Fr pc L (.ref b :: .ref a :: st) h Q := by
  refine x_put (h' := pR h a g (some b)) hd hg hw hsm hfin hp hf (fun hk => ?_) rfl (fun x hx => ?_) ?_ (fun q hq => ?_) rfl rfl ?_ rfl (kk _ rfl)
  · exact fits_rf ((gty_k hk).2.2.2.2 rfl) (some b)
  · apply ent_other <;> first | rfl | (funext y; simp [pR, fI, fJ, fR, up2, hx])
  · simp [fval, pR, fI, fJ, fR, up2, va_rf]
  · simp [fval, pR, fI, fJ, fR, up2, hq]
  · exact pR_lm (by rw [gfin, hg]; exact hfin.imp id (fun q => q.2.2.2)) hmk
theorem x_putN {index a g : Nat} {ref O n dd : String} {fin : Bool}  (hd : decode (mC μ) pc = .ok (.putfield index, 3)) (hg : gtab g = (O, n, dd, fin)) (hw : Cond.fieldLink (mY μ).cls index ref n dd ∈ lw_all) (hsm : ref = O ∨ Cond.sameField ref O n dd ∈ lw_all) (hfin : fin = false ∨ (fin = true ∧ (mY μ).name = "<init>" ∧ O = (mY μ).cls ∧ ex = some a)) (hmk : (mM μ).testBit g = true ∨ ex = some a) (hp : pc + 3 = pc') (hf : HF h a g 2)  (kk : ∀ h', h' = pR h a g none → X G μ d ex Fr pc' L st h' Q) : X G μ d ex Fr pc L (.null :: .ref a :: st) h Q := by
  refine x_put (h' := pR h a g none) hd hg hw hsm hfin hp hf (fun hk => ?_) rfl (fun x hx => ?_) ?_ (fun q hq => ?_) rfl rfl ?_ rfl (kk _ rfl)
  · exact fits_rf ((gty_k hk).2.2.2.2 rfl) none
  · apply ent_other <;> first | rfl | (funext y; simp [pR, fI, fJ, fR, up2, hx])
  · simp [fval, pR, fI, fJ, fR, up2, va_rf]
  · simp [fval, pR, fI, fJ, fR, up2, hq]
  · exact pR_lm (by rw [gfin, hg]; exact hfin.imp id (fun q => q.2.2.2)) hmk
theorem gT_at {s : State} (hW : WS G s) {t : Nat} {ty : FieldType} (ht : tyL[t]? = some ty) : (gT G)[t]? = some (((gT G).getD t (0, .int)).1, ty) := by
  have hm := hW.1.2.1
  have e : ((gT G).map fun q => q.2)[t]? = some ty := by rw [hm]; exact ht
  rw [List.getElem?_map] at e
  cases hq : (gT G)[t]? with
  | none => rw [hq] at e; cases e
  | some q =>
    rw [hq] at e
    obtain ⟨q1, q2⟩ := q
    cases e
    simp [List.getD, hq]
theorem ent_arr {a t : Nat} (hk : hK h a = 1000 + t) : ent G h a = .inl (((gT G).getD t (0, .int)).1, hL h a, acon h a t) := by
  unfold ent
  rw [hk, if_neg (by omega), Nat.add_sub_cancel_left]
theorem x_iald {a : Nat} {i : Int32} (hd : decode (mC μ) pc = .ok (.iaload, 1)) (hp : pc + 1 = pc') (ha : hK h a = 1000) (hi : vp_in i (hL h a)) (kk : X G μ d ex Fr pc' L (.int (aI h a i.toNatClampNeg) :: st) h Q) : X G μ d ex Fr pc L (.int i :: .ref a :: st) h Q := by
  subst hp
  intro l p e R s m args below meth c h0 H locs ls F hR hS hl h1 h2 hb
  obtain ⟨dom, hm, hP, hD, hmo⟩ := id hR
  obtain ⟨q0, -, hq0⟩ := wl_at (G := G) (h := h) ((hm a).mpr (by omega))
  rw [ent_arr (t := 0) ha] at hq0
  exact va_iald F.1.1 F.1.2.1 F.2.1.1.1.1 hP q0 0 hq0 (gT_at F.2.1.1 rfl) hi hd (kk l p e R s m args below meth c h0 H locs ls F hR hS hl h1 h2 hb)
theorem x_bald {a : Nat} {i : Int32} (hd : decode (mC μ) pc = .ok (.baload, 1)) (hp : pc + 1 = pc') (ha : hK h a = 1001) (hi : vp_in i (hL h a)) (kk : X G μ d ex Fr pc' L (.int (aI h a i.toNatClampNeg) :: st) h Q) : X G μ d ex Fr pc L (.int i :: .ref a :: st) h Q := by
  subst hp
  intro l p e R s m args below meth c h0 H locs ls F hR hS hl h1 h2 hb
  obtain ⟨dom, hm, hP, hD, hmo⟩ := id hR
  obtain ⟨q0, -, hq0⟩ := wl_at (G := G) (h := h) ((hm a).mpr (by omega))
  rw [ent_arr (t := 1) ha] at hq0
  exact va_bald F.1.1 F.1.2.1 F.2.1.1.1.1 hP q0 1 hq0 (gT_at F.2.1.1 rfl) hi hd (kk l p e R s m args below meth c h0 H locs ls F hR hS hl h1 h2 hb)
theorem x_zald {a : Nat} {i : Int32} (hd : decode (mC μ) pc = .ok (.baload, 1)) (hp : pc + 1 = pc') (ha : hK h a = 1002) (hi : vp_in i (hL h a)) (kk : X G μ d ex Fr pc' L (.int (aI h a i.toNatClampNeg) :: st) h Q) : X G μ d ex Fr pc L (.int i :: .ref a :: st) h Q := by
  subst hp
  intro l p e R s m args below meth c h0 H locs ls F hR hS hl h1 h2 hb
  obtain ⟨dom, hm, hP, hD, hmo⟩ := id hR
  obtain ⟨q0, -, hq0⟩ := wl_at (G := G) (h := h) ((hm a).mpr (by omega))
  rw [ent_arr (t := 2) ha] at hq0
  exact va_zald F.1.1 F.1.2.1 F.2.1.1.1.1 hP q0 2 hq0 (gT_at F.2.1.1 rfl) hi hd (kk l p e R s m args below meth c h0 H locs ls F hR hS hl h1 h2 hb)
theorem x_lald {a : Nat} {i : Int32} (hd : decode (mC μ) pc = .ok (.laload, 1)) (hp : pc + 1 = pc') (ha : hK h a = 1003) (hi : vp_in i (hL h a)) (kk : X G μ d ex Fr pc' L (.long (aJ h a i.toNatClampNeg) :: st) h Q) : X G μ d ex Fr pc L (.int i :: .ref a :: st) h Q := by
  subst hp
  intro l p e R s m args below meth c h0 H locs ls F hR hS hl h1 h2 hb
  obtain ⟨dom, hm, hP, hD, hmo⟩ := id hR
  obtain ⟨q0, -, hq0⟩ := wl_at (G := G) (h := h) ((hm a).mpr (by omega))
  rw [ent_arr (t := 3) ha] at hq0
  exact va_lald F.1.1 F.1.2.1 F.2.1.1.1.1 hP q0 3 hq0 (gT_at F.2.1.1 rfl) hi hd (kk l p e R s m args below meth c h0 H locs ls F hR hS hl h1 h2 hb)
theorem x_aaldq {a t : Nat} {C : String} {i : Int32} (hd : decode (mC μ) pc = .ok (.aaload, 1)) (hp : pc + 1 = pc') (ht : 4 ≤ t) (hC : tyL[t]? = some (.object C)) (ha : hK h a = 1000 + t) (hi : vp_in i (hL h a)) (kk : X G μ d ex Fr pc' L (va_rf (aR h a i.toNatClampNeg) :: st) h Q) : X G μ d ex Fr pc L (.int i :: .ref a :: st) h Q := by
  subst hp
  intro l p e R s m args below meth c h0 H locs ls F hR hS hl h1 h2 hb
  obtain ⟨dom, hm, hP, hD, hmo⟩ := id hR
  obtain ⟨q0, -, hq0⟩ := wl_at (G := G) (h := h) ((hm a).mpr (by omega))
  rw [ent_arr ha, show acon h a t = .inr (.inr (.inr (.inr (aR h a)))) by unfold acon; rw [if_neg (by omega), if_neg (by omega)]] at hq0
  exact va_aldq F.1.1 F.1.2.1 F.2.1.1.1.1 hP q0 t hq0 (gT_at F.2.1.1 hC) hi hd (kk l p e R s m args below meth c h0 H locs ls F hR hS hl h1 h2 hb)
theorem x_aald {a t b : Nat} {C : String} {i : Int32} (hd : decode (mC μ) pc = .ok (.aaload, 1)) (hp : pc + 1 = pc') (ht : 4 ≤ t) (hC : tyL[t]? = some (.object C)) (ha : hK h a = 1000 + t) (hi : vp_in i (hL h a)) (hb : aR h a i.toNatClampNeg = some b) (kk : X G μ d ex Fr pc' L (.ref b :: st) h Q) : X G μ d ex Fr pc L (.int i :: .ref a :: st) h Q := x_aaldq hd hp ht hC ha hi (by rw [hb]; exact kk)
theorem x_aaldN {a t : Nat} {C : String} {i : Int32} (hd : decode (mC μ) pc = .ok (.aaload, 1)) (hp : pc + 1 = pc') (ht : 4 ≤ t) (hC : tyL[t]? = some (.object C)) (ha : hK h a = 1000 + t) (hi : vp_in i (hL h a)) (hb : aR h a i.toNatClampNeg = none) (kk : X G μ d ex Fr pc' L (.null :: st) h Q) : X G μ d ex Fr pc L (.int i :: .ref a :: st) h Q := x_aaldq hd hp ht hC ha hi (by rw [hb]; exact kk)
theorem x_alen {a t : Nat} {ty : FieldType} (hd : decode (mC μ) pc = .ok (.arraylength, 1)) (hp : pc + 1 = pc') (hC : tyL[t]? = some ty) (ha : hK h a = 1000 + t) (kk : X G μ d ex Fr pc' L (.int (Int32.ofNat (hL h a)) :: st) h Q) : X G μ d ex Fr pc L (.ref a :: st) h Q := by
  subst hp
  intro l p e R s m args below meth c h0 H locs ls F hR hS hl h1 h2 hb
  obtain ⟨dom, hm, hP, hD, hmo⟩ := id hR
  obtain ⟨q0, -, hq0⟩ := wl_at (G := G) (h := h) ((hm a).mpr (by omega))
  rw [ent_arr ha] at hq0
  exact va_alen F.1.1 F.1.2.1 F.2.1.1.1.1 hP q0 t hq0 (gT_at F.2.1.1 hC) rfl hd (kk l p e R s m args below meth c h0 H locs ls F hR hS hl h1 h2 hb)
theorem x_iast {a : Nat} {i : Int32} {x : Int32} (hd : decode (mC μ) pc = .ok (.iastore, 1)) (hp : pc + 1 = pc') (ha : hK h a = 1000) (hk : Sk (gW G) (mM μ) a 0) (hi : vp_in i (hL h a)) (kk : ∀ h', h' = sI h a i.toNatClampNeg x → X G μ d ex Fr pc' L st h' Q) : X G μ d ex Fr pc L (.int x :: .int i :: .ref a :: st) h Q := by
  subst hp
  intro l p e R s m args below meth c h0 H locs ls F hR hS hl h1 h2 hb
  obtain ⟨dom, hm, hP, hD, hmo⟩ := id hR
  obtain ⟨q0, hq1, hq0⟩ := wl_at (G := G) (h := h) ((hm a).mpr (by omega))
  have hq2 := hq0
  rw [ent_arr (t := 0) ha] at hq2
  refine va_iast F.1.1 F.1.2.1 F.2.1.1.1.1 hP hD hS q0 0 hq2 (gT_at F.2.1.1 rfl) hi hd (fun H1 locs1 hP1 hD1 hS1 => ?_)
  have hE : ent G (sI h a i.toNatClampNeg x) a = .inl (((gT G).getD 0 (0, .int)).1, hL h a, .inl (upd (aI h a) i.toNatClampNeg x)) := by
    rw [ent_arr (t := 0) (by exact ha)]
    have e0 : up2 (aI h) a i.toNatClampNeg x a = upd (aI h a) i.toNatClampNeg x := by funext y; simp [up2, upd, vp_updL]
    show (Sum.inl (((gT G).getD 0 (0, .int)).1, hL h a, .inl (up2 (aI h) a i.toNatClampNeg x a)) : va_E) = _
    rw [e0]
  rw [← hE] at hP1 hD1
  exact kk _ rfl l p e R s m args below meth c h0 H1 locs1 ls F (Rp.of_set (h' := sI h a i.toNatClampNeg x) hm hD hq1 (fun x hx => by apply ent_other <;> first | rfl | (funext y; simp [sI, aI, aJ, aR, up2, hx])) rfl hP1 hD1 (Mo.no rfl)) hS1 hl (h1.tr (sI_lm (t := 0) ha hk)) h2 hb
theorem x_bast {a : Nat} {i : Int32} {x : Int32} (hd : decode (mC μ) pc = .ok (.bastore, 1)) (hp : pc + 1 = pc') (ha : hK h a = 1001) (hk : Sk (gW G) (mM μ) a 1) (hi : vp_in i (hL h a)) (kk : ∀ h', h' = sI h a i.toNatClampNeg (vp_nar .byte x) → X G μ d ex Fr pc' L st h' Q) : X G μ d ex Fr pc L (.int x :: .int i :: .ref a :: st) h Q := by
  subst hp
  intro l p e R s m args below meth c h0 H locs ls F hR hS hl h1 h2 hb
  obtain ⟨dom, hm, hP, hD, hmo⟩ := id hR
  obtain ⟨q0, hq1, hq0⟩ := wl_at (G := G) (h := h) ((hm a).mpr (by omega))
  have hq2 := hq0
  rw [ent_arr (t := 1) ha] at hq2
  refine va_bast F.1.1 F.1.2.1 F.2.1.1.1.1 hP hD hS q0 1 hq2 (gT_at F.2.1.1 rfl) hi hd (fun H1 locs1 hP1 hD1 hS1 => ?_)
  have hE : ent G (sI h a i.toNatClampNeg (vp_nar .byte x)) a = .inl (((gT G).getD 1 (0, .int)).1, hL h a, .inl (upd (aI h a) i.toNatClampNeg (vp_nar .byte x))) := by
    rw [ent_arr (t := 1) (by exact ha)]
    have e0 : up2 (aI h) a i.toNatClampNeg (vp_nar .byte x) a = upd (aI h a) i.toNatClampNeg (vp_nar .byte x) := by funext y; simp [up2, upd, vp_updL]
    show (Sum.inl (((gT G).getD 1 (0, .int)).1, hL h a, .inl (up2 (aI h) a i.toNatClampNeg (vp_nar .byte x) a)) : va_E) = _
    rw [e0]
  rw [← hE] at hP1 hD1
  exact kk _ rfl l p e R s m args below meth c h0 H1 locs1 ls F (Rp.of_set (h' := sI h a i.toNatClampNeg (vp_nar .byte x)) hm hD hq1 (fun x hx => by apply ent_other <;> first | rfl | (funext y; simp [sI, aI, aJ, aR, up2, hx])) rfl hP1 hD1 (Mo.no rfl)) hS1 hl (h1.tr (sI_lm (t := 1) ha hk)) h2 hb
theorem x_zast {a : Nat} {i : Int32} {x : Int32} (hd : decode (mC μ) pc = .ok (.bastore, 1)) (hp : pc + 1 = pc') (ha : hK h a = 1002) (hk : Sk (gW G) (mM μ) a 2) (hi : vp_in i (hL h a)) (kk : ∀ h', h' = sI h a i.toNatClampNeg (vp_nar .boolean x) → X G μ d ex Fr pc' L st h' Q) : X G μ d ex Fr pc L (.int x :: .int i :: .ref a :: st) h Q := by
  subst hp
  intro l p e R s m args below meth c h0 H locs ls F hR hS hl h1 h2 hb
  obtain ⟨dom, hm, hP, hD, hmo⟩ := id hR
  obtain ⟨q0, hq1, hq0⟩ := wl_at (G := G) (h := h) ((hm a).mpr (by omega))
  have hq2 := hq0
  rw [ent_arr (t := 2) ha] at hq2
  refine va_zast F.1.1 F.1.2.1 F.2.1.1.1.1 hP hD hS q0 2 hq2 (gT_at F.2.1.1 rfl) hi hd (fun H1 locs1 hP1 hD1 hS1 => ?_)
  have hE : ent G (sI h a i.toNatClampNeg (vp_nar .boolean x)) a = .inl (((gT G).getD 2 (0, .int)).1, hL h a, .inl (upd (aI h a) i.toNatClampNeg (vp_nar .boolean x))) := by
    rw [ent_arr (t := 2) (by exact ha)]
    have e0 : up2 (aI h) a i.toNatClampNeg (vp_nar .boolean x) a = upd (aI h a) i.toNatClampNeg (vp_nar .boolean x) := by funext y; simp [up2, upd, vp_updL]
    show (Sum.inl (((gT G).getD 2 (0, .int)).1, hL h a, .inl (up2 (aI h) a i.toNatClampNeg (vp_nar .boolean x) a)) : va_E) = _
    rw [e0]
  rw [← hE] at hP1 hD1
  exact kk _ rfl l p e R s m args below meth c h0 H1 locs1 ls F (Rp.of_set (h' := sI h a i.toNatClampNeg (vp_nar .boolean x)) hm hD hq1 (fun x hx => by apply ent_other <;> first | rfl | (funext y; simp [sI, aI, aJ, aR, up2, hx])) rfl hP1 hD1 (Mo.no rfl)) hS1 hl (h1.tr (sI_lm (t := 2) ha hk)) h2 hb
theorem x_last {a : Nat} {i : Int32} {x : Int64} (hd : decode (mC μ) pc = .ok (.lastore, 1)) (hp : pc + 1 = pc') (ha : hK h a = 1003) (hk : Sk (gW G) (mM μ) a 3) (hi : vp_in i (hL h a)) (kk : ∀ h', h' = sJ h a i.toNatClampNeg x → X G μ d ex Fr pc' L st h' Q) : X G μ d ex Fr pc L (.long x :: .int i :: .ref a :: st) h Q := by
  subst hp
  intro l p e R s m args below meth c h0 H locs ls F hR hS hl h1 h2 hb
  obtain ⟨dom, hm, hP, hD, hmo⟩ := id hR
  obtain ⟨q0, hq1, hq0⟩ := wl_at (G := G) (h := h) ((hm a).mpr (by omega))
  have hq2 := hq0
  rw [ent_arr (t := 3) ha] at hq2
  refine va_last F.1.1 F.1.2.1 F.2.1.1.1.1 hP hD hS q0 3 hq2 (gT_at F.2.1.1 rfl) hi hd (fun H1 locs1 hP1 hD1 hS1 => ?_)
  have hE : ent G (sJ h a i.toNatClampNeg x) a = .inl (((gT G).getD 3 (0, .int)).1, hL h a, .inr (.inl (vp_updL (aJ h a) i.toNatClampNeg x))) := by
    rw [ent_arr (t := 3) (by exact ha)]
    have e0 : up2 (aJ h) a i.toNatClampNeg x a = vp_updL (aJ h a) i.toNatClampNeg x := by funext y; simp [up2, upd, vp_updL]
    show (Sum.inl (((gT G).getD 3 (0, .int)).1, hL h a, .inr (.inl (up2 (aJ h) a i.toNatClampNeg x a))) : va_E) = _
    rw [e0]
  rw [← hE] at hP1 hD1
  exact kk _ rfl l p e R s m args below meth c h0 H1 locs1 ls F (Rp.of_set (h' := sJ h a i.toNatClampNeg x) hm hD hq1 (fun x hx => by apply ent_other <;> first | rfl | (funext y; simp [sJ, aI, aJ, aR, up2, hx])) rfl hP1 hD1 (Mo.no rfl)) hS1 hl (h1.tr (sJ_lm (t := 3) ha hk)) h2 hb
/-- the value v may be kept in an array of the t-th type -/
def AOK (G : Gh) (h : AH) (v t : Nat) (E : String) : Prop := (∃ k, k < 56 ∧ hK h v = k + 1 ∧ (cname k = E ∨ (cname k, E) ∈ castL)) ∨ (t = 5 ∧ ∃ i, i < slen.length ∧ v = G.2.2.2.1 i)
theorem AOK.any {s : State} {H : Heap} {locs : List Loc} {v t : Nat} {E : String} (hE : t = 5 → E = "java/lang/String") (hW : WS G s) (hR : Rp G h H) (hS : va_S (gA G) s.heap H locs) (ha : AOK G h v t E) : va_Any E s H v := by
  rcases ha with ⟨k, hk, hv, hc⟩ | ⟨ht, i, hi, rfl⟩
  · obtain ⟨cell, g1, g2, g3⟩ := rp_recv hR hW hk hv
    obtain ⟨kC, hkC, hq⟩ := Vm.findClass_spec g3
    refine ⟨cell, g1, g2, ⟨kC, hkC⟩, fun comp hcomp => ?_⟩
    rcases hc with rfl | hc
    · cases g3.symm.trans hcomp
      have hK := (hW.1.1.1 k _ (cl_at hk)).2
      have := va_assign hK
      have e : (gD G).1 k = cell.cls := Option.some.inj (hK.1.symm.trans g3)
      rw [e] at this
      exact this
    · obtain ⟨c0, t0, f1, f2, f3⟩ := Cond.castable_spec (va_Nw.use (A := #[]) rfl (hW.2.1.1 _ hc))
      cases g3.symm.trans f1
      cases hcomp.symm.trans f2
      exact f3
  · obtain ⟨⟨cell, q1, q2, q3, q4⟩, -⟩ := hW.2.2.1.1.1 i hi
    obtain ⟨kC, hkC, -⟩ := Vm.findClass_spec q3
    have hlt : G.2.2.2.1 i < s.heap.size := (Array.getElem?_eq_some_iff.mp q1).1
    refine ⟨cell, (hS.2.1 _ hlt q4).trans q1, q2, ⟨kC, hkC⟩, fun comp hcomp => ?_⟩
    rw [hE ht, q3] at hcomp
    cases hcomp
    show s.vm.assignableAux (255 + 1) _ _ = true
    rw [Vm.assignableAux, Bool.or_eq_true, beq_iff_eq]
    exact Or.inl rfl
theorem x_aast {a t v : Nat} {E : String} {i : Int32} (hd : decode (mC μ) pc = .ok (.aastore, 1)) (hp : pc + 1 = pc') (ht : 4 ≤ t) (hC : tyL[t]? = some (.object E)) (hE : t = 5 → E = "java/lang/String") (ha : hK h a = 1000 + t) (hk : Sk (gW G) (mM μ) a t) (hi : vp_in i (hL h a)) (hv : AOK G h v t E) (kk : ∀ h', h' = sR h a i.toNatClampNeg (some v) → X G μ d ex Fr pc' L st h' Q) : X G μ d ex Fr pc L (.ref v :: .int i :: .ref a :: st) h Q := by
  subst hp
  intro l p e R s m args below meth c h0 H locs ls F hR hS hl h1 h2 hb
  obtain ⟨dom, hm, hP, hD, hmo⟩ := id hR
  obtain ⟨q0, hq1, hq0⟩ := wl_at (G := G) (h := h) ((hm a).mpr (by omega))
  have hq2 := hq0
  have ec : ∀ h : AH, acon h a t = .inr (.inr (.inr (.inr (aR h a)))) := fun h => by unfold acon; rw [if_neg (by omega), if_neg (by omega)]
  rw [ent_arr ha, ec] at hq2
  refine va_astqM F.1.1 F.1.2.1 F.2.1.1.1.1 hP hD hS q0 t hq2 (gT_at F.2.1.1 hC) (AOK.any hE F.2.1.1 hR hS hv) hi hd (fun H1 locs1 hP1 hD1 hS1 => ?_)
  have hE' : ent G (sR h a i.toNatClampNeg (some v)) a = .inl (((gT G).getD t (0, .int)).1, hL h a, .inr (.inr (.inr (.inr (va_up (aR h a) i.toNatClampNeg (some v)))))) := by
    rw [ent_arr (t := t) (by exact ha), ec]
    have e0 : aR (sR h a i.toNatClampNeg (some v)) a = va_up (aR h a) i.toNatClampNeg (some v) := by funext y; simp [sR, aR, up2, va_up]
    rw [e0]
    rfl
  rw [← hE'] at hP1 hD1
  exact kk _ rfl l p e R s m args below meth c h0 H1 locs1 ls F (Rp.of_set (h' := sR h a i.toNatClampNeg (some v)) hm hD hq1 (fun x hx => by apply ent_other <;> first | rfl | (funext y; simp [sR, aR, up2, hx])) rfl hP1 hD1 (Mo.no rfl)) hS1 hl (h1.tr (sR_lm ha hk)) h2 hb
theorem x_new {index k : Nat} (hd : decode (mC μ) pc = .ok (.new index, 3)) (hw : Cond.classLink (mY μ).cls index (cname k) ∈ lw_all) (hk : k < 56) (hp : pc + 3 = pc') (hA : (mM μ).testBit 399 = true) (hm1 : hc h + 1 ≤ MC) (hm2 : hs h + (ftab k).length ≤ MS) (kk : ∀ q h', hK h q = 0 → h' = nO h q k → X G μ d ex (q :: Fr) pc' L (.ref q :: st) h' Q) : X G μ d ex Fr pc L st h Q := by
  subst hp
  intro l p e R s m args below meth c h0 H locs ls F hR hS hl h1 h2 hb
  obtain ⟨dom, hm, hP, hD, hmo⟩ := id hR
  have r3 := F.2.2.2.2.1
  have r4 := F.2.2.2.2.2
  have t1 := h1.1.1.1
  have t2 := h1.1.1.2
  have hfs : ∀ (h : AH) (q : Nat), fI h q = (fun _ => 0) → fJ h q = (fun _ => 0) → fR h q = (fun _ => none) → ∀ j, j < (ftab k).length → defaultValue (gty ((ftab k).getD j (0, 0)).1) = vp_V (flds h q k) j := by
    intro h q z1 z2 z3 j hj
    have e : (ftab k)[j]? = some (ftab k)[j] := List.getElem?_eq_getElem hj
    rcases hq : (ftab k)[j] with ⟨g, t⟩
    rw [hq] at e
    have hv : vp_V (flds h q k) j = fval h q (g, t) := by simp [vp_V, List.getD, flds_at e]
    obtain ⟨-, b0, b1, b3, b2⟩ := gty_k (ftab_at hk e)
    rw [List.getD, e, hv]
    show defaultValue (gty g) = _
    unfold fval
    rw [z1, z2, z3]
    have hko := ftab_at hk e
    simp only [kindOk, Bool.and_eq_true] at hko
    by_cases t0 : t = 0
    · subst t0; rw [b0 rfl]; rfl
    · by_cases t1 : t = 1
      · subst t1; rw [b1 rfl]; rfl
      · by_cases t3 : t = 3
        · subst t3; rw [b3 rfl]; rfl
        · by_cases t2 : t = 2
          · subst t2
            have := b2 rfl
            cases hg : gty g <;> rw [hg] at this <;> simp [FieldType.isReference] at this <;> rfl
          · simp [t0, t1, t2, t3] at hko
  have key : ∀ q : Nat, flds (nO h q k) q k = flds (nO ((fun _ => 0), (fun _ => 0), (fun _ _ => 0), (fun _ _ => 0), (fun _ _ => none), (fun _ _ => 0), (fun _ _ => 0), (fun _ _ => none), 0, 0, none) 0 k) 0 k := by
    intro q
    unfold flds
    apply List.map_congr_left
    intro x _
    simp [fval, nO, fI, fJ, fR, upr]
  refine nw_new (ci := k) (fs := flds (nO ((fun _ => 0), (fun _ => 0), (fun _ _ => 0), (fun _ _ => 0), (fun _ _ => none), (fun _ _ => 0), (fun _ _ => 0), (fun _ _ => none), 0, 0, none) 0 k) 0 k) (C := cname k) (T := ctab k) (N := (ftab k).length) (Ts := lw_all) F.1.1 F.1.2.1 F.1.2.2.2.2.2.1 (cl_words hk) (fun j => gty ((ftab k).getD j (0, 0)).1) (cty_ok hk) F.1.2.2.2.2.1 (F.1.2.2.2.2.2.1 _ hw) (F.1.2.2.2.2.2.1 _ (cl_inst hk)) (F.1.2.2.2.2.2.1 _ (cl_init hk)) F.2.1.1.1.1 hP hD hS (fun q hq => Nat.le_trans F.2.1.1.1.2.2 hq) (cl_at hk) (hfs _ _ (by funext y; simp [nO, fI, upr]) (by funext y; simp [nO, fJ, upr]) (by funext y; simp [nO, fR, upr])) (by omega) (by omega) hd (fun q H1 hP1 hD1 hS1 hfr => ?_)
  have hE : ent G (nO h q k) q = .inr (k, flds (nO h q k) q k) := ent_obj hk (by simp [nO, hK, up1])
  rw [← key q, ← hE] at hP1 hD1
  obtain ⟨hR1, hq0⟩ := Rp.of_push (h' := nO h q k) hm (by simp [nO, hK, up1]) (fun x hx => by simp [nO, hK, up1, hx]) (fun x hx => by apply ent_other <;> first | rfl | (funext y; simp [nO, fI, fJ, fR, upr, hx]) | simp [nO, hK, up1, hx]) hP1 hD1 (fun x hx => by cases hx; exact hfr)
  have := kk q _ hq0 rfl l p e R s m args below meth c h0 H1 locs ls F hR1 hS1 hl (h1.tr (nO_lm hA hq0)) (fun x hx => (List.mem_cons.mp hx).elim (fun z => by rw [z]; exact h1.fresh hq0) (h2 x)) ⟨hm1, hm2⟩
  have e1 : hc (nO h q k) - hc h0 = hc h - hc h0 + 1 := by show hc h + 1 - hc h0 = _; have := h1.1.1.1; omega
  have e2 : hs (nO h q k) - hs h0 = hs h - hs h0 + (ftab k).length := by show hs h + _ - hs h0 = _; have := h1.1.1.2; omega
  rw [e1, e2] at this
  exact this
theorem x_newa0 {n : Int32} (hd : decode (mC μ) pc = .ok (.newarray .int, 2)) (hp : pc + 2 = pc') (hn : ¬ n < 0) (hA : (mM μ).testBit 399 = true) (hm1 : hc h + 1 ≤ MC) (hm2 : hs h + n.toNatClampNeg ≤ MS) (kk : ∀ q h', hK h q = 0 → h' = nA h q 0 n.toNatClampNeg → X G μ d ex (q :: Fr) pc' L (.ref q :: st) h' Q) : X G μ d ex Fr pc L (.int n :: st) h Q := by
  subst hp
  intro l p e R s m args below meth c h0 H locs ls F hR hS hl h1 h2 hb
  obtain ⟨dom, hm, hP, hD, hmo⟩ := id hR
  have r3 := F.2.2.2.2.1
  have r4 := F.2.2.2.2.2
  have t1 := h1.1.1.1
  have t2 := h1.1.1.2
  refine va_newa (atype := .int) (N' := n.toNatClampNeg) (a0 := (n.toNatClampNeg, .inl (fun _ => 0))) F.1.1 F.1.2.1 (F.1.2.2.2.2.2.1 _ q360) (ty := .int) rfl F.2.1.1.1.1 hP hD hS (fun q hq => Nat.le_trans F.2.1.1.1.2.2 hq) (fun cA => rfl) hn rfl (by show _ * 4 ≤ _; unfold MS at hm2; omega) (by omega) (by omega) hd (fun q cA H1 hK1 hP1 hD1 hS1 => ?_)
  have hcA : cA = ((gT G).getD 0 (0, .int)).1 := by
    have a1 := (hK1.2 (gT G).length (cA, .int) (by simp)).2
    have a2 := (F.2.1.1.1.1.2 0 _ (gT_at F.2.1.1 (t := 0) rfl)).2
    exact Option.some.inj (a1.symm.trans a2)
  subst hcA
  have hE : ent G (nA h q 0 n.toNatClampNeg) q = .inl (((gT G).getD 0 (0, .int)).1, n.toNatClampNeg, .inl (fun _ => 0)) := by
    rw [ent_arr (t := 0) (by simp [nA, hK, up1])]
    have z1 : hL (nA h q 0 n.toNatClampNeg) q = n.toNatClampNeg := by simp [nA, hL, up1]
    have z2 : acon (nA h q 0 n.toNatClampNeg) q 0 = .inl (fun _ => 0) := by
      show Sum.inl (aI (nA h q 0 n.toNatClampNeg) q) = _
      congr 1
      funext y
      simp [nA, aI, aJ, upr]
    rw [z1, z2]
  rw [← hE] at hP1 hD1
  obtain ⟨hR1, hq0⟩ := Rp.of_push (h' := nA h q 0 n.toNatClampNeg) hm (by simp [nA, hK, up1]) (fun x hx => by simp [nA, hK, up1, hx]) (fun x hx => by apply ent_other <;> first | rfl | (funext y; simp [nA, aI, aJ, aR, upr, hx]) | simp [nA, hK, hL, up1, hx]) hP1 hD1 (Mo.no rfl)
  have := kk q _ hq0 rfl l p e R s m args below meth c h0 H1 locs ls F hR1 hS1 hl (h1.tr (nA_lm hA hq0)) (fun x hx => (List.mem_cons.mp hx).elim (fun z => by rw [z]; exact h1.fresh hq0) (h2 x)) ⟨hm1, hm2⟩
  have e1 : hc (nA h q 0 n.toNatClampNeg) - hc h0 = hc h - hc h0 + 1 := by show hc h + 1 - hc h0 = _; have := h1.1.1.1; omega
  have e2 : hs (nA h q 0 n.toNatClampNeg) - hs h0 = hs h - hs h0 + n.toNatClampNeg := by show hs h + _ - hs h0 = _; have := h1.1.1.2; omega
  rw [e1, e2] at this
  exact this
theorem x_newa1 {n : Int32} (hd : decode (mC μ) pc = .ok (.newarray .byte, 2)) (hp : pc + 2 = pc') (hn : ¬ n < 0) (hA : (mM μ).testBit 399 = true) (hm1 : hc h + 1 ≤ MC) (hm2 : hs h + n.toNatClampNeg ≤ MS) (kk : ∀ q h', hK h q = 0 → h' = nA h q 1 n.toNatClampNeg → X G μ d ex (q :: Fr) pc' L (.ref q :: st) h' Q) : X G μ d ex Fr pc L (.int n :: st) h Q := by
  subst hp
  intro l p e R s m args below meth c h0 H locs ls F hR hS hl h1 h2 hb
  obtain ⟨dom, hm, hP, hD, hmo⟩ := id hR
  have r3 := F.2.2.2.2.1
  have r4 := F.2.2.2.2.2
  have t1 := h1.1.1.1
  have t2 := h1.1.1.2
  refine va_newa (atype := .byte) (N' := n.toNatClampNeg) (a0 := (n.toNatClampNeg, .inl (fun _ => 0))) F.1.1 F.1.2.1 (F.1.2.2.2.2.2.1 _ q359) (ty := .byte) rfl F.2.1.1.1.1 hP hD hS (fun q hq => Nat.le_trans F.2.1.1.1.2.2 hq) (fun cA => rfl) hn rfl (by show _ * 1 ≤ _; unfold MS at hm2; omega) (by omega) (by omega) hd (fun q cA H1 hK1 hP1 hD1 hS1 => ?_)
  have hcA : cA = ((gT G).getD 1 (0, .int)).1 := by
    have a1 := (hK1.2 (gT G).length (cA, .byte) (by simp)).2
    have a2 := (F.2.1.1.1.1.2 1 _ (gT_at F.2.1.1 (t := 1) rfl)).2
    exact Option.some.inj (a1.symm.trans a2)
  subst hcA
  have hE : ent G (nA h q 1 n.toNatClampNeg) q = .inl (((gT G).getD 1 (0, .int)).1, n.toNatClampNeg, .inl (fun _ => 0)) := by
    rw [ent_arr (t := 1) (by simp [nA, hK, up1])]
    have z1 : hL (nA h q 1 n.toNatClampNeg) q = n.toNatClampNeg := by simp [nA, hL, up1]
    have z2 : acon (nA h q 1 n.toNatClampNeg) q 1 = .inl (fun _ => 0) := by
      show Sum.inl (aI (nA h q 1 n.toNatClampNeg) q) = _
      congr 1
      funext y
      simp [nA, aI, aJ, upr]
    rw [z1, z2]
  rw [← hE] at hP1 hD1
  obtain ⟨hR1, hq0⟩ := Rp.of_push (h' := nA h q 1 n.toNatClampNeg) hm (by simp [nA, hK, up1]) (fun x hx => by simp [nA, hK, up1, hx]) (fun x hx => by apply ent_other <;> first | rfl | (funext y; simp [nA, aI, aJ, aR, upr, hx]) | simp [nA, hK, hL, up1, hx]) hP1 hD1 (Mo.no rfl)
  have := kk q _ hq0 rfl l p e R s m args below meth c h0 H1 locs ls F hR1 hS1 hl (h1.tr (nA_lm hA hq0)) (fun x hx => (List.mem_cons.mp hx).elim (fun z => by rw [z]; exact h1.fresh hq0) (h2 x)) ⟨hm1, hm2⟩
  have e1 : hc (nA h q 1 n.toNatClampNeg) - hc h0 = hc h - hc h0 + 1 := by show hc h + 1 - hc h0 = _; have := h1.1.1.1; omega
  have e2 : hs (nA h q 1 n.toNatClampNeg) - hs h0 = hs h - hs h0 + n.toNatClampNeg := by show hs h + _ - hs h0 = _; have := h1.1.1.2; omega
  rw [e1, e2] at this
  exact this
theorem x_newa2 {n : Int32} (hd : decode (mC μ) pc = .ok (.newarray .boolean, 2)) (hp : pc + 2 = pc') (hn : ¬ n < 0) (hA : (mM μ).testBit 399 = true) (hm1 : hc h + 1 ≤ MC) (hm2 : hs h + n.toNatClampNeg ≤ MS) (kk : ∀ q h', hK h q = 0 → h' = nA h q 2 n.toNatClampNeg → X G μ d ex (q :: Fr) pc' L (.ref q :: st) h' Q) : X G μ d ex Fr pc L (.int n :: st) h Q := by
  subst hp
  intro l p e R s m args below meth c h0 H locs ls F hR hS hl h1 h2 hb
  obtain ⟨dom, hm, hP, hD, hmo⟩ := id hR
  have r3 := F.2.2.2.2.1
  have r4 := F.2.2.2.2.2
  have t1 := h1.1.1.1
  have t2 := h1.1.1.2
  refine va_newa (atype := .boolean) (N' := n.toNatClampNeg) (a0 := (n.toNatClampNeg, .inl (fun _ => 0))) F.1.1 F.1.2.1 (F.1.2.2.2.2.2.1 _ q4531) (ty := .boolean) rfl F.2.1.1.1.1 hP hD hS (fun q hq => Nat.le_trans F.2.1.1.1.2.2 hq) (fun cA => rfl) hn rfl (by show _ * 1 ≤ _; unfold MS at hm2; omega) (by omega) (by omega) hd (fun q cA H1 hK1 hP1 hD1 hS1 => ?_)
  have hcA : cA = ((gT G).getD 2 (0, .int)).1 := by
    have a1 := (hK1.2 (gT G).length (cA, .boolean) (by simp)).2
    have a2 := (F.2.1.1.1.1.2 2 _ (gT_at F.2.1.1 (t := 2) rfl)).2
    exact Option.some.inj (a1.symm.trans a2)
  subst hcA
  have hE : ent G (nA h q 2 n.toNatClampNeg) q = .inl (((gT G).getD 2 (0, .int)).1, n.toNatClampNeg, .inl (fun _ => 0)) := by
    rw [ent_arr (t := 2) (by simp [nA, hK, up1])]
    have z1 : hL (nA h q 2 n.toNatClampNeg) q = n.toNatClampNeg := by simp [nA, hL, up1]
    have z2 : acon (nA h q 2 n.toNatClampNeg) q 2 = .inl (fun _ => 0) := by
      show Sum.inl (aI (nA h q 2 n.toNatClampNeg) q) = _
      congr 1
      funext y
      simp [nA, aI, aJ, upr]
    rw [z1, z2]
  rw [← hE] at hP1 hD1
  obtain ⟨hR1, hq0⟩ := Rp.of_push (h' := nA h q 2 n.toNatClampNeg) hm (by simp [nA, hK, up1]) (fun x hx => by simp [nA, hK, up1, hx]) (fun x hx => by apply ent_other <;> first | rfl | (funext y; simp [nA, aI, aJ, aR, upr, hx]) | simp [nA, hK, hL, up1, hx]) hP1 hD1 (Mo.no rfl)
  have := kk q _ hq0 rfl l p e R s m args below meth c h0 H1 locs ls F hR1 hS1 hl (h1.tr (nA_lm hA hq0)) (fun x hx => (List.mem_cons.mp hx).elim (fun z => by rw [z]; exact h1.fresh hq0) (h2 x)) ⟨hm1, hm2⟩
  have e1 : hc (nA h q 2 n.toNatClampNeg) - hc h0 = hc h - hc h0 + 1 := by show hc h + 1 - hc h0 = _; have := h1.1.1.1; omega
  have e2 : hs (nA h q 2 n.toNatClampNeg) - hs h0 = hs h - hs h0 + n.toNatClampNeg := by show hs h + _ - hs h0 = _; have := h1.1.1.2; omega
  rw [e1, e2] at this
  exact this
theorem x_newa3 {n : Int32} (hd : decode (mC μ) pc = .ok (.newarray .long, 2)) (hp : pc + 2 = pc') (hn : ¬ n < 0) (hA : (mM μ).testBit 399 = true) (hm1 : hc h + 1 ≤ MC) (hm2 : hs h + n.toNatClampNeg ≤ MS) (kk : ∀ q h', hK h q = 0 → h' = nA h q 3 n.toNatClampNeg → X G μ d ex (q :: Fr) pc' L (.ref q :: st) h' Q) : X G μ d ex Fr pc L (.int n :: st) h Q := by
  subst hp
  intro l p e R s m args below meth c h0 H locs ls F hR hS hl h1 h2 hb
  obtain ⟨dom, hm, hP, hD, hmo⟩ := id hR
  have r3 := F.2.2.2.2.1
  have r4 := F.2.2.2.2.2
  have t1 := h1.1.1.1
  have t2 := h1.1.1.2
  refine va_newa (atype := .long) (N' := n.toNatClampNeg) (a0 := (n.toNatClampNeg, .inr (.inl (fun _ => 0)))) F.1.1 F.1.2.1 (F.1.2.2.2.2.2.1 _ q361) (ty := .long) rfl F.2.1.1.1.1 hP hD hS (fun q hq => Nat.le_trans F.2.1.1.1.2.2 hq) (fun cA => rfl) hn rfl (by show _ * 8 ≤ _; unfold MS at hm2; omega) (by omega) (by omega) hd (fun q cA H1 hK1 hP1 hD1 hS1 => ?_)
  have hcA : cA = ((gT G).getD 3 (0, .int)).1 := by
    have a1 := (hK1.2 (gT G).length (cA, .long) (by simp)).2
    have a2 := (F.2.1.1.1.1.2 3 _ (gT_at F.2.1.1 (t := 3) rfl)).2
    exact Option.some.inj (a1.symm.trans a2)
  subst hcA
  have hE : ent G (nA h q 3 n.toNatClampNeg) q = .inl (((gT G).getD 3 (0, .int)).1, n.toNatClampNeg, .inr (.inl (fun _ => 0))) := by
    rw [ent_arr (t := 3) (by simp [nA, hK, up1])]
    have z1 : hL (nA h q 3 n.toNatClampNeg) q = n.toNatClampNeg := by simp [nA, hL, up1]
    have z2 : acon (nA h q 3 n.toNatClampNeg) q 3 = .inr (.inl (fun _ => 0)) := by
      show Sum.inr (Sum.inl (aJ (nA h q 3 n.toNatClampNeg) q)) = _
      congr 1; congr 1
      funext y
      simp [nA, aI, aJ, upr]
    rw [z1, z2]
  rw [← hE] at hP1 hD1
  obtain ⟨hR1, hq0⟩ := Rp.of_push (h' := nA h q 3 n.toNatClampNeg) hm (by simp [nA, hK, up1]) (fun x hx => by simp [nA, hK, up1, hx]) (fun x hx => by apply ent_other <;> first | rfl | (funext y; simp [nA, aI, aJ, aR, upr, hx]) | simp [nA, hK, hL, up1, hx]) hP1 hD1 (Mo.no rfl)
  have := kk q _ hq0 rfl l p e R s m args below meth c h0 H1 locs ls F hR1 hS1 hl (h1.tr (nA_lm hA hq0)) (fun x hx => (List.mem_cons.mp hx).elim (fun z => by rw [z]; exact h1.fresh hq0) (h2 x)) ⟨hm1, hm2⟩
  have e1 : hc (nA h q 3 n.toNatClampNeg) - hc h0 = hc h - hc h0 + 1 := by show hc h + 1 - hc h0 = _; have := h1.1.1.1; omega
  have e2 : hs (nA h q 3 n.toNatClampNeg) - hs h0 = hs h - hs h0 + n.toNatClampNeg := by show hs h + _ - hs h0 = _; have := h1.1.1.2; omega
  rw [e1, e2] at this
  exact this
end
