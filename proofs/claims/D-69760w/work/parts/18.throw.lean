/-! THROWABLES: their constructor, and what is thrown -/
theorem q1069 : (Jvm.Cond.superclass "java/lang/Throwable" "java/lang/Object") ∈ lw_all := lw_g (lw_at lw_m4 139 rfl) rfl
theorem q1084 : (Jvm.Cond.codeSync ({ cls := "java/lang/Throwable", name := "fillInStackTrace", desc := "()Ljava/lang/Throwable;" } : Jvm.MethodName) prog_71_method_18_code (1 : Nat) (Option.some (Jvm.ClassFile.FieldType.object "java/lang/Throwable"))) ∈ lw_all := lw_g (lw_at lw_m4 154 rfl) rfl
theorem q1089 : (Jvm.Cond.native ({ cls := "java/lang/Throwable", name := "fillInStackTrace", desc := "(I)Ljava/lang/Throwable;" } : Jvm.MethodName)) ∈ lw_all := lw_g (lw_at lw_m4 159 rfl) rfl
theorem th_atoms {G : Gh} {s : State} {args : Array Value} (hW : WS G s) (hts : ∀ w ∈ lw_all, w.before args s = true) : ∀ c ∈ Bundle.throwableAtoms, c.before args s = true := by
  intro c hc
  simp only [Bundle.throwableAtoms, List.mem_cons, List.not_mem_nil, or_false] at hc
  rcases hc with rfl | rfl | rfl | rfl | rfl | rfl | rfl | rfl | rfl | rfl | rfl | rfl | rfl | rfl | rfl | rfl | rfl | rfl | rfl | rfl | rfl | rfl | rfl | rfl
  · exact hts _ q230
  · exact hts _ q1069
  · exact hts _ q1078
  · exact hts _ q1084
  · exact hts _ q1087
  · exact hts _ q1089
  · exact hts _ q1070
  · exact hts _ q1071
  · exact hts _ q288
  · exact hts _ q289
  · exact hts _ q1072
  · exact hts _ q1077
  · exact hts _ q1085
  · exact hts _ q1101
  · exact hts _ q1059
  · exact hts _ q1102
  · exact hts _ q1061
  · exact hts _ q1103
  · exact hts _ q1063
  · exact hts _ q1073
  · exact hW.2.2.2.2.2.2.2.1.says
  · exact hts _ q1075
  · exact hW.2.2.2.2.2.2.2.2.1.says
  · exact hts _ q1065
def thM : Mu := (⟨"java/lang/Throwable", "<init>", "()V"⟩, prog_71_method_1_code, 1, none, [], 0)
def isEx (ci : Nat) : Prop := ci = 14 ∨ ci = 15 ∨ ci = 17 ∨ ci = 54 ∨ ci = 55
theorem isEx.sel {ci : Nat} (h : isEx ci) : Cond.selects (cname ci) Bundle.tFill0 Bundle.tFill0 ∈ lw_all ∧ Cond.selects (cname ci) Bundle.tFill Bundle.tFill ∈ lw_all := by
  rcases h with rfl | rfl | rfl | rfl | rfl
  · exact ⟨q1056, q1057⟩
  · exact ⟨q1130, q1081⟩
  · exact ⟨q1296, q1080⟩
  · exact ⟨q2856, q1082⟩
  · exact ⟨q3319, q1083⟩
theorem isEx.flds {ci : Nat} (h : isEx ci) : ci < 56 ∧ (ftab ci)[0]? = some (290, 2) ∧ (ftab ci)[1]? = some (291, 2) ∧ (ftab ci)[2]? = some (292, 2) ∧ (ftab ci)[4]? = some (294, 2) := by
  rcases h with rfl | rfl | rfl | rfl | rfl <;> exact ⟨by decide, rfl, rfl, rfl, rfl⟩
theorem zq_ref {C n d : String} {A : Nat → Prop} {U : State} {H : Heap} (h : va_Zq C n d A U H) : ∃ r : Option Nat, va_Z C n d (va_rf r) A U H := by
  rcases h with h | ⟨t, h⟩
  · exact ⟨none, h⟩
  · exact ⟨some t, h⟩
theorem rf_ref (r : Option Nat) : (va_rf r).isRef = true := by cases r <;> rfl
section
variable {G : Gh} {μ : Mu} {d pc pc' : Nat} {ex : Option Nat} {Fr : List Nat} {L : List (Nat × Value)} {st : List Value} {h : AH} {Q : Outcome → AH → Prop}
theorem slot_of {s : State} {ci k g t : Nat} (hW : WS G s) (hci : ci < 56) (hk : (ftab ci)[k]? = some (g, t)) {cf fi : Nat} {kf : Class} {fd : Field} (hf : s.fieldFound? (gtab g).1 (gtab g).2.1 (gtab g).2.2.1 = some (cf, kf, fi, fd)) : fd.slot = (gD G).2 ci k := by
  obtain ⟨hSl, -⟩ := hW.1.1.1 ci _ (cl_at hci)
  obtain ⟨cf', kf', fi', fd', hi, hs⟩ := hSl k (List.getElem?_eq_some_iff.mp hk).1
  have hi : s.fieldFound? (ctab ci k).1 (ctab ci k).2.1 (ctab ci k).2.2.1 = some (cf', kf', fi', fd') := hi
  rw [show (ctab ci k) = gtab g from ctab_at hk] at hi
  cases hi.symm.trans hf
  exact hs
theorem cb_set {s : State} {args : Array Value} (hW : WS G s) (hts : ∀ w ∈ lw_all, w.before args s = true) {ci k g a : Nat} {r : Option Nat} {cell : Cell} (hci : ci < 56) (hk : (ftab ci)[k]? = some (g, 2)) (q4 : ∀ j, j < (ftab ci).length → cell.slots[(gD G).2 ci j]? = some (vp_V (flds h a ci) j)) :
    ∀ j, j < (ftab ci).length → (cell.setSlot ((gD G).2 ci k) (va_rf r)).slots[(gD G).2 ci j]? = some (vp_V (flds (pR h a g r) a ci) j) := by
  intro j hj
  have hkl := (List.getElem?_eq_some_iff.mp hk).1
  have hap := va_apart (own := "") hts (cl_words hci) (fun k => gty ((ftab ci).getD k (0, 0)).1) (cty_ok hci) (cl_nm hci) hW.1.1 (cl_at hci)
  rw [t_set q4 hap hkl (va_rf r) j hj, vp_updV_set (by simpa [flds] using hkl), flds_set (h := h) (h' := pR h a g r) hci hk (fun q hq => by simp [fval, pR, fI, fJ, fR, up2, hq])]
  have e3 : fval (pR h a g r) a (g, 2) = va_rf r := by simp [fval, pR, fI, fJ, fR, up2]
  rw [e3]
theorem takes_of {s : State} {args : Array Value} (hW : WS G s) (hts : ∀ w ∈ lw_all, w.before args s = true) {ci k g : Nat} {r : Option Nat} {cell : Cell} {V : Nat → Value} (hci : ci < 56) (hk : (ftab ci)[k]? = some (g, 2)) (q2 : cell.cls = (gD G).1 ci) (q3 : cell.vm = .none) (q4 : ∀ j, j < (ftab ci).length → cell.slots[(gD G).2 ci j]? = some (V j))
    {cf fi : Nat} {kf : Class} {fd : Field} (hf : s.fieldFound? (gtab g).1 (gtab g).2.1 (gtab g).2.2.1 = some (cf, kf, fi, fd)) : Takes s cell fd (va_rf r) := by
  have hkl := (List.getElem?_eq_some_iff.mp hk).1
  have es := slot_of hW hci hk hf
  obtain ⟨-, hfc, kC, hkC, hkind⟩ := hW.1.1.1 ci _ (cl_at hci)
  have hl := u_lays hts (cl_words hci) hkl
  rw [show (ctab ci k) = gtab g from ctab_at hk] at hl
  have hko := ftab_at hci hk
  have hrf := fits_rf ((gty_k hko).2.2.2.2 rfl) r
  refine ⟨by rw [es]; exact k2_hasslot (q4 k hkl), ?_⟩
  rw [q2, q3]
  exact (u_fits hfc hkC hkind hl hf (gty_at (gty_k hko).1) hrf.1 hrf.2).2
theorem x_thInit {index a ci : Nat} (hxa : ex = some a) (hd : decode (mC μ) pc = .ok (.invokespecial index, 3)) (hw : Cond.methodLink (mY μ).cls index ⟨"java/lang/Throwable", "<init>", "()V"⟩ ∈ lw_all) (hex : isEx ci) (hk : hK h a = ci + 1) (hn : hN h = some a) (hz : fR h a 294 = none) (hst : (st.map fun v => v.category).sum ≤ 29) (hp : pc + 3 = pc')
    (kk : ∀ r1 r2 h', h' = pR (pR (pR (pR h a 290 (some a)) a 291 r1) a 292 r2) a 291 r1 → X G μ (d + 3) ex Fr pc' L st h' Q) : X G μ (d + 3) ex Fr pc L (.ref a :: st) h Q := by
  subst hp
  intro l p e R s m args below meth c h0 H locs ls F hR hS hl h1 h2 hb T hT XS
  subst hT
  obtain ⟨⟨f1, f2, f3, f4, f5, f6, f7⟩, ⟨w1, w2, w3, w4⟩, r1, r2, r3, r4⟩ := id F
  obtain ⟨vm₁, mk, hW1, hnm, X₁, hstp⟩ := inv_I (ν := thM) (av := []) (d := d + 2) hd hw q1070 q1071 rfl (by decide) (by decide +kernel) l p e R s m args below meth c (hc h0) (hs h0) T locs _ _ ls F hR hS XS (hl.1.trans f4.symm)
  have howns : e.platform.frameOwnsMonitors = true := by rw [XS.admits.platform]
  have hfin : e.platform.finalization = false := by rw [XS.admits.platform]
  have hpl : e.platform.magicAccessors = ({} : Platform).magicAccessors := by rw [XS.admits.platform]
  obtain ⟨TT, Z, LL, LZ, Y⟩ := ThrowableC.of_atoms (args := args) howns hfin hpl (th_atoms w1 f6)
  obtain ⟨hci, k0, k1, k2, k4⟩ := hex.flds
  obtain ⟨dom, hm, hP, hD, hmo⟩ := id hR
  obtain ⟨q0, hq1, hq0⟩ := wl_at (G := G) (h := h) ((hm a).mpr (by omega))
  have hA : gA G a := hD.2 q0 _ hq0
  have hq0' := hq0
  rw [ent_obj hci hk] at hq0
  obtain ⟨r, hr1, cell, g1, g2, g3, g4⟩ := hP q0 _ hq0
  have hr : r = (cname ci, ctab ci, (ftab ci).length) := Option.some.inj (hr1.symm.trans (cl_at hci))
  subst hr
  obtain ⟨cell', g1', hown, hcount⟩ := hmo a hn
  cases g1.symm.trans g1'
  obtain ⟨-, hfc, kC, hkC, hkind⟩ := w1.1.1.1 ci _ (cl_at hci)
  obtain ⟨zs0, zsF⟩ := hex.sel
  have hsel0 : selectMethod e.platform s.vm cell.cls TT.fill0 = .method TT.fill0 := by
    obtain ⟨c2, r2, m2, u1, u2, u3, u4, -⟩ := Cond.selects_spec (f6 _ zs0)
    rw [g2]
    cases Option.some.inj (u1.symm.trans hfc)
    cases Option.some.inj (u2.symm.trans (State.methodFound?_of_named Y.fill0 (by decide)))
    cases Option.some.inj (u3.symm.trans Y.fill0)
    rw [Launch.admits_selectMethod XS.admits]; exact u4
  have hselF : selectMethod e.platform s.vm cell.cls TT.fill = .method TT.fill := by
    obtain ⟨c2, r2, m2, u1, u2, u3, u4, -⟩ := Cond.selects_spec (f6 _ zsF)
    rw [g2]
    cases Option.some.inj (u1.symm.trans hfc)
    cases Option.some.inj (u2.symm.trans (State.methodFound?_of_named Y.fill (by decide)))
    cases Option.some.inj (u3.symm.trans Y.fill)
    rw [Launch.admits_selectMethod XS.admits]; exact u4
  obtain ⟨v1, cf1, kf1, fi1, fd1, aS1, cS1, y1, y2, y3, y4, y5, y6, y7, y8⟩ := zq_ref ((w1.2.2.2.2.1).kept (H1 := T.heap) fun x hx hnx => hS.2.1 x hx hnx)
  obtain ⟨v2, cf2, kf2, fi2, fd2, aS2, cS2, x1, x2, x3, x4, x5, x6, x7, x8⟩ := zq_ref ((w1.2.2.2.2.2.1).kept (H1 := T.heap) fun x hx hnx => hS.2.1 x hx hnx)
  cases y1.symm.trans Y.unassigned
  cases x1.symm.trans Y.sentinel
  cases Option.some.inj (y4.symm.trans LL.statics)
  cases Option.some.inj (x4.symm.trans LL.statics)
  cases y5.symm.trans x5
  obtain ⟨ci198, i198, fB, hk198, hg198, ha198, hsB, -, hnB, htB, hffB⟩ := Cond.ownField (t := .object "java/lang/Object") Y.found LL.cls (by decide +kernel) (f6 _ q1068) (f6 _ q1067) e.platform hpl
  have sC := slot_of (G := G) w1 hci k0 Y.cause
  have sS := slot_of (G := G) w1 hci k1 Y.stack
  have sP := slot_of (G := G) w1 hci k2 Y.supp
  have sB := slot_of (G := G) w1 hci k4 hffB
  have hneS : TT.aS ≠ a := fun e => y8 (e ▸ hA)
  have c1 := cb_set (r := some a) w1 f6 hci k0 g4
  have c2 := cb_set (r := v1) w1 f6 hci k1 c1
  have c3 := cb_set (r := v2) w1 f6 hci k2 c2
  have c4 := cb_set (r := v1) w1 f6 hci k1 c3
  have hvB : ((preparedCellV TT.toThrowableT cell a ⟨va_rf v1, rf_ref v1⟩ ⟨va_rf v2, rf_ref v2⟩).withEntry (T.setVm vm₁).cur).slots[fB.slot]? = some .null := by
    have := c3 4 (List.getElem?_eq_some_iff.mp k4).1
    rw [← sB] at this
    show (((cell.setSlot TT.fCause.slot (.ref a)).setSlot TT.fStack.slot (va_rf v1)).setSlot TT.fSupp.slot (va_rf v2)).slots[fB.slot]? = _
    rw [sC, sS, sP]
    refine this.trans ?_
    have e4 : vp_V (flds (pR (pR (pR h a 290 (some a)) a 291 v1) a 292 v2) a ci) 4 = va_rf (fR h a 294) := by
      simp [vp_V, List.getD, flds_at k4, fval, pR, fR, up2]
    rw [e4, hz]
    rfl
  obtain ⟨vm₂, X₂, st2⟩ := X₁.ctorPlainOffV f1 (g := F0 m pc ls st) rfl (hl.1.trans f4.symm) TT LL Z LZ [] (fun _ hP => by cases hP) trivial (u0 := ⟨va_rf v1, rf_ref v1⟩) (sen := ⟨va_rf v2, rf_ref v2⟩) (self := a) (cell := cell) (cellS := cS1)
    g1 (fun _ => by rw [g3]; simp) (by rw [g3]; simp) hown hcount hsel0 hselF y5 hneS (fun z => by rw [z] at y6; cases y6) y7 x7
    (takes_of (r := some a) w1 f6 hci k0 g2 g3 g4 Y.cause) (takes_of (r := v1) w1 f6 hci k1 g2 g3 g4 Y.stack) (takes_of (r := v2) w1 f6 hci k2 g2 g3 g4 Y.supp) Y.objLocals
    ⟨{ ci198 := ci198, i198 := i198, fBack := fB }, ⟨hk198, hg198, ha198, hsB⟩, hvB, fun _ _ => rfl⟩ (w2 e XS.admits) [] (by rw [f2]; exact hd) (by show 0 + 2 < R.frames; omega) (by show 2 * 0 + (st.map fun v => v.category).sum + (13 * 0 + 41) ≤ R.locals; omega)
  cases Option.some.inj (hnm.symm.trans Y.init0)
  have hlt : a < T.heap.size := (Array.getElem?_eq_some_iff.mp g1).1
  have hO : ∀ q : Nat, q ≠ a → (T.heap.setIfInBounds a ((preparedCellV TT.toThrowableT cell a ⟨va_rf v1, rf_ref v1⟩ ⟨va_rf v2, rf_ref v2⟩).setSlot TT.fStack.slot (va_rf v1)))[q]? = T.heap[q]? := by
    intro q hq
    rw [Array.getElem?_setIfInBounds, if_neg (Ne.symm hq)]
  have hE4 : ent G (pR (pR (pR (pR h a 290 (some a)) a 291 v1) a 292 v2) a 291 v1) a = .inr (ci, flds (pR (pR (pR (pR h a 290 (some a)) a 291 v1) a 292 v2) a 291 v1) a ci) := ent_obj hci hk
  have hP4 : va_P (gD G) cl ((wl G dom h).set q0 (a, ent G (pR (pR (pR (pR h a 290 (some a)) a 291 v1) a 292 v2) a 291 v1) a)) (T.heap.setIfInBounds a ((preparedCellV TT.toThrowableT cell a ⟨va_rf v1, rf_ref v1⟩ ⟨va_rf v2, rf_ref v2⟩).setSlot TT.fStack.slot (va_rf v1))) := by
    rw [hE4]
    refine hP.set hD hq0 ⟨_, cl_at hci, ((preparedCellV TT.toThrowableT cell a ⟨va_rf v1, rf_ref v1⟩ ⟨va_rf v2, rf_ref v2⟩).setSlot TT.fStack.slot (va_rf v1)), by rw [Array.getElem?_setIfInBounds, if_pos rfl, if_pos hlt], g2, g3, ?_⟩ hO
    show ∀ j, j < (ftab ci).length → (((((cell.setSlot TT.fCause.slot (.ref a)).setSlot TT.fStack.slot (va_rf v1)).setSlot TT.fSupp.slot (va_rf v2)).setSlot TT.fStack.slot (va_rf v1))).slots[(gD G).2 ci j]? = _
    rw [sC, sS, sP]
    exact c4
  have hR4 : Rp G (pR (pR (pR (pR h a 290 (some a)) a 291 v1) a 292 v2) a 291 v1) (T.heap.setIfInBounds a ((preparedCellV TT.toThrowableT cell a ⟨va_rf v1, rf_ref v1⟩ ⟨va_rf v2, rf_ref v2⟩).setSlot TT.fStack.slot (va_rf v1))) := by
    refine Rp.of_set (h := h) hm hD hq1 (fun x hx => ?_) rfl hP4 (hD.set hq0) (Mo.no rfl)
    apply ent_other <;> first | rfl | (funext y; simp [pR, fI, fJ, fR, up2, hx])
  have hle : Lm (gW G) (mM μ) h (pR (pR (pR (pR h a 290 (some a)) a 291 v1) a 292 v2) a 291 v1) ex := (((pR_lm (Or.inr hxa) (Or.inr hxa)).tr (pR_lm (Or.inr hxa) (Or.inr hxa))).tr (pR_lm (Or.inr hxa) (Or.inr hxa))).tr (pR_lm (Or.inr hxa) (Or.inr hxa))
  obtain ⟨t, b1, b2⟩ := kk v1 v2 _ rfl l p e R s m args below meth c h0 _ _ ls F hR4 ⟨by rw [Array.size_setIfInBounds]; exact hS.1, fun q hq hn => (hO q (fun e => hn (e ▸ hA))).trans (hS.2.1 q hq hn), fun y hy => by
      rcases List.mem_append.mp hy with hy | hy
      · exact hS.2.2 y hy
      · have hb : y.base = a := by
          simp only [List.mem_cons, List.not_mem_nil, or_false] at hy
          rcases hy with rfl | rfl | rfl | rfl <;> rfl
        rw [hb]; exact hA⟩ hl (h1.tr hle) h2 hb _ rfl X₂
  exact ⟨t, hstp _ (st2 _ b1), b2⟩
end
