/-! WHO CATCHES: the classes that handlers name are resolved when first asked -/
/-- the class that the entry of own's pool names in a handler -/
def ck (own : String) (t : Nat) : Nat := if own = "LetMill" then 17 else if t = 13 then 14 else if t = 19 then 15 else if t = 25 then 54 else 55
def srch (own : String) (ci pc : Nat) : List (Nat × Nat × Nat × Nat) → Option Nat
  | [] => none
  | q :: r => if (decide (q.1 ≤ pc) && decide (pc < q.2.1)) = true then (if ck own q.2.2.2 = ci then some q.2.2.1 else srch own ci pc r) else srch own ci pc r
def HOK (own : String) (hs : List (Nat × Nat × Nat × Nat)) : Prop := ∀ q ∈ hs, q.2.2.2 ≠ 0 ∧ isEx (ck own q.2.2.2) ∧ Cond.classLink own q.2.2.2 (cname (ck own q.2.2.2)) ∈ lw_all
theorem isEx.nc {ci cj : Nat} (hi : isEx ci) (hj : isEx cj) (hne : cj ≠ ci) : (cname ci, cname cj) ∈ ncP := by
  rcases hi with rfl | rfl | rfl | rfl | rfl <;> rcases hj with rfl | rfl | rfl | rfl | rfl <;> first | exact absurd rfl hne | decide
section
variable {Q : Handler → (Bool → List Action → State → Prop)} {E : Control → List Action → State → Prop} {e : Env} {d : Bool} {acts : List Action} {s : State} {f : JFrame} {a : Addr}
theorem fh_yes {x : ExceptionTableEntry} {t : List ExceptionTableEntry} {c : ClassId} {cell : Cell} (hx : covers x f.pc = true) (h0 : x.catchType ≠ 0) (hl : s.vm.ClassLinks e.platform f.method.cls x.catchType c) (hcell : s.heap[a]? = some cell) (hobj : ∀ k, cell.vm ≠ .statics k)
    (hk : ∃ k, s.vm.classes[cell.cls]? = some k) (hc : ∃ k, s.vm.classes[c]? = some k) (hfit : s.vm.assignable cell.cls c = true) :
    Sem.wp (findHandler.go f a (x :: t)) Q E e d acts s ↔ Q (.found x.handlerPc) d acts (s.setVm (s.vm.noted f.method.cls x.catchType (.cls c))) := by
  have hal : s.vm.Alike (s.vm.noted f.method.cls x.catchType (.cls c)) := (Vm.Alike.refl s.vm).noted _ _ _
  obtain ⟨ha, ht⟩ := (resolveClass_links e.toSetting hl).op (op := VmOp.resolveClass f.method.cls x.catchType) rfl
  obtain ⟨k1, hk1⟩ := hk
  obtain ⟨k2, hk2⟩ := hc
  obtain ⟨k1', hk1', -⟩ := hal.2.2 _ _ hk1
  obtain ⟨k2', hk2', -⟩ := hal.2.2 _ _ hk2
  have hf : (s.vm.noted f.method.cls x.catchType (.cls c)).assignable cell.cls c = true := by rw [hal.assignable]; exact hfit
  simp only [covers] at hx
  simp [findHandler.go, hx, h0, ha, ht, hcell, hobj, hk1', hk2', hf, VmOp.dirties, VmOp.acts]
theorem fh_no {x : ExceptionTableEntry} {t : List ExceptionTableEntry} {c : ClassId} {cell : Cell} (hx : covers x f.pc = true) (h0 : x.catchType ≠ 0) (hl : s.vm.ClassLinks e.platform f.method.cls x.catchType c) (hcell : s.heap[a]? = some cell) (hobj : ∀ k, cell.vm ≠ .statics k)
    (hk : ∃ k, s.vm.classes[cell.cls]? = some k) (hc : ∃ k, s.vm.classes[c]? = some k) (hfit : s.vm.assignable cell.cls c = false) :
    Sem.wp (findHandler.go f a (x :: t)) Q E e d acts s ↔ Sem.wp (findHandler.go f a t) Q E e d acts (s.setVm (s.vm.noted f.method.cls x.catchType (.cls c))) := by
  have hal : s.vm.Alike (s.vm.noted f.method.cls x.catchType (.cls c)) := (Vm.Alike.refl s.vm).noted _ _ _
  obtain ⟨ha, ht⟩ := (resolveClass_links e.toSetting hl).op (op := VmOp.resolveClass f.method.cls x.catchType) rfl
  obtain ⟨k1, hk1⟩ := hk
  obtain ⟨k2, hk2⟩ := hc
  obtain ⟨k1', hk1', -⟩ := hal.2.2 _ _ hk1
  obtain ⟨k2', hk2', -⟩ := hal.2.2 _ _ hk2
  have hf : (s.vm.noted f.method.cls x.catchType (.cls c)).assignable cell.cls c = false := by rw [hal.assignable]; exact hfit
  simp only [covers] at hx
  simp [findHandler.go, hx, h0, ha, ht, hcell, hobj, hk1', hk2', hf, VmOp.dirties, VmOp.acts]
end
theorem fh_go {G : Gh} {e : Env} {s : State} {args : Array Value} {own : String} {f : JFrame} {a : Addr} {cell : Cell} {ci pc2 : Nat} (hpl : e.platform.magicAccessors = ({} : Platform).magicAccessors) (hown : s.vm.findClass own = some f.method.cls) (hts : ∀ w ∈ lw_all, w.before args s = true) (hW : WS G s)
    (hci : isEx ci) (hcls : s.vm.findClass (cname ci) = some cell.cls) (hobj : ∀ k, cell.vm ≠ .statics k) (hkc : ∃ k, s.vm.classes[cell.cls]? = some k) :
    ∀ t : List ExceptionTableEntry, HOK own (t.map fun h => (h.startPc, h.endPc, h.handlerPc, h.catchType)) → srch own ci f.pc (t.map fun h => (h.startPc, h.endPc, h.handlerPc, h.catchType)) = some pc2 → ∀ S : State, s.WarmedH S.vm → S.heap[a]? = some cell →
      ∃ vm' : Vm, s.WarmedH vm' ∧ ∀ (Q : Handler → (Bool → List Action → State → Prop)) (E : Control → List Action → State → Prop) (d : Bool) (acts : List Action), Sem.wp (findHandler.go f a t) Q E e d acts S ↔ Q (.found pc2) d acts (S.setVm vm') := by
  intro t
  induction t with
  | nil => intro _ hs; cases hs
  | cons x r ih =>
    intro hok hs S hWS hcell
    have hok' : HOK own (r.map fun h => (h.startPc, h.endPc, h.handlerPc, h.catchType)) := fun q hq => hok q (List.mem_cons_of_mem _ hq)
    by_cases hx : covers x f.pc = true
    · obtain ⟨h0, hj, hlk⟩ := hok _ List.mem_cons_self
      obtain ⟨cT, hcT, hcl⟩ := Cond.classLink_spec hown (hts _ hlk) e.platform hpl
      obtain ⟨dk, _, _, kt, hd, _, _, _, _, hkt, _, hopen⟩ := hcl.here
      have hW' : s.WarmedH (S.vm.noted f.method.cls x.catchType (.cls cT)) := hWS.noted hd hopen (State.rightAt_cls hcl)
      obtain ⟨kt', hkt', -⟩ := hWS.alike.2.2 _ _ hkt
      obtain ⟨kc, hkc0⟩ := hkc
      obtain ⟨kc', hkc', -⟩ := hWS.alike.2.2 _ _ hkc0
      by_cases hji : ck own x.catchType = ci
      · have e2 : pc2 = x.handlerPc := by
          simp only [List.map_cons, srch] at hs
          rw [if_pos hx, if_pos hji] at hs
          exact (Option.some.inj hs).symm
        subst e2
        have hcT' : cT = cell.cls := by
          have : s.vm.findClass (cname (ck own x.catchType)) = some cT := hcT
          rw [hji] at this
          exact Option.some.inj (this.symm.trans hcls)
        subst hcT'
        exact ⟨_, hW', fun Q E d acts => fh_yes hx h0 (hWS.classLinks hcl) hcell hobj ⟨kc', hkc'⟩ ⟨kt', hkt'⟩ (va_asg _ _)⟩
      · have hs' : srch own ci f.pc (r.map fun h => (h.startPc, h.endPc, h.handlerPc, h.catchType)) = some pc2 := by
          simp only [List.map_cons, srch] at hs
          rw [if_pos hx, if_neg hji] at hs
          exact hs
        have hno : s.vm.assignable cell.cls cT = false := by
          obtain ⟨c1, c2, n1, n2, n3⟩ := hW.2.2.2.2.2.2.2.2.2 _ (hci.nc hj hji)
          cases Option.some.inj (n1.symm.trans hcls)
          cases Option.some.inj (n2.symm.trans hcT)
          exact n3
        obtain ⟨vm', hV, hq⟩ := ih hok' hs' (S.setVm (S.vm.noted f.method.cls x.catchType (.cls cT))) hW' hcell
        exact ⟨vm', hV, fun Q E d acts => (fh_no hx h0 (hWS.classLinks hcl) hcell hobj ⟨kc', hkc'⟩ ⟨kt', hkt'⟩ (by rw [hWS.alike.assignable]; exact hno)).trans (hq Q E d acts)⟩
    · have hs' : srch own ci f.pc (r.map fun h => (h.startPc, h.endPc, h.handlerPc, h.catchType)) = some pc2 := by
        simp only [List.map_cons, srch] at hs
        rw [if_neg hx] at hs
        exact hs
      obtain ⟨vm', hV, hq⟩ := ih hok' hs' S hWS hcell
      exact ⟨vm', hV, fun Q E d acts => (W.findHandler_go_skip (by simpa using hx)).trans (hq Q E d acts)⟩
section
variable {G : Gh} {μ : Mu} {d pc : Nat} {ex : Option Nat} {Fr : List Nat} {L : List (Nat × Value)} {h : AH} {Q : Outcome → AH → Prop}
/-- the throw is caught in the method itself -/
theorem XT.caught {a ci pc2 : Nat} (hH : HOK (mY μ).cls (mH μ)) (hs : srch (mY μ).cls ci pc (mH μ) = some pc2) (hci : isEx ci) (hk : hK h a = ci + 1) (kk : X G μ d ex Fr pc2 L [.ref a] h Q) : XT G μ d ex Fr pc L a h Q := by
  intro l p e R s m args below meth c h0 H locs ls st F hR hS hl h1 h2 hb T hT XS
  subst hT
  obtain ⟨⟨f1, f2, f3, f4, f5, f6, f7⟩, ⟨w1, w2, w3, w4⟩, r1, r2, r3, r4⟩ := id F
  have hpl : e.platform.magicAccessors = ({} : Platform).magicAccessors := by rw [XS.admits.platform]
  obtain ⟨hc56, -⟩ := hci.flds
  obtain ⟨dom, hm, hP, hD, hmo⟩ := id hR
  obtain ⟨q0, hq1, hq0⟩ := wl_at (G := G) (h := h) ((hm a).mpr (by omega))
  rw [ent_obj hc56 hk] at hq0
  obtain ⟨r, hr1, cell, g1, g2, g3, g4⟩ := hP q0 _ hq0
  have hr : r = (cname ci, ctab ci, (ftab ci).length) := Option.some.inj (hr1.symm.trans (cl_at hc56))
  subst hr
  obtain ⟨-, hfc, kC, hkC, hkind⟩ := w1.1.1.1 ci _ (cl_at hc56)
  rw [← w3] at hH hs
  obtain ⟨vm', hV, hq⟩ := fh_go (G := G) (f := F0 m pc ls st) (a := a) (cell := cell) hpl f5 f6 w1 hci (by rw [g2]; exact hfc) (fun k => by rw [g3]; simp) ⟨kC, by rw [g2]; exact hkC⟩ c.exceptionTable.toList hH hs ((T.setTop (F0 m pc ls st)).pushFrame (.throwing a)) XS.warmed g1
  have X' := XS.noted hV
  obtain ⟨t, b1, b2⟩ := kk l p e R s m args below meth c h0 T.heap locs ls F hR hS hl h1 h2 hb (T.setVm vm') rfl X'
  refine ⟨t, ?_, b2⟩
  have hA : At T (F0 m pc ls st).method c below := XS.here
  obtain ⟨hgo, hw⟩ := hA.throwing (g := F0 m pc ls st) a
  refine Steps.head hgo hw ?_
  have hft : ∀ (Q : Handler → (Bool → List Action → State → Prop)) (E : Control → List Action → State → Prop) (d : Bool) (acts : List Action), Sem.wp (findHandler (F0 m pc ls st) a) Q E e d acts ((T.setTop (F0 m pc ls st)).pushFrame (.throwing a)) ↔ Q (.found pc2) d acts (((T.setTop (F0 m pc ls st)).pushFrame (.throwing a)).setVm vm') :=
    fun Q E d acts => (W.findHandler_eq (s := (T.setTop (F0 m pc ls st)).pushFrame (.throwing a)) (f := F0 m pc ls st) (a := a) XS.method' XS.code).trans (hq Q E d acts)
  have hIs : (stepThrowing e ((T.setTop (F0 m pc ls st)).pushFrame (.throwing a)) a (.java (F0 m pc ls st) :: T.frames.tail)).Is ((((T.setTop (F0 m pc ls st)).pushFrame (.throwing a)).setVm vm').setFrames (.java (F0 m pc2 ls [.ref a]) :: T.frames.tail)) [] := by
    simp only [stepThrowing, searchFrame, vmDo]
    generalize hr : Sem.go _ e false [] ((T.setTop (F0 m pc ls st)).pushFrame (.throwing a)) = res
    obtain ⟨as, rfl, ha⟩ := Sem.eq_ok_of hr (a := Handler.found pc2) (s' := ((T.setTop (F0 m pc ls st)).pushFrame (.throwing a)).setVm vm') (acts' := []) (by simp [hft _ _ _ _])
    exact ⟨rfl, ha⟩
  rw [stepThread_throwing (frames_entered hA.top _), hIs.1]
  obtain ⟨g₀, hg0⟩ := Option.isSome_iff_exists.mp hA.top
  obtain ⟨rr, hrr⟩ := State.topJava?_eq_some.mp hg0
  have hr' : (T.setVm vm').frames = .java g₀ :: rr := hrr
  rw [State.setTop_of_frames _ hr'] at b1
  have e1 : (((T.setTop (F0 m pc ls st)).pushFrame (.throwing a)).setVm vm').setFrames (.java (F0 m pc2 ls [.ref a]) :: T.frames.tail) = (T.setVm vm').setFrames (.java (F0 m pc2 ls [.ref a]) :: rr) := by
    rw [hrr, List.tail_cons, State.pushFrame, State.setTop_of_frames _ hrr, State.setFrames_setFrames]
    show ((T.setFrames _).setVm vm').setFrames _ = _
    have h1 : ∀ F, (T.setFrames F).setVm vm' = (T.setVm vm').setFrames F := fun _ => rfl
    rw [h1, State.setFrames_setFrames]
  rw [e1]
  exact b1
end
/-- a call within a try: T behind a throw -/
def KX (K : Outcome → AH → Prop) (T : Nat → AH → Prop) : Outcome → AH → Prop := fun o h => match o with
  | .threw a => T a h
  | .returned v => K (.returned v) h
theorem KX.g {Q K : Outcome → AH → Prop} {T : Nat → AH → Prop} {A : AH → Prop} {B : Option Value → AH → Prop} {P : Nat → AH → Prop} {o : Outcome} {h : AH} (h1 : ∀ o, K o h → KG Q (fun v h => A h → B v h) o h) (h2 : ∀ a h, T a h → A h → P a h) (k : KX K T o h) (hA : A h) :
    (∀ v, o = .returned v → B v h) ∧ (∀ a, o = .threw a → P a h) := by
  refine ⟨fun v e => ?_, fun a e => ?_⟩
  · subst e
    rcases h1 _ k with ⟨v', e1, q⟩ | ⟨a, e1, -⟩
    · cases e1
      exact q hA
    · cases e1
  · subst e
    exact h2 a h k hA
theorem nar_c (x : Int32) : narrow .char (.int ((x.toUInt32 % 65536).toInt32)) = .int ((x.toUInt32 % 65536).toInt32) := by
  show Value.int _ = Value.int _
  congr 1
  apply Int32.toBitVec_inj.mp
  apply BitVec.eq_of_toNat_eq
  simp
