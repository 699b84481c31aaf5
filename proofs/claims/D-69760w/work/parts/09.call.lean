/-! A CALL BY A FREE THEOREM, WHICHEVER WAY IT ENDS -/
theorem call_both {l : Launch} {R : Room} {p : Program} {e : Env} {below : List Frame} {s : State} {sargs : Array Value} {y : MethodName} {S : Spec} {P : Array Value → State → Prop} {Q : Array Value → State → Outcome → State → Prop}
    {m : MethodId} {meth : Method} {c : Code} {U : State} {Ls : List Loc} {c0 s0 len maxL : Nat} {g : JFrame} {ig : Instr} {mk : MethodId} {a : Array Value} {methY : Method} {cY : Code} {kY : Class}
    (hM : MetFree l y S P (fun _ _ _ _ _ => True) Q) (X : Stand p l e R s m sargs below meth c U Ls c0 s0) (hg : g.method = m) (hsize : g.locals.size = c.maxLocals) (hdg : decode c.code g.pc = .ok (ig, len))
    (hn : U.methodNamed? y = some mk) (hmY : U.vm.method? mk = some methY) (hcY : methY.code = some cY) (hlY : cY.maxLocals = maxL) (hkY : U.vm.classes[mk.cls]? = some kY) (hinitY : kY.init = .initialized)
    (hframes : S.room.frames + 1 ≤ R.frames) (hlocals : 2 * g.monitorRoom + (g.stack.map fun v => v.category).sum + (maxL + 11) + S.room.locals ≤ R.locals) (h4 : c0 + S.room.cells ≤ R.cells) (h5 : s0 + S.room.slots ≤ R.slots)
    (hpre : S.pre.before a U = true) (hP : P a (U.calling g mk a))
    (hQ : ∀ o t, Q a (U.calling g mk a) o t → ∃ L k n, (U.calling g mk a).WarmedH t.vm ∧ (U.calling g mk a).sameButNew ({ t with vm := (U.calling g mk a).vm } : State) L k n ∧ True) :
    ∃ (o : Outcome) (t T' : State) (L : List Loc) (k n : Nat), Q a (U.calling g mk a) o t ∧ T'.heap = t.heap ∧ T'.vm = t.vm ∧ U.WarmedH t.vm ∧ (U.calling g mk a).sameButNew ({ t with vm := (U.calling g mk a).vm } : State) L k n ∧
      (∀ (L' : List Loc) (k' n' : Nat), (U.calling g mk a).sameButNew ({ t with vm := (U.calling g mk a).vm } : State) L' k' n' → Stand p l e R s m sargs below meth c T' (Ls ++ L') (c0 + k') (s0 + n')) ∧
      ((∃ v, o = .returned v ∧ Steps p.tables e below (doInvoke e (U.setTop g) [] mk a).1 (T'.setTop { g with pc := g.pc + len, stack := v.toList ++ g.stack })) ∨
       (∃ x, o = .threw x ∧ Steps p.tables e below (doInvoke e (U.setTop g) [] mk a).1 ((T'.setTop g).pushFrame (.throwing x)))) := by
  have h : At U g.method c below := by rw [hg]; exact X.here
  have happ : S.appliesLoose y e.platform (U.calling g mk a) = true :=
    Spec.appliesLoose_calling (g := g) h hdg hn hkY hinitY
      (X.room_calling (g := g) (R' := S.room) hsize hmY hcY hframes (by rw [hlY]; omega) h4 h5) hpre
  obtain ⟨mid, hmid⟩ := h.above
  have hfr : (U.setTop g).frames = (.java g :: mid) ++ below := by rw [State.frames_setTop' g h.top, hmid]; rfl
  obtain ⟨o, s₂, hsteps, -, hend, hq⟩ := Steps.callFree hM p X.admits X.cas X.clock (acts := []) hfr happ hP trivial
  have hq' : Q a (U.calling g mk a) o s₂ := hq
  rw [State.frames_setTop' g h.top] at hend
  obtain ⟨L, k, n, hW₂, hsb, -⟩ := hQ _ _ hq'
  obtain ⟨g₀, hg0⟩ := Option.isSome_iff_exists.mp h.top
  obtain ⟨r, hr⟩ := State.topJava?_eq_some.mp hg0
  have hW' : U.WarmedH s₂.vm := hW₂
  have e3 : s₂ = ({ (U.calling g mk a).setFrames s₂.frames with heap := s₂.heap, slotsUsed := s₂.slotsUsed } : State).setVm s₂.vm := by
    have : s₂ = ({ s₂ with vm := (U.calling g mk a).vm } : State).setVm s₂.vm := rfl
    rw [hsb.1] at this
    exact this
  have hr' : (({ U with heap := s₂.heap, slotsUsed := s₂.slotsUsed } : State).setVm s₂.vm).frames = .java g₀ :: r := hr
  refine ⟨o, s₂, ({ U with heap := s₂.heap, slotsUsed := s₂.slotsUsed } : State).setVm s₂.vm, L, k, n, hq', rfl, rfl, hW', hsb, ?_, ?_⟩
  · intro L' k' n' ⟨e2, q2, q3, q4, q5, q6⟩
    have hsame : U.sameButNew ({ U with heap := s₂.heap, slotsUsed := s₂.slotsUsed } : State) L' k' n' := by
      refine ⟨?_, q2, q3, q4, q5, q6⟩
      obtain ⟨t, ht, -⟩ := State.frames_cons hr
      show ({ U with heap := s₂.heap, slotsUsed := s₂.slotsUsed } : State) = { U.setFrames U.frames with heap := s₂.heap, slotsUsed := s₂.slotsUsed }
      rw [State.setFrames_self ht]
    exact ⟨X.admits, X.cas, X.clock, X.frames, X.room, X.hears, X.method, X.code, (X.here.setHeapUsed s₂.heap s₂.slotsUsed).setVm hW'.alike, X.tail, State.WarmedH.trans X.warmed hW', X.limits, X.bytes, X.same.trans (hsame.setVm s.vm)⟩
  · cases o with
    | returned v =>
      refine Or.inl ⟨v, rfl, ?_⟩
      obtain ⟨c₂, i₂, len₂, hc₂, hd₂, hf₂⟩ := hend
      have hcc : c₂ = c := by
        have h1 : s₂.code? g.method = U.code? g.method := by
          rw [State.code?_eq, State.code?_eq, hW'.alike.method?]
        exact Option.some.inj (hc₂.symm.trans (h1.trans h.code))
      subst hcc
      have hlen : len₂ = len := by rw [hdg] at hd₂; cases hd₂; rfl
      subst hlen
      have hs₂ : s₂ = (({ U with heap := s₂.heap, slotsUsed := s₂.slotsUsed } : State).setVm s₂.vm).setTop { g with pc := g.pc + len₂, stack := v.toList ++ g.stack } := by
        refine e3.trans ?_
        rw [hf₂, State.calling_eq h.top, State.setFrames_setFrames, State.setTop_of_frames _ hr', hr]
        rfl
      rw [← hs₂]
      exact hsteps
    | threw x =>
      refine Or.inr ⟨x, rfl, ?_⟩
      have hf₂ : s₂.frames = .throwing x :: .java g :: U.frames.tail := hend
      have hs₂ : s₂ = ((({ U with heap := s₂.heap, slotsUsed := s₂.slotsUsed } : State).setVm s₂.vm).setTop g).pushFrame (.throwing x) := by
        refine e3.trans ?_
        rw [hf₂, State.calling_eq h.top, State.setFrames_setFrames, State.pushFrame, State.frames_setTop _ hr', State.setTop_of_frames _ hr', State.setFrames_setFrames, hr]
        rfl
      rw [← hs₂]
      exact hsteps
