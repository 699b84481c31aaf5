/-! THE KINDS OF INVOCATION -/
theorem rp_recv {G : Gh} {h : AH} {H : Heap} {s : State} {b c : Nat} (hR : Rp G h H) (hW : WS G s) (hc : c < 56) (hb : hK h b = c + 1) : ∃ cell : Cell, H[b]? = some cell ∧ cell.vm.isStatics = false ∧ s.vm.findClass (cname c) = some cell.cls := by
  obtain ⟨dom, hm, hP, hD, hmo⟩ := hR
  obtain ⟨k, -, hk⟩ := wl_at (G := G) (h := h) ((hm b).mpr (by omega))
  rw [ent_obj hc hb] at hk
  exact va_recv hW.1.1 hP (cl_at hc) hk
section
variable {G : Gh} {μ ν : Mu} {d pc index b k : Nat} {st : List Value} {h : AH} {av : List Value} {x : MethodName}
/-- an object's own method (private, final, or not overridden): the entry names it -/
theorem inv_V (hd : decode (mC μ) pc = .ok (.invokevirtual index, 3)) (hlink : Cond.methodLink (mY μ).cls index (mY ν) ∈ lw_all) (hinst : Cond.instanceMethod (mY ν) ∈ lw_all) (hsel : Cond.selects (cname k) (mY ν) (mY ν) ∈ lw_all) (hν : mW ν ∈ lw_all)
    (hy : (mY ν).cls ≠ "java/lang/invoke/MethodHandle" ∧ (mY ν).cls ≠ "java/lang/invoke/VarHandle") (hlen : ((parseMethodDescriptor (mY ν).desc).map fun q => q.parameters.length) = some av.length) (hk : k < 56) (hb : hK h b = k + 1) : Inv G μ ν d pc st (av.reverse ++ .ref b :: st) (.ref b :: av) h := by
  intro l p e R s m args below meth c c0 s0 T locs cells slots ls F hR hS0 XS hsz
  obtain ⟨⟨f1, f2, f3, f4, f5, f6, f7⟩, ⟨w1, w2, w3, w4⟩, r1, r2, r3, r4⟩ := F
  obtain ⟨cellB, hcell, hobj, hcls⟩ := rp_recv hR w1 hk hb
  obtain ⟨mk, methM, hnamed, hmethM, hstM, habM⟩ := Cond.instanceMethod_spec (f6 _ hinst)
  obtain ⟨methM', cM, hmethM', -, -, -, -, -, hsigM⟩ := mW_spec hnamed (f6 _ hν)
  cases hmethM.symm.trans hmethM'
  obtain ⟨c2, r2, m2, q1, q2, q3, q4, kP, hkP, hkPi⟩ := Cond.selects_spec (f6 _ hsel)
  cases hcls.symm.trans q1
  cases (State.methodFound?_of_named hnamed hy).symm.trans q2
  cases hnamed.symm.trans q3
  have hselP : selectMethod e.platform s.vm cellB.cls mk = .method mk := by rw [Launch.admits_selectMethod XS.admits]; exact q4
  have hl : av.length = methM.sig.parameters.length := by
    rw [hsigM] at hlen
    exact (Option.some.inj hlen).symm
  obtain ⟨vm₁, X₁, hstep₁⟩ := XS.invokevirtual f1 f5 (f6 _ hlink) hnamed hmethM hstM hkP hkPi hy (a := b) (cell := cellB) hcell
    (fun z h => by rw [h] at hobj; cases hobj) hselP hmethM habM hkP hkPi (g := F0 m pc ls (av.reverse ++ .ref b :: st)) rfl (argsL := av) (rest := st) hl rfl (by rw [f2]; exact hd)
  exact ⟨vm₁, mk, X₁.warmed, hnamed, X₁, fun target hs => hstep₁ _ fun acts => by rw [doInvoke_state]; exact hs⟩
/-- a method that a class above declares (abstract there): the object's class selects y -/
theorem inv_U (hd : decode (mC μ) pc = .ok (.invokevirtual index, 3)) (hlink : Cond.methodLink (mY μ).cls index x ∈ lw_all) (hsame : Cond.sameMethod x.cls x.cls x.name x.desc ∈ lw_all) (hdecl : x ∈ dcL) (hinst : Cond.instanceMethod (mY ν) ∈ lw_all) (hsel : Cond.selects (cname k) x (mY ν) ∈ lw_all)
    (hy : x.cls ≠ "java/lang/invoke/MethodHandle" ∧ x.cls ≠ "java/lang/invoke/VarHandle") (hlen : ((parseMethodDescriptor x.desc).map fun q => q.parameters.length) = some av.length) (hk : k < 56) (hb : hK h b = k + 1) : Inv G μ ν d pc st (av.reverse ++ .ref b :: st) (.ref b :: av) h := by
  intro l p e R s m args below meth c c0 s0 T locs cells slots ls F hR hS0 XS hsz
  obtain ⟨⟨f1, f2, f3, f4, f5, f6, f7⟩, ⟨w1, w2, w3, w4⟩, r1, r2, r3, r4⟩ := F
  obtain ⟨cellB, hcell, hobj, hcls⟩ := rp_recv hR w1 hk hb
  obtain ⟨r0, r, hn, hrm, hstR, hsigR⟩ := Cond.declares_spec (va_Nw.use (A := args) rfl (w1.2.1.2.2.1 x hdecl))
  obtain ⟨cn, ck, r1, hcn, hck, hni, hf, hn1⟩ := Cond.sameMethod_found (f6 _ hsame)
  cases hn.symm.trans hn1
  obtain ⟨mk, methM, hnamed, hmethM, -, habM⟩ := Cond.instanceMethod_spec (f6 _ hinst)
  obtain ⟨c2, r2, m2, q1, q2, q3, q4, kP, hkP, hkPi⟩ := Cond.selects_spec (f6 _ hsel)
  cases hcls.symm.trans q1
  cases hf.symm.trans q2
  cases hnamed.symm.trans q3
  have hselP : selectMethod e.platform s.vm cellB.cls r0 = .method mk := by rw [Launch.admits_selectMethod XS.admits]; exact q4
  have hl : av.length = r.sig.parameters.length := by
    rw [hsigR] at hlen
    exact (Option.some.inj hlen).symm
  obtain ⟨vm₁, X₁, hstep₁⟩ := XS.invokevirtualUp f1 f5 (f6 _ hlink) (f6 _ hsame) hy hn hrm hstR (a := b) (cell := cellB) hcell
    (fun z h => by rw [h] at hobj; cases hobj) hselP hmethM habM hkP hkPi (g := F0 m pc ls (av.reverse ++ .ref b :: st)) rfl (argsL := av) (rest := st) hl rfl (by rw [f2]; exact hd)
  exact ⟨vm₁, mk, X₁.warmed, hnamed, X₁, fun target hs => hstep₁ _ fun acts => by rw [doInvoke_state]; exact hs⟩
/-- a method that a class above has (not abstract there, by its own row ξ): the object's class selects y -/
theorem inv_O {ξ : Mu} (hd : decode (mC μ) pc = .ok (.invokevirtual index, 3)) (hlink : Cond.methodLink (mY μ).cls index (mY ξ) ∈ lw_all) (hsame : Cond.sameMethod (mY ξ).cls (mY ξ).cls (mY ξ).name (mY ξ).desc ∈ lw_all) (hix : Cond.instanceMethod (mY ξ) ∈ lw_all) (hξ : mW ξ ∈ lw_all) (hinst : Cond.instanceMethod (mY ν) ∈ lw_all) (hsel : Cond.selects (cname k) (mY ξ) (mY ν) ∈ lw_all)
    (hy : (mY ξ).cls ≠ "java/lang/invoke/MethodHandle" ∧ (mY ξ).cls ≠ "java/lang/invoke/VarHandle") (hlen : ((parseMethodDescriptor (mY ξ).desc).map fun q => q.parameters.length) = some av.length) (hk : k < 56) (hb : hK h b = k + 1) : Inv G μ ν d pc st (av.reverse ++ .ref b :: st) (.ref b :: av) h := by
  intro l p e R s m args below meth c c0 s0 T locs cells slots ls F hR hS0 XS hsz
  obtain ⟨⟨f1, f2, f3, f4, f5, f6, f7⟩, ⟨w1, w2, w3, w4⟩, r1, r2, r3, r4⟩ := F
  obtain ⟨cellB, hcell, hobj, hcls⟩ := rp_recv hR w1 hk hb
  obtain ⟨r0, r, hn, hrm, hstR, -⟩ := Cond.instanceMethod_spec (f6 _ hix)
  obtain ⟨r', cX, hrm', -, -, -, -, -, hsigR⟩ := mW_spec hn (f6 _ hξ)
  cases hrm.symm.trans hrm'
  obtain ⟨cn, ck, r1, hcn, hck, hni, hf, hn1⟩ := Cond.sameMethod_found (f6 _ hsame)
  cases hn.symm.trans hn1
  obtain ⟨mk, methM, hnamed, hmethM, -, habM⟩ := Cond.instanceMethod_spec (f6 _ hinst)
  obtain ⟨c2, r2, m2, q1, q2, q3, q4, kP, hkP, hkPi⟩ := Cond.selects_spec (f6 _ hsel)
  cases hcls.symm.trans q1
  cases hf.symm.trans q2
  cases hnamed.symm.trans q3
  have hselP : selectMethod e.platform s.vm cellB.cls r0 = .method mk := by rw [Launch.admits_selectMethod XS.admits]; exact q4
  have hl : av.length = r.sig.parameters.length := by
    rw [hsigR] at hlen
    exact (Option.some.inj hlen).symm
  obtain ⟨vm₁, X₁, hstep₁⟩ := XS.invokevirtualUp f1 f5 (f6 _ hlink) (f6 _ hsame) hy hn hrm hstR (a := b) (cell := cellB) hcell
    (fun z h => by rw [h] at hobj; cases hobj) hselP hmethM habM hkP hkPi (g := F0 m pc ls (av.reverse ++ .ref b :: st)) rfl (argsL := av) (rest := st) hl rfl (by rw [f2]; exact hd)
  exact ⟨vm₁, mk, X₁.warmed, hnamed, X₁, fun target hs => hstep₁ _ fun acts => by rw [doInvoke_state]; exact hs⟩
theorem inv_S (hd : decode (mC μ) pc = .ok (.invokestatic index, 3)) (hlink : Cond.methodLink (mY μ).cls index (mY ν) ∈ lw_all) (hstat : Cond.static (mY ν) ∈ lw_all) (hinit : Cond.initialized (mY ν).cls ∈ lw_all) (hν : mW ν ∈ lw_all)
    (hy : (mY ν).cls ≠ "java/lang/invoke/MethodHandle" ∧ (mY ν).cls ≠ "java/lang/invoke/VarHandle") (hlen : ((parseMethodDescriptor (mY ν).desc).map fun q => q.parameters.length) = some av.length) : Inv G μ ν d pc st (av.reverse ++ st) av h := by
  intro l p e R s m args below meth c c0 s0 T locs cells slots ls F hR hS0 XS hsz
  obtain ⟨⟨f1, f2, f3, f4, f5, f6, f7⟩, ⟨w1, w2, w3, w4⟩, r1, r2, r3, r4⟩ := F
  obtain ⟨mk, hnamed⟩ : ∃ mk, s.methodNamed? (mY ν) = some mk := by
    have hw := f6 _ hν
    unfold mW at hw
    split at hw
    · exact Cond.code_named hw
    · obtain ⟨m', _, _, g0, _⟩ := Cond.codeWith_spec hw
      exact ⟨m', g0⟩
  obtain ⟨methM, cM, hmethM, -, -, -, -, -, hsigM⟩ := mW_spec hnamed (f6 _ hν)
  have hstatic : methM.isStatic = true := Cond.static_spec hnamed hmethM (f6 _ hstat)
  obtain ⟨kP, hkP, -⟩ := className_of_methodNamed hnamed
  have hinitP : kP.init = .initialized := Cond.initialized_spec (findClass_of_methodNamed hnamed) hkP (f6 _ hinit)
  have hl : av.length = methM.sig.parameters.length := by
    rw [hsigM] at hlen
    exact (Option.some.inj hlen).symm
  obtain ⟨vm₁, X₁, hstep₁⟩ := XS.invokestatic f1 f5 (f6 _ hlink) hnamed hmethM hstatic hkP hinitP hy (g := F0 m pc ls (av.reverse ++ st)) rfl (argsL := av) (rest := st) hl rfl (by rw [f2]; exact hd)
  exact ⟨vm₁, mk, X₁.warmed, hnamed, X₁, fun target hs => hstep₁ _ fun acts => by rw [doInvoke_state]; exact hs⟩
/-- a constructor -/
theorem inv_I {code : ByteArray} {nl : Nat} (hd : decode (mC μ) pc = .ok (.invokespecial index, 3)) (hlink : Cond.methodLink (mY μ).cls index (mY ν) ∈ lw_all) (hinst : Cond.instanceMethod (mY ν) ∈ lw_all) (hν : Cond.code (mY ν) code nl none ∈ lw_all) (hini : (mY ν).name = "<init>")
    (hy : (mY ν).cls ≠ "java/lang/invoke/MethodHandle" ∧ (mY ν).cls ≠ "java/lang/invoke/VarHandle") (hlen : ((parseMethodDescriptor (mY ν).desc).map fun q => q.parameters.length) = some av.length) : Inv G μ ν d pc st (av.reverse ++ .ref b :: st) (.ref b :: av) h := by
  intro l p e R s m args below meth c c0 s0 T locs cells slots ls F hR hS0 XS hsz
  obtain ⟨⟨f1, f2, f3, f4, f5, f6, f7⟩, ⟨w1, w2, w3, w4⟩, r1, r2, r3, r4⟩ := F
  have hpl : e.platform.magicAccessors = ({} : Platform).magicAccessors := by rw [XS.admits.platform]
  have hl : ∀ sig, parseMethodDescriptor (mY ν).desc = some sig → av.length = sig.parameters.length := by
    intro sig hs
    rw [hs] at hlen
    exact (Option.some.inj hlen).symm
  obtain ⟨mk, methM, cM, kP, vm₁, hnamed, hmethM, hcodeM, -, hlocalsM, -, hkP, -, hW₁, hstep₁⟩ := Steps.initColdArgs (e := e) XS.here f1 XS.warmed hpl f5 hini hy (f6 _ hlink) (f6 _ hinst) (f6 _ hν) (f := F0 m pc ls (av.reverse ++ .ref b :: st)) rfl hl rfl (by rw [f2]; exact hd)
  have X₁ := XS.noted hW₁
  exact ⟨vm₁, mk, X₁.warmed, hnamed, X₁, fun target hs => hstep₁ _ fun acts => by rw [doInvoke_state]; exact hs⟩
end
