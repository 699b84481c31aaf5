section
variable {G : Gh} {μ ν : Mu} {d pc pc' : Nat} {ex : Option Nat} {Fr : List Nat} {L L' : List (Nat × Value)} {st stk av : List Value} {h : AH} {Q : Outcome → AH → Prop} {i : Instr}
theorem x_newq {n : Int32} {index t : Nat} {E : String} (hd : decode (mC μ) pc = .ok (.anewarray index, 3)) (hw : Cond.classLink (mY μ).cls index E ∈ lw_all) (hE : E ∈ aoL) (ht : 4 ≤ t) (hC : tyL[t]? = some (.object E)) (hp : pc + 3 = pc') (hn : ¬ n < 0) (hA : (mM μ).testBit 399 = true) (hm1 : hc h + 1 ≤ MC) (hm2 : hs h + n.toNatClampNeg ≤ MS) (kk : ∀ q h', hK h q = 0 → h' = nA h q t n.toNatClampNeg → X G μ d ex (q :: Fr) pc' L (.ref q :: st) h' Q) : X G μ d ex Fr pc L (.int n :: st) h Q := by
  subst hp
  intro l p e R s m args below meth c h0 H locs ls F hR hS hl h1 h2 hb
  obtain ⟨dom, hm, hP, hD, hmo⟩ := id hR
  have r3 := F.2.2.2.2.1
  have r4 := F.2.2.2.2.2
  have t1 := h1.1.1.1
  have t2 := h1.1.1.2
  refine va_newq (C := E) (N' := n.toNatClampNeg) F.1.1 F.1.2.1 F.1.2.2.2.2.1 (F.1.2.2.2.2.2.1 _ hw) (F.2.1.1.2.1.2.1 _ hE) F.2.1.1.1.1 hP hD hS (fun q hq => Nat.le_trans F.2.1.1.1.2.2 hq) hn rfl (by unfold MS at hm2; omega) (by omega) (by omega) hd (fun q cA H1 hK1 hP1 hD1 hS1 => ?_)
  have hcA : cA = ((gT G).getD t (0, .int)).1 := by
    obtain ⟨_, _, _, _, _, a1⟩ := (hK1.2 (gT G).length (cA, .object E) (by simp)).2
    obtain ⟨_, _, _, _, _, a2⟩ := (F.2.1.1.1.1.2 t _ (gT_at F.2.1.1 (t := t) hC)).2
    exact Option.some.inj (a1.symm.trans a2)
  subst hcA
  have hE : ent G (nA h q t n.toNatClampNeg) q = .inl (((gT G).getD t (0, .int)).1, n.toNatClampNeg, .inr (.inr (.inr (.inr (fun _ => none))))) := by
    rw [ent_arr (t := t) (by simp [nA, hK, up1])]
    have z1 : hL (nA h q t n.toNatClampNeg) q = n.toNatClampNeg := by simp [nA, hL, up1]
    have z2 : acon (nA h q t n.toNatClampNeg) q t = .inr (.inr (.inr (.inr (fun _ => none)))) := by
      unfold acon
      rw [if_neg (by omega), if_neg (by omega)]
      have : aR (nA h q t n.toNatClampNeg) q = fun _ => none := by funext y; simp [nA, aR, upr]
      rw [this]
    rw [z1, z2]
  rw [← hE] at hP1 hD1
  obtain ⟨hR1, hq0⟩ := Rp.of_push (h' := nA h q t n.toNatClampNeg) hm (by simp [nA, hK, up1]) (fun x hx => by simp [nA, hK, up1, hx]) (fun x hx => by apply ent_other <;> first | rfl | (funext y; simp [nA, aI, aJ, aR, upr, hx]) | simp [nA, hK, hL, up1, hx]) hP1 hD1 (Mo.no rfl)
  have := kk q _ hq0 rfl l p e R s m args below meth c h0 H1 locs ls F hR1 hS1 hl (h1.tr (nA_lm hA hq0)) (fun x hx => (List.mem_cons.mp hx).elim (fun z => by rw [z]; exact h1.fresh hq0) (h2 x)) ⟨hm1, hm2⟩
  have e1 : hc (nA h q t n.toNatClampNeg) - hc h0 = hc h - hc h0 + 1 := by show hc h + 1 - hc h0 = _; omega
  have e2 : hs (nA h q t n.toNatClampNeg) - hs h0 = hs h - hs h0 + n.toNatClampNeg := by show hs h + _ - hs h0 = _; omega
  rw [e1, e2] at this
  exact this
/-- a private constructor of a nest mate -/
theorem inv_N {b index : Nat} {code : ByteArray} {nl : Nat} {host : String} (hd : decode (mC μ) pc = .ok (.invokespecial index, 3)) (hlink : ((mY μ).cls, index, mY ν, host) ∈ mnL) (hinst : Cond.instanceMethod (mY ν) ∈ lw_all) (hν : Cond.code (mY ν) code nl none ∈ lw_all) (hini : (mY ν).name = "<init>")
    (hy : (mY ν).cls ≠ "java/lang/invoke/MethodHandle" ∧ (mY ν).cls ≠ "java/lang/invoke/VarHandle") (hlen : ((parseMethodDescriptor (mY ν).desc).map fun q => q.parameters.length) = some av.length) : Inv G μ ν d pc st (av.reverse ++ .ref b :: st) (.ref b :: av) h := by
  intro l p e R s m args below meth c c0 s0 T locs cells slots ls F hR hS0 XS hsz
  obtain ⟨⟨f1, f2, f3, f4, f5, f6, f7⟩, ⟨w1, w2, w3, w4⟩, r1, r2, r3, r4⟩ := F
  have hpl : e.platform.magicAccessors = ({} : Platform).magicAccessors := by rw [XS.admits.platform]
  have hl : ∀ sig, parseMethodDescriptor (mY ν).desc = some sig → av.length = sig.parameters.length := by
    intro sig hs
    rw [hs] at hlen
    exact (Option.some.inj hlen).symm
  obtain ⟨mk, methM, cM, kP, vm₁, hnamed, hmethM, hcodeM, -, hlocalsM, -, hkP, -, hW₁, hstep₁⟩ := Steps.initColdArgsNest (e := e) XS.here f1 XS.warmed hpl f5 hini hy (va_Nw.use (A := args) rfl (w1.2.1.2.2.2 _ hlink)) (f6 _ hinst) (f6 _ hν) (f := F0 m pc ls (av.reverse ++ .ref b :: st)) rfl hl rfl (by rw [f2]; exact hd)
  have X₁ := XS.noted hW₁
  exact ⟨vm₁, mk, X₁.warmed, hnamed, X₁, fun target hs => hstep₁ _ fun acts => by rw [doInvoke_state]; exact hs⟩
end
/-! how a call goes on, by the kind of its answer -/
def KV (Q : Outcome → AH → Prop) (f : AH → Prop) : Outcome → AH → Prop := fun o h => (o = .returned none ∧ f h) ∨ (∃ a, o = .threw a ∧ Q (.threw a) h)
def KI (Q : Outcome → AH → Prop) (f : Int32 → AH → Prop) : Outcome → AH → Prop := fun o h => (∃ x, o = .returned (some (.int x)) ∧ f x h) ∨ (∃ a, o = .threw a ∧ Q (.threw a) h)
def KJ (Q : Outcome → AH → Prop) (f : Int64 → AH → Prop) : Outcome → AH → Prop := fun o h => (∃ x, o = .returned (some (.long x)) ∧ f x h) ∨ (∃ a, o = .threw a ∧ Q (.threw a) h)
def KR (Q : Outcome → AH → Prop) (f : Nat → AH → Prop) : Outcome → AH → Prop := fun o h => (∃ x, o = .returned (some (.ref x)) ∧ f x h) ∨ (∃ a, o = .threw a ∧ Q (.threw a) h)
/-- a reference or null -/
def KN (Q : Outcome → AH → Prop) (f0 : AH → Prop) (f : Nat → AH → Prop) : Outcome → AH → Prop := fun o h => (o = .returned (some .null) ∧ f0 h) ∨ (∃ x, o = .returned (some (.ref x)) ∧ f x h) ∨ (∃ a, o = .threw a ∧ Q (.threw a) h)
section
variable {Q : Outcome → AH → Prop} {o : Outcome} {h : AH}
theorem KV.g {f : AH → Prop} {k : Option Value → AH → Prop} (hk : ∀ h, f h → k none h) (h1 : KV Q f o h) : KG Q k o h := by
  rcases h1 with ⟨e, q⟩ | q
  · exact Or.inl ⟨none, e, hk h q⟩
  · exact Or.inr q
theorem KI.g {f : Int32 → AH → Prop} {k : Option Value → AH → Prop} (hk : ∀ x h, f x h → k (some (.int x)) h) (h1 : KI Q f o h) : KG Q k o h := by
  rcases h1 with ⟨x, e, q⟩ | q
  · exact Or.inl ⟨_, e, hk x h q⟩
  · exact Or.inr q
theorem KJ.g {f : Int64 → AH → Prop} {k : Option Value → AH → Prop} (hk : ∀ x h, f x h → k (some (.long x)) h) (h1 : KJ Q f o h) : KG Q k o h := by
  rcases h1 with ⟨x, e, q⟩ | q
  · exact Or.inl ⟨_, e, hk x h q⟩
  · exact Or.inr q
theorem KR.g {f : Nat → AH → Prop} {k : Option Value → AH → Prop} (hk : ∀ x h, f x h → k (some (.ref x)) h) (h1 : KR Q f o h) : KG Q k o h := by
  rcases h1 with ⟨x, e, q⟩ | q
  · exact Or.inl ⟨_, e, hk x h q⟩
  · exact Or.inr q
theorem KN.g {f0 : AH → Prop} {f : Nat → AH → Prop} {k : Option Value → AH → Prop} (hk0 : ∀ h, f0 h → k (some .null) h) (hk : ∀ x h, f x h → k (some (.ref x)) h) (h1 : KN Q f0 f o h) : KG Q k o h := by
  rcases h1 with ⟨e, q⟩ | ⟨x, e, q⟩ | q
  · exact Or.inl ⟨_, e, hk0 h q⟩
  · exact Or.inl ⟨_, e, hk x h q⟩
  · exact Or.inr q
end
/-- a reference that isn't null -/
def NN (r : Option Nat) (k : Nat → Prop) : Prop := ∃ b, r = some b ∧ k b
/-- a reference or null -/
def OC (r : Option Nat) (a : Prop) (k : Nat → Prop) : Prop := (r = none → a) ∧ ∀ b, r = some b → k b
/-- a new cell's address: nothing was there -/
def NW (h : AH) (n : Nat) (k : Nat → Prop) : Prop := hc h + 1 ≤ MC ∧ hs h + n ≤ MS ∧ ∀ q, hK h q = 0 → k q
def Br (c a b : Prop) : Prop := (c → a) ∧ (¬ c → b)
