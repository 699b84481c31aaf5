/-- how a call goes on: f behind a return; a throw leaves the caller, too -/
def KG (Q : Outcome → AH → Prop) (f : Option Value → AH → Prop) : Outcome → AH → Prop := fun o h => (∃ v, o = .returned v ∧ f v h) ∨ (∃ a, o = .threw a ∧ Q (.threw a) h)
theorem mW_spec {ν : Mu} {s : State} {args : Array Value} {m : MethodId} (hn : s.methodNamed? (mY ν) = some m) (hw : (mW ν).before args s = true) : ∃ meth c, s.vm.method? m = some meth ∧ meth.code = some c ∧ c.code = mC ν ∧ c.maxLocals = mL ν ∧ meth.sig.returnType = mR ν ∧ meth.locks = false ∧ parseMethodDescriptor (mY ν).desc = some meth.sig := by
  unfold mW at hw
  split at hw
  · obtain ⟨meth, c, h1, h2, h3, h4, h5, h6, h7, h8⟩ := Cond.code_spec hn hw
    exact ⟨meth, c, h1, h2, h3, h4, h5, h6, h8⟩
  · obtain ⟨m', meth, c, g0, h1, h2, h3, h4, h5, h6, h7, h8⟩ := Cond.codeWith_spec hw
    cases hn.symm.trans g0
    exact ⟨meth, c, h1, h2, h3, h4, h6, h7, h8⟩
theorem lw_move {w : Cond} (h : w ∈ lw_all) {args a' : Array Value} {s U : State} (hW : s.WarmedH U.vm) (hs : w.before args s = true) : w.before a' U = true :=
  word_at hW (good_of_word (List.mem_filter.mp h).2) hs
section
variable {G : Gh} {μ ν : Mu} {d pc : Nat} {ex : Option Nat} {Fr : List Nat} {L : List (Nat × Value)} {st stk : List Value} {h : AH} {Q : Outcome → AH → Prop} {av : List Value} {i : Instr}
/-- what a kind of invocation must show: it comes to the callee's entry -/
def Inv (G : Gh) (μ ν : Mu) (d pc : Nat) (st stk av : List Value) (h : AH) : Prop :=
  ∀ (l : Launch) (p : Program) (e : Env) (R : Room) (s : State) (m : MethodId) (args : Array Value) (below : List Frame) (meth : Method) (c : Code) (c0 s0 : Nat) (T : State) (locs : List Loc) (cells slots : Nat) (ls : Array Slot),
    Fix G μ (d + 1) l p R s m args meth c c0 s0 → Rp G h T.heap → va_S (gA G) s.heap T.heap locs → Stand p l e R s m args below meth c T locs cells slots → ls.size = c.maxLocals →
    ∃ (vm₁ : Vm) (mk : MethodId), s.WarmedH vm₁ ∧ s.methodNamed? (mY ν) = some mk ∧ Stand p l e R s m args below meth c (T.setVm vm₁) locs cells slots ∧
      ∀ target, Steps p.tables e below (doInvoke e ((T.setVm vm₁).setTop (F0 m pc ls st)) [] mk av.toArray).1 target → Steps p.tables e below (T.setTop (F0 m pc ls stk)) target
/-- does an entry cover the pc? -/
def cov (hs : List (Nat × Nat × Nat × Nat)) (pc : Nat) : Bool := hs.any fun q => decide (q.1 ≤ pc) && decide (pc < q.2.1)
/-- a throw is under way at pc -/
def XT (G : Gh) (μ : Mu) (d : Nat) (ex : Option Nat) (Fr : List Nat) (pc : Nat) (L : List (Nat × Value)) (a : Nat) (h : AH) (Q : Outcome → AH → Prop) : Prop :=
  ∀ (l : Launch) (p : Program) (e : Env) (R : Room) (s : State) (m : MethodId) (args : Array Value) (below : List Frame) (meth : Method) (c : Code) (h0 : AH) (H : Heap) (locs : List Loc) (ls : Array Slot) (st : List Value),
    Fix G μ d l p R s m args meth c (hc h0) (hs h0) → Rp G h H → va_S (gA G) s.heap H locs → lv_has ls (mL μ) L → Lm (gW G) (mM μ) h0 h ex → (∀ q ∈ Fr, hK h0 q = 0) → Bd h →
    ∀ T : State, T.heap = H → Stand p l e R s m args below meth c T locs (hc h - hc h0) (hs h - hs h0) → ∃ t, Steps p.tables e below ((T.setTop (F0 m pc ls st)).pushFrame (.throwing a)) t ∧ XQ G (mM μ) s below h0 ex Q t
theorem cov_out {c : Code} (h3 : c.exceptionTable.toList.map (fun h => (h.startPc, h.endPc, h.handlerPc, h.catchType)) = mH μ) (hH : cov (mH μ) pc = false) : ∀ y ∈ c.exceptionTable.toList, covers y pc = false := by
  intro y hy
  rw [← h3] at hH
  have := List.any_eq_false.mp hH _ (List.mem_map.mpr ⟨y, hy, rfl⟩)
  simpa [covers] using this
theorem XT.leave {a : Nat} (hH : cov (mH μ) pc = false) (kk : Q (.threw a) h) : XT G μ d ex Fr pc L a h Q := by
  intro l p e R s m args below meth c h0 H locs ls st F hR hS hl h1 h2 hb T hT XS
  subst hT
  obtain ⟨l1, l2, l3, l4, l5⟩ := XS.leaveThrown a (g := F0 m pc ls st) rfl rfl rfl (cov_out F.2.1.2.2.1 hH) F.1.2.2.2.2.2.2
  exact ⟨_, l1, .threw a, h, locs, l2, l3, kk, hR, l4, l5, hS.2.2, h1, hb⟩
theorem x_inv0 (hM : mM ν &&& mM μ = mM ν) (hd : decode (mC μ) pc = .ok (i, 3)) (hW : (st.map fun v => v.category).sum + mL ν ≤ 30) (hν : mW ν ∈ lw_all) (hini : Cond.initialized (mY ν).cls ∈ lw_all)
    (hI : Inv G μ ν d pc st stk av h) (hx : ∀ b, exOf ν av = some b → b ∈ Fr ∨ ex = some b) {pc' : Nat} (hp : pc + 3 = pc') (hcall : C G ν d av h (fun o h' => Le h h' (exOf ν av) → (∀ v, o = .returned v → X G μ (d + 1) ex Fr pc' L (v.toList ++ st) h' Q) ∧ (∀ a, o = .threw a → XT G μ (d + 1) ex Fr pc L a h' Q))) : X G μ (d + 1) ex Fr pc L stk h Q := by
  subst hp
  intro l p e R s m args below meth c h0 H locs ls F hR hS hl h1 h2 hb T hT XS
  subst hT
  obtain ⟨⟨f1, f2, f3, f4, f5, f6, f7⟩, ⟨w1, w2, w3, w4⟩, r1, r2, r3, r4⟩ := id F
  obtain ⟨vm₁, mk, hW1, hnm, X₁, hst⟩ := hI l p e R s m args below meth c (hc h0) (hs h0) T locs _ _ ls F hR hS XS (hl.1.trans f4.symm)
  have hW1' : s.WarmedH (T.setVm vm₁).vm := hW1
  have hnU : (T.setVm vm₁).methodNamed? (mY ν) = some mk := X₁.named hnm
  have hcode : (mW ν).before av.toArray (T.setVm vm₁) = true := lw_move hν hW1' (f6 _ hν)
  have hini' : (Cond.initialized (mY ν).cls).before av.toArray (T.setVm vm₁) = true := lw_move hini hW1' (f6 _ hini)
  obtain ⟨methY, cY, q1, q2, q3, q4, -⟩ := mW_spec hnU hcode
  obtain ⟨kY, hkY, -⟩ := className_of_methodNamed hnU
  have hinitY : kY.init = .initialized := Cond.initialized_spec (findClass_of_methodNamed hnU) hkY hini'
  have hvm : ∀ g : JFrame, ((T.setVm vm₁).calling g mk av.toArray).vm = vm₁ := fun g => rfl
  have hheap : ∀ g : JFrame, ((T.setVm vm₁).calling g mk av.toArray).heap = T.heap := fun g => rfl
  have hWS : ∀ g : JFrame, WS G ((T.setVm vm₁).calling g mk av.toArray) := fun g => w1.moved (U := (T.setVm vm₁).calling g mk av.toArray) hW1' hS.1 (fun a ha hn => hS.2.1 a ha hn)
  obtain ⟨o, t, T', L0, k0, n0, hq, hh, hv, hWt, hsb, hX, hend⟩ := call_both (hcall hb l w2) X₁ (g := F0 m pc ls st) (ig := i) (len := 3) (mk := mk) (a := av.toArray) (methY := methY) (cY := cY) (kY := kY) (maxL := mL ν) rfl (hl.1.trans f4.symm) (by rw [f2]; exact hd)
    hnU q1 q2 q4 hkY hinitY (by show d + 1 ≤ R.frames; exact r1) (by show 2 * 0 + (st.map fun v => v.category).sum + (mL ν + 11) + 41 * d ≤ R.locals; omega) (by show hc h - hc h0 + (MC - hc h) ≤ R.cells; have := h1.1.1.1; have := hb.1; omega) (by show hs h - hs h0 + (MS - hs h) ≤ R.slots; have := h1.1.1.2; have := hb.2; omega)
    (atoms_intro fun w hw => by
      rcases List.mem_cons.mp hw with rfl | hw
      · exact hcode
      · exact lw_move hw hW1' (f6 _ hw))
    ⟨rfl, hR, hWS _⟩
    (fun o t ⟨h', L', _, _, b3, b4, _⟩ => ⟨L', _, _, b3, b4, trivial⟩)
  obtain ⟨h', L', a1, a2, a3, a4, a5, a6, a7⟩ := hq
  have hle : Lm (gW G) (mM μ) h0 h' ex := by
    refine h1.trans (a6.weak hM) fun x hx0 hne he => ?_
    rcases hx x he.symm with hf | hf
    · exact hx0 (h2 x hf)
    · exact hne hf.symm
  have X' := hX L' _ _ a4
  have hkeep : ∀ q : Nat, q < s.heap.size → ¬ gA G q → T'.heap[q]? = s.heap[q]? := by
    intro q hq hn
    have hlt : q < T.heap.size := Nat.lt_of_lt_of_le hq hS.1
    have := kept_of_same (keep := fun a => ¬ gA G a) a4 (fun x hx hk => hk (a5 x hx)) q T.heap[q] hn (Array.getElem?_eq_getElem hlt)
    rw [hh, ← hS.2.1 q hq hn]
    exact this.trans (Array.getElem?_eq_getElem hlt).symm
  have hsz : s.heap.size ≤ T'.heap.size := by
    have := a4.2.1
    have h3 : T.heap.size ≤ t.heap.size := this
    rw [hh]
    exact Nat.le_trans hS.1 h3
  have hlocs : ∀ x ∈ locs ++ L', gA G x.base := fun x hx => (List.mem_append.mp hx).elim (hS.2.2 x) (a5 x)
  have ec : hc h - hc h0 + (hc h' - hc h) = hc h' - hc h0 := by have := h1.1.1.1; have := a6.1.1.1; omega
  have es : hs h - hs h0 + (hs h' - hs h) = hs h' - hs h0 := by have := h1.1.1.2; have := a6.1.1.2; omega
  rw [ec, es] at X'
  rcases hend with ⟨v, rfl, hs⟩ | ⟨x, rfl, hs⟩
  · obtain ⟨t2, b1, b2⟩ := (a1 a6.1).1 v rfl l p e R s m args below meth c h0 T'.heap (locs ++ L') ls F (hh ▸ a2) ⟨hsz, hkeep, hlocs⟩ hl hle h2 a7 T' rfl X'
    exact ⟨t2, hst _ (hs.trans b1), b2⟩
  · obtain ⟨t2, b1, b2⟩ := (a1 a6.1).2 x rfl l p e R s m args below meth c h0 T'.heap (locs ++ L') ls st F (hh ▸ a2) ⟨hsz, hkeep, hlocs⟩ hl hle h2 a7 T' rfl X'
    exact ⟨t2, hst _ (hs.trans b1), b2⟩
theorem x_inv (hH : cov (mH μ) pc = false) (hM : mM ν &&& mM μ = mM ν) (hd : decode (mC μ) pc = .ok (i, 3)) (hW : (st.map fun v => v.category).sum + mL ν ≤ 30) (hν : mW ν ∈ lw_all) (hini : Cond.initialized (mY ν).cls ∈ lw_all)
    (hI : Inv G μ ν d pc st stk av h) (hx : ∀ b, exOf ν av = some b → b ∈ Fr ∨ ex = some b) {pc' : Nat} (hp : pc + 3 = pc') (hcall : C G ν d av h (KG Q (fun v h' => Le h h' (exOf ν av) → X G μ (d + 1) ex Fr pc' L (v.toList ++ st) h' Q))) : X G μ (d + 1) ex Fr pc L stk h Q := by
  refine x_inv0 hM hd hW hν hini hI hx hp (hcall.mono fun o h' k hle => ⟨fun v e => ?_, fun a e => ?_⟩)
  · rcases k with ⟨v', e1, k1⟩ | ⟨a', e1, -⟩
    · cases e1.symm.trans e
      exact k1 hle
    · cases e1.symm.trans e
  · rcases k with ⟨v', e1, -⟩ | ⟨a', e1, k1⟩
    · cases e1.symm.trans e
    · cases e1.symm.trans e
      exact XT.leave hH k1
/-- fewer locals, fewer fresh cells -/
theorem X.sub {L' : List (Nat × Value)} {Fr' : List Nat} (ks : List Nat) (hk : lv_pick L ks = L') (hf : ∀ q ∈ Fr', q ∈ Fr) (k : X G μ d ex Fr' pc L' st h Q) : X G μ d ex Fr pc L st h Q := by
  intro l p e R s m args below meth c h0 H locs ls F hR hS hl h1 h2 hb
  exact k l p e R s m args below meth c h0 H locs ls F hR hS (lv_sub hl ks hk) h1 (fun q hq => h2 q (hf q hq)) hb
theorem exN (hn : (mY ν).name ≠ "<init>") {av : List Value} : ∀ b, exOf ν av = some b → b ∈ Fr ∨ ex = some b := by
  intro b hb
  unfold exOf at hb
  rw [if_neg hn] at hb
  cases hb
end
