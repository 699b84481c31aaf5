/-! THE STRING CONSTANTS: the i-th lies at G.2.2.2.1 i, its bytes at G.2.2.2.2.1 i -/
section
variable {G : Gh} {μ ν : Mu} {d pc pc' : Nat} {ex : Option Nat} {Fr : List Nat} {L : List (Nat × Value)} {st av : List Value} {h : AH} {Q : Outcome → AH → Prop}
theorem x_i2c {x : Int32} (hd : decode (mC μ) pc = .ok (.i2c, 1)) (hp : pc + 1 = pc') (kk : X G μ d ex Fr pc' L (.int (x.toUInt32 % 65536).toInt32 :: st) h Q) : X G μ d ex Fr pc L (.int x :: st) h Q := by
  subst hp
  intro l p e R s m args below meth c h0 H locs ls F hR hS hl h1 h2 hb
  exact lv_i2c F.1.1 F.1.2.1 hd rfl (kk l p e R s m args below meth c h0 H locs ls F hR hS hl h1 h2 hb)
theorem x_ldcSw {index i : Nat} {tx : String} (hd : decode (mC μ) pc = .ok (.ldc_w index, 3)) (hw : ((mY μ).cls, index, tx, i) ∈ strL) (hp : pc + 3 = pc') (kk : X G μ d ex Fr pc' L (.ref (G.2.2.2.1 i) :: st) h Q) : X G μ d ex Fr pc L st h Q := by
  subst hp
  intro l p e R s m args below meth c h0 H locs ls F hR hS hl h1 h2 hb T hT XS
  obtain ⟨t, a1, b1⟩ := kk l p e R s m args below meth c h0 H locs ls F hR hS hl h1 h2 hb T hT XS
  refine ⟨t, ?_, b1⟩
  have hZ := F.2.1.1.2.2.1.2 _ hw
  have hexec := F.1.1
  have hdc : decode c.code pc = .ok (.ldc_w index, 3) := by rw [F.1.2.1]; exact hd
  obtain ⟨k, cf, i', a', hk, hcf, hcp, -, hr, hev'⟩ := Cond.stringRef_spec F.1.2.2.2.2.1 hZ.1
  cases hZ.2.symm.trans hev'
  obtain ⟨k', hk', he⟩ := XS.warmed.alike.2.2 _ _ hk
  have hr' : k'.resolved[index]? = some (some (.string (G.2.2.2.1 i))) := by
    rcases XS.warmed.entry hk hk' index with h | ⟨h, -⟩
    · rw [h]; exact hr
    · rw [hr] at h; cases h
  show Steps p.tables e below (T.setTop (F0 m pc ls st)) t
  jvm_step XS.here [hexec, hdc, ldc_w.wp_string (e := e) (s := T) (f := F0 m pc ls st) XS.here.top hk' (by rw [he]; exact hcf) hcp hr']
  exact a1
theorem x_sgetV {index i : Nat} (hd : decode (mC μ) pc = .ok (.getfield index, 3)) (hw : Cond.fieldLink (mY μ).cls index "java/lang/String" "value" "[B" ∈ lw_all) (hi : i < slen.length) (hp : pc + 3 = pc') (kk : X G μ d ex Fr pc' L (.ref (G.2.2.2.2.1 i) :: st) h Q) : X G μ d ex Fr pc L (.ref (G.2.2.2.1 i) :: st) h Q := by
  subst hp
  intro l p e R s m args below meth c h0 H locs ls F hR hS hl h1 h2 hb
  exact vk_getf F.1.1 F.1.2.1 (F.2.1.1.2.2.1.1.1 i hi).2.2.1 hS F.1.2.2.2.2.1 (F.1.2.2.2.2.2.1 _ hw) (fun _ h => h) hd (kk l p e R s m args below meth c h0 H locs ls F hR hS hl h1 h2 hb)
theorem x_sgetC {index i : Nat} (hd : decode (mC μ) pc = .ok (.getfield index, 3)) (hw : Cond.fieldLink (mY μ).cls index "java/lang/String" "coder" "B" ∈ lw_all) (hi : i < slen.length) (hp : pc + 3 = pc') (kk : X G μ d ex Fr pc' L (.int 0 :: st) h Q) : X G μ d ex Fr pc L (.ref (G.2.2.2.1 i) :: st) h Q := by
  subst hp
  intro l p e R s m args below meth c h0 H locs ls F hR hS hl h1 h2 hb
  exact vk_getf F.1.1 F.1.2.1 (F.2.1.1.2.2.1.1.1 i hi).2.1 hS F.1.2.2.2.2.1 (F.1.2.2.2.2.2.1 _ hw) (fun _ h => h) hd (kk l p e R s m args below meth c h0 H locs ls F hR hS hl h1 h2 hb)
theorem x_getsC {index : Nat} (hd : decode (mC μ) pc = .ok (.getstatic index, 3)) (hw : Cond.fieldLink (mY μ).cls index "java/lang/String" "COMPACT_STRINGS" "Z" ∈ lw_all) (hp : pc + 3 = pc') (kk : X G μ d ex Fr pc' L (.int 1 :: st) h Q) : X G μ d ex Fr pc L st h Q := by
  subst hp
  intro l p e R s m args below meth c h0 H locs ls F hR hS hl h1 h2 hb
  exact va_gets F.1.1 F.1.2.1 F.2.1.1.2.2.2.1 hS F.1.2.2.2.2.1 (F.1.2.2.2.2.2.1 _ hw) (fun _ h => h) hd (kk l p e R s m args below meth c h0 H locs ls F hR hS hl h1 h2 hb)
theorem x_getsF {index : Nat} (hd : decode (mC μ) pc = .ok (.getstatic index, 3)) (hw : Cond.fieldLink (mY μ).cls index "jdk/internal/util/Preconditions" "SIOOBE_FORMATTER" "Ljava/util/function/BiFunction;" ∈ lw_all) (hp : pc + 3 = pc') (kn : X G μ d ex Fr pc' L (.null :: st) h Q) (kk : ∀ t, X G μ d ex Fr pc' L (.ref t :: st) h Q) : X G μ d ex Fr pc L st h Q := by
  subst hp
  intro l p e R s m args below meth c h0 H locs ls F hR hS hl h1 h2 hb
  rcases F.2.1.1.2.2.2.2.2.2.1 with hz | ⟨t, hz⟩
  · exact va_gets F.1.1 F.1.2.1 hz hS F.1.2.2.2.2.1 (F.1.2.2.2.2.2.1 _ hw) (fun _ h => h) hd (kn l p e R s m args below meth c h0 H locs ls F hR hS hl h1 h2 hb)
  · exact va_gets F.1.1 F.1.2.1 hz hS F.1.2.2.2.2.1 (F.1.2.2.2.2.2.1 _ hw) (fun _ h => h) hd (kk t l p e R s m args below meth c h0 H locs ls F hR hS hl h1 h2 hb)
theorem x_sbald {i : Nat} {j : Int32} (hd : decode (mC μ) pc = .ok (.baload, 1)) (hi : i < slen.length) (hj : vp_in j (slen.getD i 0)) (hp : pc + 1 = pc') (kk : X G μ d ex Fr pc' L (.int ((sbyt.getD i []).getD j.toNatClampNeg 0) :: st) h Q) : X G μ d ex Fr pc L (.int j :: .ref (G.2.2.2.2.1 i) :: st) h Q := by
  subst hp
  intro l p e R s m args below meth c h0 H locs ls F hR hS hl h1 h2 hb
  exact va_tb F.1.1 F.1.2.1 (F.2.1.1.2.2.1.1.1 i hi).2.2.2 hS hj rfl hd (kk l p e R s m args below meth c h0 H locs ls F hR hS hl h1 h2 hb)
theorem x_salen {i : Nat} (hd : decode (mC μ) pc = .ok (.arraylength, 1)) (hi : i < slen.length) (hp : pc + 1 = pc') (kk : X G μ d ex Fr pc' L (.int (Int32.ofNat (slen.getD i 0)) :: st) h Q) : X G μ d ex Fr pc L (.ref (G.2.2.2.2.1 i) :: st) h Q := by
  subst hp
  intro l p e R s m args below meth c h0 H locs ls F hR hS hl h1 h2 hb
  exact va_tlen F.1.1 F.1.2.1 (F.2.1.1.2.2.1.1.1 i hi).2.2.2 hS rfl hd (kk l p e R s m args below meth c h0 H locs ls F hR hS hl h1 h2 hb)
theorem inv_VS {index i : Nat} (hd : decode (mC μ) pc = .ok (.invokevirtual index, 3)) (hlink : Cond.methodLink (mY μ).cls index (mY ν) ∈ lw_all) (hinst : Cond.instanceMethod (mY ν) ∈ lw_all) (hsel : Cond.selects "java/lang/String" (mY ν) (mY ν) ∈ lw_all) (hν : mW ν ∈ lw_all)
    (hy : (mY ν).cls ≠ "java/lang/invoke/MethodHandle" ∧ (mY ν).cls ≠ "java/lang/invoke/VarHandle") (hlen : ((parseMethodDescriptor (mY ν).desc).map fun q => q.parameters.length) = some av.length) (hi : i < slen.length) : Inv G μ ν d pc st (av.reverse ++ .ref (G.2.2.2.1 i) :: st) (.ref (G.2.2.2.1 i) :: av) h := by
  intro l p e R s m args below meth c c0 s0 T locs cells slots ls F hR hS0 XS hsz
  obtain ⟨⟨f1, f2, f3, f4, f5, f6, f7⟩, ⟨w1, w2, w3, w4⟩, r1, r2, r3, r4⟩ := F
  obtain ⟨cellB, hcell, hobj, hcls⟩ := vk_recv w1.2.2.1.1 hi hS0
  obtain ⟨mk, methM, hnamed, hmethM, hstM, habM⟩ := Cond.instanceMethod_spec (f6 _ hinst)
  obtain ⟨methM', cM, hmethM', -, -, -, -, -, hsigM⟩ := mW_spec hnamed (f6 _ hν)
  cases hmethM.symm.trans hmethM'
  obtain ⟨c2, r2, m2, q1, q2, q3, q4, kP, hkP, hkPi⟩ := Cond.selects_spec (f6 _ hsel)
  cases hcls.symm.trans q1
  cases (State.methodFound?_of_named hnamed hy).symm.trans q2
  cases hnamed.symm.trans q3
  have hselP : selectMethod e.platform s.vm cellB.cls mk = .method mk := by rw [Launch.admits_selectMethod XS.admits]; exact q4
  have hl : av.length = methM.sig.parameters.length := by
    rw [hsigM] at hlen
    exact (Option.some.inj hlen).symm
  obtain ⟨vm₁, X₁, hstep₁⟩ := XS.invokevirtual f1 f5 (f6 _ hlink) hnamed hmethM hstM hkP hkPi hy (a := G.2.2.2.1 i) (cell := cellB) hcell
    (fun z h => by rw [h] at hobj; cases hobj) hselP hmethM habM hkP hkPi (g := F0 m pc ls (av.reverse ++ .ref (G.2.2.2.1 i) :: st)) rfl (argsL := av) (rest := st) hl rfl (by rw [f2]; exact hd)
  exact ⟨vm₁, mk, X₁.warmed, hnamed, X₁, fun target hs => hstep₁ _ fun acts => by rw [doInvoke_state]; exact hs⟩
theorem inv_VSa {index i a : Nat} (ha : a = G.2.2.2.1 i) (hd : decode (mC μ) pc = .ok (.invokevirtual index, 3)) (hlink : Cond.methodLink (mY μ).cls index (mY ν) ∈ lw_all) (hinst : Cond.instanceMethod (mY ν) ∈ lw_all) (hsel : Cond.selects "java/lang/String" (mY ν) (mY ν) ∈ lw_all) (hν : mW ν ∈ lw_all)
    (hy : (mY ν).cls ≠ "java/lang/invoke/MethodHandle" ∧ (mY ν).cls ≠ "java/lang/invoke/VarHandle") (hlen : ((parseMethodDescriptor (mY ν).desc).map fun q => q.parameters.length) = some av.length) (hi : i < slen.length) : Inv G μ ν d pc st (av.reverse ++ .ref a :: st) (.ref a :: av) h := by
  subst ha
  exact inv_VS hd hlink hinst hsel hν hy hlen hi
end
