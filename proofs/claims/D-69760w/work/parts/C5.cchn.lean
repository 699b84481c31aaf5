/-! THE COMPONENT'S READER: operands and signs of a chain -/
def opx (p : Nat × Tr) : Tr := .add (.num p.1) p.2
def N2 (h h1 : AH) (r so : Nat) : Nat → Prop := fun a => Nr h h1 r a ∧ a ≠ so ∧ fR h1 so 339 ≠ some a
/-- behind h a row and signs were made; the first operand e lies at be -/
def CB (G : Gh) (h h1 : AH) (ts : List (Nat × Nat × Nat)) (l : List Tr) (r : Nat) (bs : List Nat) (n so : Nat) (sl : List Int32) (m : Nat) (e : Tr) (be : Nat) : Prop := (KP h h1 ∧ RowC h1 r bs n ∧ RowN G h h1 r ∧ ∀ b, b ∈ bs → CT h1 b "LetMill$Exp") ∧ SG G h h1 so sl m ∧ TL ts (N2 h h1 r so) h1 (e :: l) (be :: bs)
section
variable {G : Gh} {d : Nat} {h h0 h1 h2 h3 h4 h' : AH} {ts : List (Nat × Nat × Nat)} {s s1 s2 s4 : St} {D k i q a b t r n m p arr so be : Nat} {N N' : Nat → Prop} {E : String} {x y e p0 : Tr} {l vs : List Tr} {bs : List Nat} {sl : List Int32} {P : Nat → Nat → St → Except Nat (Tr × St)}
theorem RowC.uk {l : List Nat} (k : RowC h r l n) (hu : ∀ a, (hK h a = 6 ∨ hK h a = 1004 ∨ hK h a = 7) → Uk h h' a) : RowC h' r l n ∧ fR h' r 77 = fR h r 77 := by
  obtain ⟨k1, k2, k3, k7, k8, arr, k4, k5, k6, k9⟩ := k
  obtain ⟨a1, a2, a3, a4, a5, a6⟩ := hu r (Or.inl k1)
  obtain ⟨b1, b2, b3, b4, b5, b6⟩ := hu arr (Or.inr (Or.inl k5))
  refine ⟨⟨a1.trans k1, ((a6 78 (by decide)).1).trans k2, k3, k7, k8, arr, ((a6 77 (by decide)).2.2).trans k4, b1.trans k5, b2.trans k6, fun i x hx => ?_⟩, (a6 77 (by decide)).2.2⟩
  obtain ⟨sp, e1, e2, e3⟩ := k9 i x hx
  obtain ⟨c1, c2, c3, c4, c5, c6⟩ := hu sp (Or.inr (Or.inr e2))
  exact ⟨sp, by rw [b5]; exact e1, c1.trans e2, ((c6 79 (by decide)).2.2).trans e3⟩
theorem RowN.uk {l : List Nat} (k : RowN G h0 h r) (c : RowC h r l n) (hu : ∀ a, (hK h a = 6 ∨ hK h a = 1004 ∨ hK h a = 7) → Uk h h' a) : RowN G h0 h' r := by
  have e77 := (c.uk hu).2
  refine ⟨k.1, fun arr' e => ?_⟩
  rw [e77] at e
  obtain ⟨n1, n2, n3⟩ := k.2 arr' e
  obtain ⟨k1, k2, k3, k7, k8, arr, k4, k5, k6, k9⟩ := c
  cases e.symm.trans k4
  have b := hu arr' (Or.inr (Or.inl k5))
  refine ⟨n1, n2, fun i sp e => ?_⟩
  rw [b.2.2.2.2.1] at e
  have := n3 i sp e
  exact ⟨this.1, ((hu sp (Or.inr (Or.inr this.2))).1).trans this.2⟩
theorem RowC.ar7 {l : List Nat} (k : RowC h r l n) : ∃ arr, fR h r 77 = some arr ∧ hK h arr = 1004 := by
  obtain ⟨k1, k2, k3, k7, k8, arr, k4, k5, k6, k9⟩ := k
  exact ⟨arr, k4, k5⟩
theorem CB.kp (k : CB G h h1 ts l r bs n so sl m e be) (p : KP h1 h2) : CB G h h2 ts l r bs n so sl m e be := by
  obtain ⟨⟨k1, k2, k3, k5⟩, sg, tl⟩ := k
  have e77 : fR h2 r 77 = fR h1 r 77 := ((p.2 r (by rw [k2.1]; decide)).2.2.2.2.2 77 (by decide)).2.2
  obtain ⟨sg2, e339⟩ := sg.kp p
  exact ⟨⟨k1.tr p, k2.kp p, k3.kp k2 p, fun b hb => (k5 b hb).kp p⟩, sg2, tl.mv fun a ha hl => ⟨p.2 a hl, ⟨ha.1.1, ha.1.2.1, by rw [e77]; exact ha.1.2.2⟩, ha.2.1, by rw [e339]; exact ha.2.2⟩⟩
theorem cb_sgn {U D0 : Nat} {s0 : St} {x : Int32} (c0 : CS G h ts D0 s0) (k : CB G h h1 ts l r bs n so sl m e be) (c : CS G h1 ts D s) (hn : sl.length < 50000) (hU : un h1 + (4 * sl.length - 2 * m) ≤ U) (hu : U + 20 ≤ UB) : C G mX46_add d [.ref so, .int x] h1 (fun o h2 => o = .returned none ∧ CS G h2 ts D s ∧ ∃ m', CB G h h2 ts l r bs n so (sl ++ [x]) m' e be ∧ un h2 + (4 * (sl.length + 1) - 2 * m') ≤ U + 20) := by
  obtain ⟨⟨k1, k2, k3, k5⟩, sg, tl⟩ := k
  refine C.use (c_sgA sg k1 c.1 hn hU hu) (by decide) ?_
  rintro _ h2 ⟨rfl, p2, ⟨m', sg2, hm'⟩, sA, fx⟩ lm -
  obtain ⟨arr, ha1, ha2⟩ := sg.arr
  have hT : Tks G h2 ts := c0.2.1.kp (c0.1.at (by decide)) p2
  have hso := sg.2.1
  have kd : ∀ a, (hK h1 a = 6 ∨ hK h1 a = 1004 ∨ hK h1 a = 7) → Uk h1 h2 a := by
    intro a ha
    refine fx.2.2.1 a (by omega) (fun e => ?_) fun e => ?_
    · rw [e] at ha; omega
    · rw [ha1] at e; cases e; omega
  obtain ⟨r2, e77⟩ := k2.uk kd
  have mvN : ∀ a, N2 h h1 r so a → hK h1 a ≠ 0 → Uk h1 h2 a ∧ N2 h h2 r so a := by
    intro a ha hl
    refine ⟨fx.2.2.1 a hl ha.2.1 ha.2.2, ⟨ha.1.1, ha.1.2.1, by rw [e77]; exact ha.1.2.2⟩, ha.2.1, fun e => ?_⟩
    rcases fx.2.2.2 a e with e | e
    · exact ha.2.2 e
    · exact hl e
  refine ⟨rfl, c.lm sA lm hT (fun e => (by cases e)) (by decide) (by decide) (by decide) (by decide), m', ⟨⟨p2, r2, k3.uk k2 kd, fun b hb => ?_⟩, sg2, tl.mv mvN⟩, hm'⟩
  obtain ⟨k0, q1, q2, q3⟩ := k5 b hb
  refine ⟨k0, q1, ?_, q3⟩
  by_cases e1 : b = so
  · rw [e1, fx.2.1, ← e1]; exact q2
  by_cases e2 : fR h1 so 339 = some b
  · rw [ha1] at e2; cases e2; omega
  · rw [(fx.2.2.1 b (by omega) e1 e2).1]; exact q2
theorem cb_add {U : Nat} (k : CB G h h1 ts l r bs n so sl m e be) (p : KP h1 h2) (c : CS G h2 ts D s) (ot : OT ts (fun a => hK h1 a = 0) h2 x 0 0 b) (ct : CT h2 b "LetMill$Exp") (hn : bs.length < 50000) (hU : un h2 + (12 * bs.length - 6 * n) ≤ U) (hu : U + 29 ≤ UB) :
    C G mX7_add (d + 2) [.ref r, .ref b] h2 (fun o h3 => o = .returned none ∧ CS G h3 ts D s ∧ ∃ n', CB G h h3 ts (l ++ [x]) r (bs ++ [b]) n' so sl m e be ∧ un h3 + (12 * (bs.length + 1) - 6 * n') ≤ U + 29) := by
  have hr1 : hK h1 r ≠ 0 := by rw [k.1.2.1.1]; decide
  have hs1 : hK h1 so ≠ 0 := by rw [k.2.1.2.1]; decide
  have e77 : fR h2 r 77 = fR h1 r 77 := ((p.2 r hr1).2.2.2.2.2 77 (by decide)).2.2
  have e39 : fR h2 so 339 = fR h1 so 339 := (k.2.1.kp p).2
  obtain ⟨ar1, har1⟩ := k.1.2.1.ar7
  obtain ⟨as1, has1⟩ := k.2.1.arr
  obtain ⟨⟨a1, a2, a3, a5⟩, sg, tl⟩ := k.kp p
  have otN : OT ts (N2 h h2 r so) h2 x 0 0 b := by
    refine ot.wk fun a ha => ⟨⟨k.1.1.fresh ha, fun e => hr1 (by rw [← e]; exact ha), fun e => ?_⟩, fun e => hs1 (by rw [← e]; exact ha), fun e => ?_⟩
    · rw [e77, har1.1] at e
      cases e
      omega
    · rw [e39, has1.1] at e
      cases e
      omega
  refine C.use (c_rowA a2 a3 a1 c.1 (ot.live (m := 0)).1 hn hU hu) (by decide) ?_
  rintro _ h3 ⟨rfl, p3, ⟨n', rc, hn'⟩, rn, sA, fx⟩ lm -
  obtain ⟨arr, harr⟩ := a2.ar7
  obtain ⟨ars, hars⟩ := sg.arr
  have hk6 := a2.1
  have hk43 := sg.2.1
  obtain ⟨sg3, e339⟩ : SG G h h3 so sl m ∧ fR h3 so 339 = fR h2 so 339 := by
    refine sg.uk fun a ha => ?_
    rcases ha with rfl | e
    · refine fx.2.2.1 a (by omega) (fun e => by rw [e] at hk43; omega) fun e => ?_
      rw [harr.1] at e; cases e; omega
    · rw [hars.1] at e
      cases e
      refine fx.2.2.1 ars (by omega) (fun e => by rw [e] at hars; omega) fun e => ?_
      rw [harr.1] at e; cases e; omega
  have mvN : ∀ a, N2 h h2 r so a → hK h2 a ≠ 0 → Uk h2 h3 a ∧ N2 h h3 r so a := by
    intro a ha hl
    refine ⟨fx.2.2.1 a hl ha.1.2.1 ha.1.2.2, ⟨ha.1.1, ha.1.2.1, fun e => ?_⟩, ha.2.1, by rw [e339]; exact ha.2.2⟩
    rcases fx.2.2.2 a e with e | e
    · exact ha.1.2.2 e
    · exact hl e
  have lv := tk_live (c.1.at (i := 1) (by decide))
  have hT : Tks G h3 ts := by
    refine c.2.1.uk (c.1.at (by decide)) fun i hi => fx.2.2.1 _ (lv i hi).1 (fun e => (lv i hi).2.1 (by rw [e]; exact a2.1)) fun e => ?_
    rw [harr.1] at e
    cases e
    exact (lv i hi).2.2 harr.2
  refine ⟨rfl, c.lm sA lm hT (fun e => (by cases e)) (by decide) (by decide) (by decide) (by decide), n', ⟨⟨p3, rc, rn, fun b' hb' => ?_⟩, sg3, (tl.mv mvN).snoc (OT.mv mvN x 0 0 b (Or.inl rfl) (fun q => by omega) (fun q => by omega) (fun q => by omega) otN)⟩, hn'⟩
  have ctk : ∀ b', CT h2 b' "LetMill$Exp" → CT h3 b' "LetMill$Exp" := by
    rintro b' ⟨k0, k1, k2', k3⟩
    refine ⟨k0, k1, ?_, k3⟩
    by_cases e1 : b' = r
    · rw [e1, fx.2.1, ← e1]; exact k2'
    by_cases e2 : fR h2 r 77 = some b'
    · rw [harr.1] at e2
      cases e2
      omega
    · rw [(fx.2.2.1 b' (by omega) e1 e2).1]; exact k2'
  rw [List.mem_append, List.mem_singleton] at hb'
  rcases hb' with hb' | hb'
  · exact ctk b' (a5 b' hb')
  · subst hb'; exact ctk b' ct
/-- new signs: q is the object -/
theorem r_sgs (c : CS G h1 ts D s) (hq : hK h1 q = 0) (hu : un h1 + 38 ≤ UB) : C G mX46_init (d + 1) [.ref q] (nO h1 q 42) (fun o h2 => o = .returned none ∧ SG G h1 h2 q [] 4 ∧ CS G h2 ts D s ∧ un h2 = un h1 + 38 ∧ KP h1 h2) := by
  have c2 := c.nO (c' := 42) hq
  have e5 : (ftab 42).length = 2 := by decide
  refine C.useI (c_sgI (h0 := h1) (by rw [hK_nO, if_pos rfl]) (by rw [fI_nO, if_pos rfl]) hq (KP.rf.nO hq) c2.1 (by rw [un_nO, e5]; omega)) (by decide) ?_
  rintro _ h2 ⟨rfl, p2, sg, u2, uk, sA⟩ lm -
  have hq7 : gW G 7 ≠ q := c.1.nw hq 7 (by decide)
  have hT : Tks G h2 ts := c.2.1.kp (c.1.at (by decide)) p2
  exact ⟨rfl, sg, c2.lm sA lm hT (fun e => hq7 (by cases e; rfl)) (by decide) (by decide) (by decide) (by decide), by rw [u2, un_nO, e5], p2⟩
theorem CB.nil (ot : OT ts (fun a => hK h a = 0) h1 e 0 0 be) (k2 : RB G h h2 ts "LetMill$Exp" [] r [] 4) (p2 : KP h1 h2) (hr : hK h1 r = 0) (ha : ∀ arr, fR h2 r 77 = some arr → hK h1 arr = 0) (sg : SG G h2 h3 so [] 4) (p3 : KP h2 h3) : CB G h h3 ts [] r [] 4 so [] 4 e be := by
  obtain ⟨a1, a2, a3, a4, a5⟩ := k2.kp p3
  obtain ⟨k0, k1, k2', k3, k7, k8, arr, k4, kn, k5, k6, k9⟩ := sg
  have e77 : fR h3 r 77 = fR h2 r 77 := ((p3.2 r (by rw [k2.2.1.1]; decide)).2.2.2.2.2 77 (by decide)).2.2
  refine ⟨⟨a1, a2, a3, a5⟩, ⟨k2.1.fresh k0, k1, k2', k3, k7, k8, arr, k4, ⟨k2.1.fresh kn.1, kn.2⟩, k5, k6, k9⟩, TL.nil.snoc ?_⟩
  refine OT.mv (fun a hN hl => ⟨(p2.tr p3).2 a hl, ⟨hN, fun e => hl (by rw [e]; exact hr), fun e => hl (ha a (by rw [← e77]; exact e))⟩, fun e => ?_, fun e => ?_⟩) e 0 0 be (Or.inl rfl) (fun q => by omega) (fun q => by omega) (fun q => by omega) ot
  · rw [e] at hl; exact hl (p2.fresh k0)
  · cases k4.symm.trans e
    exact hl (p2.fresh kn.1)
theorem OT_13c (hx : OT ts N h x 30 i a) (hy : OT ts N h y 13 (i + 1) a) : OT ts N h (.add x y) 13 i a := by
  unfold OT
  rw [ef_lt (by decide)]
  simp only [show ¬ (13 = 7) by decide, show ¬ (1000 ≤ 13 ∧ 13 < 2000) by decide, show ¬ (2000 ≤ 13) by decide, show ¬ (13 = 11) by decide, show ¬ (13 = 12) by decide, if_false, if_true]
  exact ⟨hx, hy⟩
theorem OT_30c (hy : OT ts N h y 2 i a) : OT ts N h (.add x y) 30 i a := by
  unfold OT
  rw [ef_lt (by decide)]
  simp only [show ¬ (30 = 7) by decide, show ¬ (1000 ≤ 30 ∧ 30 < 2000) by decide, show ¬ (2000 ≤ 30) by decide, show ¬ (30 = 11) by decide, show ¬ (30 = 12) by decide, show ¬ (30 = 13) by decide, if_false, if_true]
  exact hy
theorem OT_23c {g : Nat} (hf : ArF N h a g arr) (hx : OT ts N h x 30 0 arr) (hy : OT ts N h y 13 1 arr) : OT ts N h (.add x y) 23 g a := by
  unfold OT
  rw [ef_lt (by decide)]
  simp only [show ¬ (23 = 7) by decide, show ¬ (1000 ≤ 23 ∧ 23 < 2000) by decide, show ¬ (2000 ≤ 23) by decide, show ¬ (23 = 11) by decide, show ¬ (23 = 12) by decide, show ¬ (23 = 13) by decide, show ¬ (23 = 30) by decide, show ¬ (23 = 21) by decide, if_false, if_true]
  exact ⟨arr, hf, hx, hy⟩
theorem OT_2a (e : aR h arr i = some b) (k : OT ts N h x 0 0 b) : OT ts N h x 2 i arr := OT_og (Or.inr (Or.inl rfl)) (by unfold og; rw [if_neg (by decide), if_neg (by decide), if_pos rfl]; exact e) k
theorem OT_chn' : ∀ (ps : List (Nat × Tr)) (bs : List Nat) (i : Nat), TL ts N h (ps.map (·.2)) bs → hL h arr = i + ps.length → (∀ j b, bs[j]? = some b → aR h arr (i + j) = some b) → OT ts N h (ls (ps.map opx)) 13 i arr := by
  intro ps
  induction ps with
  | nil =>
    intro bs i k hl _
    show OT ts N h (ls []) 13 i arr
    unfold ls OT
    rw [ef_lt (by decide)]
    simpa using hl
  | cons p ps ih =>
    intro bs i k hl ha
    cases bs with
    | nil => have := k.1; simp at this
    | cons b bs =>
      obtain ⟨k1, k2⟩ := k.cons
      refine OT_13c (x := opx p) (y := ls (ps.map opx)) (OT_30c (OT_2a (ha 0 b rfl) k1)) (ih bs (i + 1) k2 (by simp at hl; omega) fun j c hc => ?_)
      have := ha (j + 1) c (by simpa using hc)
      rw [show i + 1 + j = i + (j + 1) by omega]
      exact this
theorem OT_chn {g : Nat} {ps : List (Nat × Tr)} (hne : ps ≠ []) (k : TL ts N h (ps.map (·.2)) bs) (hf : ArF N h a g arr) (hl : hL h arr = ps.length) (ha : ∀ j b, bs[j]? = some b → aR h arr j = some b) : OT ts N h (ls (ps.map opx)) 23 g a := by
  cases ps with
  | nil => exact absurd rfl hne
  | cons p ps =>
    cases bs with
    | nil => have := k.1; simp at this
    | cons b bs =>
      obtain ⟨k1, k2⟩ := k.cons
      refine OT_23c (x := opx p) (y := ls (ps.map opx)) hf (OT_30c (OT_2a (ha 0 b rfl) k1)) (OT_chn' ps bs 1 k2 (by simp at hl; omega) fun j c hc => ?_)
      have := ha (j + 1) c (by simpa using hc)
      rw [show 1 + j = j + 1 by omega]
      exact this
theorem sgs_opx : ∀ ps : List (Nat × Tr), sgs (ls (ps.map opx)) = ps.map fun p => nI p.1 := by
  intro ps
  induction ps with
  | nil => rfl
  | cons p ps ih =>
    show nI (((p.1 : Nat) : Int).toNat) :: sgs (ls (ps.map opx)) = _
    rw [ih]
    rfl
end
