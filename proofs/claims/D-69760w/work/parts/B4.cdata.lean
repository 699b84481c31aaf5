/-! THE COMPONENT'S READER: datatypes -/
/-- the object of a datatype, its constructors' row at r -/
def DO (G : Gh) (h0 h : AH) (q r arr t : Nat) (vs : List Tr) : Prop := hK h0 q = 0 ∧ hK h q = 47 ∧ (fI h q 349 = nI t ∧ fR h q 350 = some arr ∧ fI h q 351 = nI (tks (ls vs)).length ∧ fR h q 352 = some r) ∧ (hK h0 arr = 0 ∧ Ns (gW G) arr ∧ hK h arr = 1000 ∧ hL h arr = 6) ∧ (tks (ls vs)).length ≤ 6 ∧ ∀ i u, (tks (ls vs))[i]? = some u → aI h arr i = u
section
variable {G : Gh} {d : Nat} {h h0 h1 h2 h3 h4 h' : AH} {ts : List (Nat × Nat × Nat)} {s s1 s2 s4 : St} {D k i q a b t r n p arr : Nat} {N : Nat → Prop} {E : String} {x y p0 : Tr} {l vs : List Tr} {bs : List Nat} {P : Nat → Nat → St → Except Nat (Tr × St)}
theorem c_X56 {v : Int32} {b : Option Nat} (hk : hK h a = 52) : C G mX56_init (d + 1) [.ref a, .int v, va_rf b] h (fun o h' => o = .returned none ∧ h' = pR (pI h a 361 v) a 362 b) := by
  refine bX56_init G (d + 1) (Nat.le_add_left _ _) h _ _ _ _ ⟨fun e => ?_, fun b' e => ?_⟩
  · subst e
    refine ⟨hk, ?_⟩
    rintro _ rfl _ rfl
    exact ⟨rfl, rfl⟩
  · subst e
    refine ⟨hk, ?_⟩
    rintro _ rfl _ rfl
    exact ⟨rfl, rfl⟩
theorem DO.mv (k : DO G h0 h q r arr t vs) (e1 : hK h' q = hK h q) (e2 : ∀ g, (g = 349 ∨ g = 350 ∨ g = 351 ∨ g = 352) → fI h' q g = fI h q g ∧ fR h' q g = fR h q g) (e3 : hK h' arr = hK h arr ∧ hL h' arr = hL h arr ∧ aI h' arr = aI h arr) : DO G h0 h' q r arr t vs := by
  obtain ⟨k1, k2, ⟨f1, f2, f3, f4⟩, ⟨a1, a2, a3, a4⟩, k5, k6⟩ := k
  exact ⟨k1, e1.trans k2, ⟨(e2 349 (by decide)).1.trans f1, (e2 350 (by decide)).2.trans f2, (e2 351 (by decide)).1.trans f3, (e2 352 (by decide)).2.trans f4⟩, ⟨a1, a2, e3.1.trans a3, e3.2.1.trans a4⟩, k5, fun i u hu => by rw [e3.2.2]; exact k6 i u hu⟩
theorem DO.kp (k : DO G h0 h q r arr t vs) (p : KP h h') : DO G h0 h' q r arr t vs := by
  have u1 := p.2 q (by rw [k.2.1]; decide)
  have u2 := p.2 arr (by rw [k.2.2.2.1.2.2.1]; decide)
  exact k.mv u1.1 (fun g hg => ⟨(u1.2.2.2.2.2 g (by omega)).1, (u1.2.2.2.2.2 g (by omega)).2.2⟩) ⟨u2.1, u2.2.1, u2.2.2.1⟩
theorem DO.lm (k : DO G h0 h q r arr t vs) (lm : Lm (gW G) (mM mX7_add) h h' none) : DO G h0 h' q r arr t vs := by
  have e1 := lm.1.2 q (by rw [k.2.1]; decide)
  have e2 := lm.1.2 arr (by rw [k.2.2.2.1.2.2.1]; decide)
  have e3 := lm.an (t := 0) k.2.2.2.1.2.1 k.2.2.2.1.2.2.1 (by decide)
  refine k.mv e1.1 (fun g hg => ?_) ⟨e2.1, e2.2.1, e3.1⟩
  have := lm.f (g := g) k.2.1 (by decide) (by rcases hg with rfl | rfl | rfl | rfl <;> decide)
  exact ⟨this.1, this.2.2⟩
/-- a constructor's object -/
theorem con_mk {ob : Option Nat} (k4 : RB G h h4 ts "LetMill$ConDec" l r bs n) (hq : hK h4 p = 0) (ht : t < 5000) (hy : (y = .num 0 ∧ ob = none) ∨ ∃ b, ob = some b ∧ OT ts (Nr h h4 r) h4 y 0 0 b) :
    OT ts (Nr h (pR (pI (nO h4 p 51) p 361 (nI t)) p 362 ob) r) (pR (pI (nO h4 p 51) p 361 (nI t)) p 362 ob) (n2 56 t (.num (Vl ts t)) y) 0 0 p ∧ CT (pR (pI (nO h4 p 51) p 361 (nI t)) p 362 ob) p "LetMill$ConDec" := by
  have w : WQ p (nO h4 p 51) (pR (pI (nO h4 p 51) p 361 (nI t)) p 362 ob) := WQ.rf.pI.pR
  have pk := w.kp (KP.rf.nO (c := 51) hq) hq
  have hr6 := k4.2.1.1
  have hrp : r ≠ p := fun e => by rw [e] at hr6; omega
  obtain ⟨ar, q77, kar⟩ : ∃ ar, fR h4 r 77 = some ar ∧ hK h4 ar = 1004 := by
    obtain ⟨q1, q2, q3, q5, q6, ar, q7, q8, -⟩ := k4.2.1
    exact ⟨ar, q7, q8⟩
  have e77 : fR (pR (pI (nO h4 p 51) p 361 (nI t)) p 362 ob) r 77 = fR h4 r 77 := ((pk.2 r (by rw [hr6]; decide)).2.2.2.2.2 77 (by decide)).2.2
  have hk3 : hK (pR (pI (nO h4 p 51) p 361 (nI t)) p 362 ob) p = 52 := by rw [hK_pR, hK_pI, hK_nO, if_pos rfl]
  have hN : Nr h (pR (pI (nO h4 p 51) p 361 (nI t)) p 362 ob) r p := ⟨k4.1.fresh hq, fun e => hrp e.symm, fun e => by rw [e77, q77] at e; cases e; omega⟩
  refine ⟨OT_nd (k := 56) hN (by rw [hk3]; decide) (EX_n2 (by decide) ht (by rw [hk3]; show fI (pR (pI (nO h4 p 51) p 361 (nI t)) p 362 ob) p 361 = _; rw [fI_pR, fI_pI, if_pos ⟨rfl, rfl⟩])) (OT_c2 (by decide) (by decide) (OT_7 (Or.inl ⟨_, rfl⟩)) ((OT_ef (m' := 5) (i' := 362) (by decide) (by decide)).mpr ?_)) (by decide), ⟨51, by decide, hk3, by decide⟩⟩
  rcases hy with ⟨rfl, rfl⟩ | ⟨b, rfl, ot⟩
  · exact OT_50 (by rw [fR_pR, if_pos ⟨rfl, rfl⟩])
  · refine OT_f5 (by rw [fR_pR, if_pos ⟨rfl, rfl⟩]) ?_
    exact OT.mv (fun a ha hl => ⟨pk.2 a hl, ha.1, ha.2.1, by rw [e77]; exact ha.2.2⟩) y 0 0 b (Or.inl rfl) (fun q => by omega) (fun q => by omega) (fun q => by omega) ot
end
