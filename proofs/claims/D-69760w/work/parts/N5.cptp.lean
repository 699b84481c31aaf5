/-! THE COMPONENT'S TYPER: patterns with parts -/
def nw : Tr → Nat
  | .mulL k a => nw a + (if k = 1 ∨ k = 2 ∨ k = 33 then 10 else if k = 54 then 8 else if k = 56 then 6 else if k = 8 ∨ k = 37 then 4 else if k = 12 ∨ k = 13 then 3 else 1)
  | .add a b => nw a + nw b
  | _ => 0
/-- patterns whose constructors are known, with what they have -/
def sPt (N : Nat) (Ct : Ctb) (rc : Nat) : Nat → Tr → Prop
  | 0, _ => False
  | n + 1, x => (∃ t : Nat, x = n0 31 t) ∨ (∃ t : Nat, x = n0 36 t) ∨ (∃ (t : Nat) (v : Int), x = n1 32 t (.num v)) ∨ (∃ (t : Nat) (v : Int), x = n1 34 t (.num v)) ∨ (∃ (t : Nat) (v : Int), x = n1 35 t (.num v)) ∨
    (∃ (t c : Nat) (y : Tr), x = n2 33 t (.num c) y ∧ c < rc ∧ ((y = .num 0 ∧ cH N Ct c = none) ∨ ((cH N Ct c).isSome = true ∧ sPt N Ct rc n y))) ∨ (∃ (t : Nat) (l : List Tr), x = n1 37 t (ls l) ∧ (2 ≤ l.length ∧ l.length ≤ 6) ∧ ∀ y, y ∈ l → sPt N Ct rc n y) ∨ (∃ (t : Nat) (l : List Tr), x = n1 38 t (ls l) ∧ ∀ y, y ∈ l → sPt N Ct rc n y) ∨
    (∃ (t : Nat) (a b : Tr), x = n2 39 t a b ∧ sPt N Ct rc n a ∧ sPt N Ct rc n b) ∨ (∃ (t : Nat) (y : Tr), x = n1 19 t y ∧ sPt N Ct rc n y)
/-- names that are new -/
def Frs (h : AH) (Z : Zt) (D : Dm) (Γ : List (Nat × Tr)) (toks : List Nat) : Prop := toks.Nodup ∧ ∀ t, t ∈ toks → D.1 t ∧ fI h (Z.1 t) 128 = 0 ∧ ∀ x, x ∈ Γ → x.1 ≠ t
/-- patterns of n levels are typed -/
def PtI (G : Gh) (W : Nat → Prop) (ts : List (Nat × Nat × Nat)) (O : List (Nat × Nat) × List (Nat × Nat)) (Z : Zt) (D : Dm) (N : Nat) (Ct : Ctb) (Dt : Dtb) (kn : Nat → TS) (rc n d : Nat) : Prop := ∀ (p : Tr) (q lo hi : Nat) (h : AH) (M Pn : Nat) (τ : Tb) (m : Nat) (Γ : List (Nat × Tr)) (cap : Nat), sPt N Ct rc n p → TR lo hi p → hi ≤ ts.length → OTG (XA ts W O Z D h) W h p 0 0 q → ISt G W ts O Z D N Ct Dt kn rc h M Pn τ m Γ cap → Bud M Pn m h cap Γ.length (2 * nw p) → Frs h Z D Γ (pNm n p) →
  ∃ k ν, VT ⟨"LetMill$Pat", "infer", "(LLetMill$Typer;)I"⟩ VMPat_infer k ν ∧ hK h q = k + 1 ∧ C G ν d [.ref q, .ref (gW G 6)] h (PtQ G W ts O Z D N Ct Dt kn rc h M Pn τ m Γ cap (fun t => t ∈ pNm n p) (2 * nw p - 1) (pNm n p) (tPa N Ct Dt n p))
section
variable {G : Gh} {W : Nat → Prop} {X : Nat → Nat → Tr → Prop} {ts : List (Nat × Nat × Nat)} {O : List (Nat × Nat) × List (Nat × Nat)} {Z : Zt} {D : Dm} {d n N rc M M' Pn Pn' m m' t cap q lo hi nC : Nat} {Ct : Ctb} {Dt : Dtb} {kn : Nat → TS} {h h1 h2 h' : AH} {τ τ' : Tb} {s x y : Tr} {Γ : List (Nat × Tr)} {B : Nat → Prop} {l1 l2 : List Nat}
theorem sPt_nw : ∀ n x, sPt N Ct rc n x → 1 ≤ nw x := by
  intro n x hs
  cases n with
  | zero => exact hs.elim
  | succ n =>
    rcases hs with ⟨t, rfl⟩ | ⟨t, rfl⟩ | ⟨t, v, rfl⟩ | ⟨t, v, rfl⟩ | ⟨t, v, rfl⟩ | ⟨t, v, y, rfl, -⟩ | ⟨t, l, rfl, -⟩ | ⟨t, l, rfl, -⟩ | ⟨t, a, b, rfl, -⟩ | ⟨t, y, rfl, hy⟩ <;> first | exact Nat.le_add_left 1 _ | exact Nat.le_trans (by decide : 1 ≤ 10) (Nat.le_add_left 10 _) | exact Nat.le_trans (by decide : 1 ≤ 4) (Nat.le_add_left 4 _)
theorem shP_kg : ∀ n x q, sPt N Ct rc n x → OTG X W h x 0 0 q → 19 ≤ hK h q ∧ hK h q ≤ 27 := by
  intro n
  induction n with
  | zero => intro x q hs; exact hs.elim
  | succ n ih =>
    intro x q hs ot
    rcases hs with ⟨t, rfl⟩ | ⟨t, rfl⟩ | ⟨t, v, rfl⟩ | ⟨t, v, rfl⟩ | ⟨t, v, rfl⟩ | ⟨t, v, y, rfl, -⟩ | ⟨t, l, rfl, -⟩ | ⟨t, l, rfl, -⟩ | ⟨t, a, b, rfl, -⟩ | ⟨t, y, rfl, hy⟩
    · have : hK h q = 20 := by simpa [kc] using ((OTG_n0 (by decide)).mp ot).2.1
      omega
    · have : hK h q = 24 := by simpa [kc] using ((OTG_n0 (by decide)).mp ot).2.1
      omega
    · have : hK h q = 21 := by simpa [kc] using ((OTG_nd (by decide)).mp ot).2.1
      omega
    · have : hK h q = 22 := by simpa [kc] using ((OTG_nd (by decide)).mp ot).2.1
      omega
    · have : hK h q = 22 := by simpa [kc] using ((OTG_nd (by decide)).mp ot).2.1
      omega
    · have : hK h q = 19 := by simpa [kc] using ((OTG_nd (k := 33) (by decide)).mp ot).2.1
      omega
    · have : hK h q = 26 := by simpa [kc] using ((OTG_nd (by decide)).mp ot).2.1
      omega
    · have : hK h q = 23 := by simpa [kc] using ((OTG_nd (by decide)).mp ot).2.1
      omega
    · have : hK h q = 27 := by simpa [kc] using ((OTG_nd (k := 39) (by decide)).mp ot).2.1
      omega
    · obtain ⟨-, -, -, a4, a5⟩ := (OTG_ndg (by decide)).mp ot
      obtain ⟨c, c1, c2, c3, c4⟩ := a5 rfl
      rw [OTG_ef (m' := 6) (i' := 0) (by decide) (by decide), OTG_6] at a4
      obtain ⟨b, b1, b2⟩ := a4
      rw [c3] at b1
      cases b1
      have := ih y c hy b2
      omega
theorem ISt.kw (k : ISt G W ts O Z D N Ct Dt kn rc h M Pn τ m Γ cap) (F : FIn G Z B rc nC h h1) : KW W 0 0 h h1 := ⟨F.1.1.1, fun a ha => by
  have u := F.2.1 a (k.2.2.2.1 a ha)
  exact ⟨⟨u.1, u.2.1, u.2.2.1, u.2.2.2.1, u.2.2.2.2.1, fun g _ => u.2.2.2.2.2 g⟩, fun _ => u⟩⟩
/-- the tree stays -/
theorem ISt.ot (k : ISt G W ts O Z D N Ct Dt kn rc h M Pn τ m Γ cap) (F : FIn G Z B rc nC h h1) (hx : TR lo hi x) (o : OTG (XA ts W O Z D h) W h x 0 0 q) : OTG (XA ts W O Z D h1) W h1 x 0 0 q := o.k1 (k.kw F) Ext.rf (Or.inr (Nat.zero_le _)) hx
/-- new names of a later part are still new -/
theorem Frs.nx {us : List Tr} (f : Frs h Z D Γ (l1 ++ l2)) (F : FIn G Z (fun t => t ∈ l1) rc nC h h1) (bd : BdI h Z D) : Frs h1 Z D (Γ ++ l1.zip us) l2 := by
  obtain ⟨f1, f2⟩ := f
  rw [List.nodup_append] at f1
  refine ⟨f1.2.1, fun t ht => ?_⟩
  obtain ⟨g1, g2, g3⟩ := f2 t (List.mem_append_right _ ht)
  refine ⟨g1, ?_, fun x hx => ?_⟩
  · rw [(F.2.2.2.1 (Z.1 t) (bd.1 t g1).1 fun t' ht' e => ?_).2]
    · exact g2
    · have := bd.2.1 t t' g1 (f2 t' (List.mem_append_left _ ht')).1 e
      exact f1.2.2 t' ht' t ht this.symm
  · rcases List.mem_append.mp hx with w | w
    · exact g3 x w
    · exact fun e => f1.2.2 x.1 (List.of_mem_zip (show (x.1, x.2) ∈ _ from w)).1 t ht e
/-- a pattern in brackets -/
theorem pt_grp (hP : PtI G W ts O Z D N Ct Dt kn rc n (d + 1)) (hy : sPt N Ct rc n y) (hT : TR lo hi (n1 19 t y)) (hhi : hi ≤ ts.length) (ot : OTG (XA ts W O Z D h) W h (n1 19 t y) 0 0 q) (k : ISt G W ts O Z D N Ct Dt kn rc h M Pn τ m Γ cap) (hb : Bud M Pn m h cap Γ.length (2 * nw (n1 19 t y))) (hf : Frs h Z D Γ (pNm (n + 1) (n1 19 t y))) : C G mX26_infer (d + 2) [.ref q, .ref (gW G 6)] h (PtQ G W ts O Z D N Ct Dt kn rc h M Pn τ m Γ cap (fun x => x ∈ pNm (n + 1) (n1 19 t y)) (2 * nw (n1 19 t y) - 1) (pNm (n + 1) (n1 19 t y)) (tPa N Ct Dt (n + 1) (n1 19 t y))) ∧ hK h q = 25 := by
  obtain ⟨hWq, hkq, -, oy, g19⟩ := (OTG_ndg (k := 19) (by decide)).mp ot
  have hkk := shP_kg (n + 1) (n1 19 t y) q (Or.inr (Or.inr (Or.inr (Or.inr (Or.inr (Or.inr (Or.inr (Or.inr (Or.inr ⟨t, y, rfl, hy⟩))))))))) ot
  have hk : hK h q = 25 := by
    have : hK h q = 25 ∨ hK h q = 37 := by simpa [kc] using hkq
    omega
  obtain ⟨b1, e1, o1⟩ := OTG_6.mp ((OTG_ef (m' := 6) (i' := 0) (by decide) (by decide)).mp oy)
  rw [hk, if_pos rfl] at e1
  refine ⟨?_, hk⟩
  have ew : nw (n1 19 t y) = nw y + 1 := by show 0 + nw y + 1 = _; omega
  have ep : pNm (n + 1) (n1 19 t y) = pNm n y := rfl
  have el : tPa N Ct Dt (n + 1) (n1 19 t y) = tPa N Ct Dt n y := rfl
  rw [ep, el]
  rw [ep] at hf
  obtain ⟨u1, u2, u3, u4, u5⟩ := hb
  rw [ew] at u1 u2 u3 u4
  have hTy : TR lo hi y := hT.2.2.2
  obtain ⟨kk, ν, v1, v2, v3⟩ := hP y b1 lo hi h M Pn τ m Γ cap hy hTy hhi o1 k ⟨by omega, by omega, by omega, by omega, by omega⟩ hf
  refine bX26_infer G (d + 1) h _ _ ⟨hk, b1, e1, kk, ν, v1, v2, C.mono v3 ?_⟩
  rintro o h1 ⟨F, q1⟩
  rw [ew]
  cases hr : tPa N Ct Dt n y with
  | error f =>
    rw [hr] at q1
    obtain ⟨e, rfl, q2, q3⟩ := q1
    exact KI.t ⟨F, e, rfl, q2, by omega⟩
  | ok P =>
    rw [hr] at q1
    obtain ⟨t', us, M1, Pn1, τ1, m1, cap1, rfl, q2, q3, q4, q5⟩ := q1
    exact KI.i ⟨F, t', us, M1, Pn1, τ1, m1, cap1, rfl, q2, q3.wk (by omega), q4, by omega⟩
end
