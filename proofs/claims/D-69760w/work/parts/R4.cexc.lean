/-! THE COMPONENT'S TYPER: expressions with parts -/
theorem bE_ok {α β : Type} {a : α} {f : α → Except Fa β} : bE (.ok a) f = f a := rfl
theorem bE_er {α β : Type} {x : Fa} {f : α → Except Fa β} : bE (.error x) f = .error x := rfl
theorem eqE_y {α : Type} {t : Nat} {P : Prop} {a : α} (h : P) : eqE t P a = .ok a := tIf_pos h
theorem eqE_n {α : Type} {t : Nat} {P : Prop} {a : α} (h : ¬ P) : eqE t P a = .error (5, t) := tIf_neg h
section
variable {G : Gh} {c : Cx} {P P0 : Nat → Prop} {s s1 s2 : Sx} {B B' : Nat → Prop} {us us' L : List Nat} {b b' b2 d n q lo hi rc' D t r1 r2 : Nat} {S S' : En → List Tr → Prop} {h h' : AH} {V : List Nat} {e x y a a2 a3 : Tr} {A1 : En → Prop} {X : Nat → Nat → Tr → Prop} {W : Nat → Prop} {ts : List (Nat × Nat × Nat)} {O : List (Nat × Nat) × List (Nat × Nat)} {Z : Zt} {Dd : Dm} {N rc : Nat} {Ct : Ctb} {Dt : Dtb}
theorem Frs.l {Γ : List (Nat × Tr)} {l1 l2 : List Nat} (f : Frs h Z Dd Γ (l1 ++ l2)) : Frs h Z Dd Γ l1 := ⟨(List.nodup_append.mp f.1).1, fun t ht => f.2 t (List.mem_append_left _ ht)⟩
theorem sEx_kg : ∀ n V rc x rc' q, sEx ts O N Ct Dt n 0 V rc x rc' → OTG X W h x 0 0 q → hK h q = 17 ∨ (30 ≤ hK h q ∧ hK h q ≤ 42) ∨ hK h q = 44 := by
  intro n
  induction n with
  | zero => intro V rc x rc' q hs; exact hs.elim
  | succ n ih =>
    intro V rc x rc' q hs ot
    unfold sEx at hs
    rw [if_neg (by decide)] at hs
    rcases hs with ⟨t, rf, up, rfl, -⟩ | ⟨t, k, rfl, -⟩ | ⟨t, v, rfl, -⟩ | ⟨t, v, rfl, -⟩ | ⟨t, rfl, -⟩ | ⟨t, rfl, -⟩ | ⟨t, rfl, -⟩ | ⟨t, l, rfl, -⟩ | ⟨t, l, rfl, -⟩ | ⟨t, l, rfl, -⟩ | ⟨t, ds, e, V', r1, rfl, -⟩ | ⟨t, cs, rfl, -⟩ | ⟨t, e, cs, r1, rfl, -⟩ | ⟨t, a, b, d, r1, r2, rfl, -⟩ | ⟨t, f, l, r1, rfl, -⟩ | ⟨t, f, ps, r1, rfl, -⟩ | ⟨t, a, b, r1, rfl, -⟩ | ⟨t, a, b, r1, rfl, -⟩ | ⟨t, y, rfl, hy⟩
    · have : hK h q = 33 := by simpa [kc] using ((OTG_nd (k := 1) (by decide)).mp ot).2.1
      omega
    · have : hK h q = 34 := by simpa [kc] using ((OTG_nd (k := 2) (by decide)).mp ot).2.1
      omega
    · have : hK h q = 35 := by simpa [kc] using ((OTG_nd (k := 3) (by decide)).mp ot).2.1
      omega
    · have : hK h q = 35 := by simpa [kc] using ((OTG_nd (k := 4) (by decide)).mp ot).2.1
      omega
    · have : hK h q = 35 := by simpa [kc] using ((OTG_n0 (k := 5) (by decide)).mp ot).2.1
      omega
    · have : hK h q = 36 := by simpa [kc] using ((OTG_n0 (k := 6) (by decide)).mp ot).2.1
      omega
    · have : hK h q = 36 := by simpa [kc] using ((OTG_n0 (k := 7) (by decide)).mp ot).2.1
      omega
    · have : hK h q = 38 := by simpa [kc] using ((OTG_nd (k := 8) (by decide)).mp ot).2.1
      omega
    · have : hK h q = 39 := by simpa [kc] using ((OTG_nd (k := 9) (by decide)).mp ot).2.1
      omega
    · have : hK h q = 40 := by simpa [kc] using ((OTG_nd (k := 10) (by decide)).mp ot).2.1
      omega
    · have : hK h q = 17 := by simpa [kc] using ((OTG_nd (k := 11) (by decide)).mp ot).2.1
      omega
    · have : hK h q = 30 := by simpa [kc] using ((OTG_nd (k := 12) (by decide)).mp ot).2.1
      omega
    · have : hK h q = 31 := by simpa [kc] using ((OTG_nd (k := 13) (by decide)).mp ot).2.1
      omega
    · have : hK h q = 32 := by simpa [kc] using ((OTG_nd (k := 14) (by decide)).mp ot).2.1
      omega
    · have : hK h q = 41 := by simpa [kc] using ((OTG_nd (k := 15) (by decide)).mp ot).2.1
      omega
    · have : hK h q = 44 := by simpa [kc] using ((OTG_nd (k := 16) (by decide)).mp ot).2.1
      omega
    · have : hK h q = 42 := by simpa [kc] using ((OTG_nd (k := 17) (by decide)).mp ot).2.1
      omega
    · have : hK h q = 42 := by simpa [kc] using ((OTG_nd (k := 18) (by decide)).mp ot).2.1
      omega
    · obtain ⟨-, -, -, a4, a5⟩ := (OTG_ndg (by decide)).mp ot
      obtain ⟨c, c1, c2, c3, c4⟩ := a5 rfl
      rw [OTG_ef (m' := 6) (i' := 0) (by decide) (by decide), OTG_6] at a4
      obtain ⟨b, b1, b2⟩ := a4
      rw [c3] at b1
      cases b1
      have := ih V rc y rc' c hy b2
      omega
/-- the token of an expression -/
theorem ex_tok {b : Nat} (hs : sEx ts O N Ct Dt n 0 V rc x rc') (o : OTG (XA ts W O Z Dd h) W h x 0 0 b) : HF h b 296 0 ∧ fI h b 296 = nI (tkN x) := by
  have hk := sEx_kg n V rc x rc' b hs o
  obtain ⟨kk, z, rfl⟩ := OTG_0 o
  unfold OTG at o
  obtain ⟨b', e, hN, h0, hkc, ⟨ex, -⟩, -⟩ := o
  have e' : some b = some b' := e
  cases e'
  refine ⟨?_, ?_⟩
  · have : hK h b = 17 ∨ hK h b = 30 ∨ hK h b = 31 ∨ hK h b = 32 ∨ hK h b = 33 ∨ hK h b = 34 ∨ hK h b = 35 ∨ hK h b = 36 ∨ hK h b = 37 ∨ hK h b = 38 ∨ hK h b = 39 ∨ hK h b = 40 ∨ hK h b = 41 ∨ hK h b = 42 ∨ hK h b = 44 ∨ hK h b = 43 := by omega
    rcases this with w | w | w | w | w | w | w | w | w | w | w | w | w | w | w | w
    · exact ⟨16, by decide, w, by decide⟩
    · exact ⟨29, by decide, w, by decide⟩
    · exact ⟨30, by decide, w, by decide⟩
    · exact ⟨31, by decide, w, by decide⟩
    · exact ⟨32, by decide, w, by decide⟩
    · exact ⟨33, by decide, w, by decide⟩
    · exact ⟨34, by decide, w, by decide⟩
    · exact ⟨35, by decide, w, by decide⟩
    · exact ⟨36, by decide, w, by decide⟩
    · exact ⟨37, by decide, w, by decide⟩
    · exact ⟨38, by decide, w, by decide⟩
    · exact ⟨39, by decide, w, by decide⟩
    · exact ⟨40, by decide, w, by decide⟩
    · exact ⟨41, by decide, w, by decide⟩
    · exact ⟨43, by decide, w, by decide⟩
    · omega
  · have htf : tf (hK h b) = 296 := by
      unfold tf
      rw [if_neg (by omega), if_neg (by omega), if_neg (by omega), if_neg (by omega), if_neg (by omega), if_neg (by omega), if_neg (by omega)]
    obtain ⟨x1, x2, x3, -⟩ := ex
    rw [htf] at x3
    rw [i_eq, x3, nI_toInt (by show (tkn z).toNat < _; omega)]
    show tkn z = ((tkn z).toNat : Int)
    omega
theorem sEx_nw (hs : sEx ts O N Ct Dt n 0 V rc x rc') (ot : OTG X W h x 0 0 q) : 1 ≤ nw x := by
  obtain ⟨kk, z, rfl⟩ := OTG_0 ot
  show 1 ≤ nw z + _
  repeat' split
  all_goals omega
/-- brackets -/
theorem ex_grp (hE : ExI G c n) (hs : sEx c.ts c.O c.N c.Ct c.Dt n 0 V s.rc y rc') (hT : TR lo hi (n1 19 t y)) (hhi : hi ≤ c.ts.length) (ot : OTG (XA c.ts c.W c.O c.Z c.D s.h) c.W s.h (n1 19 t y) 0 0 q) (k : XS G c P s) (hb : BdX c s (2 * nw (n1 19 t y))) (hf : Frs s.h c.Z c.D s.E (bT (n1 19 t y))) (hV : ∀ t, t ∈ V → ∃ σ, (t, σ) ∈ s.E) (hD : fw (n1 19 t y) + 600 ≤ D + 1) : C G mX39_infer (D + 1) [.ref q, .ref (gW G 6)] s.h (ExQ G c P s (fun x => x ∈ bT (n1 19 t y)) (2 * nw (n1 19 t y) - 1) (eX (tW c.N c.Ct c.Dt (Vl c.ts) c.kn (n + 1)) (n1 19 t y) (eA s.M s.t s.E)) (wW c.Ct c.Dt (Pl c.ts) (n + 1) 0 (n1 19 t y)) rc') ∧ hK s.h q = 37 := by
  obtain ⟨hWq, hkq, -, oy, g19⟩ := (OTG_ndg (by decide)).mp ot
  obtain ⟨p, c1, c2, c3, c4⟩ := g19 rfl
  rw [OTG_ef (m' := 6) (i' := 0) (by decide) (by decide), OTG_6] at oy
  obtain ⟨b, b1', b2'⟩ := oy
  cases c3.symm.trans b1'
  have kc' := sEx_kg n V s.rc y rc' p hs b2'
  have hk : hK s.h q = 37 := by omega
  have r32 : fR s.h q 332 = some p := by
    rw [if_neg (by rw [hk]; decide)] at c3
    exact c3
  have ew : nw (n1 19 t y) = nw y + 1 := by show 0 + nw y + 1 = _; omega
  have efw : fw (n1 19 t y) = max 0 (fw y) + 1 := rfl
  rw [ew] at hb
  rw [efw] at hD
  obtain ⟨k2, ν2, v1, v2, v3⟩ := hE P y p lo hi rc' D V s hs hT.2.2.2 hhi b2' k (hb.le (by omega)) hf hV (by omega)
  refine ⟨bX39_infer G D s.h _ _ ⟨hk, p, r32, k2, ν2, v1, v2, C.mono v3 ?_⟩, hk⟩
  have law : eX (tW c.N c.Ct c.Dt (Vl c.ts) c.kn (n + 1)) (n1 19 t y) (eA s.M s.t s.E) = eX (tW c.N c.Ct c.Dt (Vl c.ts) c.kn n) y (eA s.M s.t s.E) := rfl
  have eww : wW c.Ct c.Dt (Pl c.ts) (n + 1) 0 (n1 19 t y) = wW c.Ct c.Dt (Pl c.ts) n 0 y := rfl
  have ebt : bT (n1 19 t y) = bT y := rfl
  rw [law, eww, ebt, ew]
  intro o h' z
  unfold ExQ at z
  cases hr : eX (tW c.N c.Ct c.Dt (Vl c.ts) c.kn n) y (eA s.M s.t s.E) with
  | error f =>
    rw [hr] at z
    obtain ⟨z1, x, rfl, z3, z4⟩ := z
    exact KI.t ⟨z1, x, rfl, z3, by omega⟩
  | ok R =>
    rw [hr] at z
    obtain ⟨t1, s1, rfl, z2, z3, z4, z5⟩ := z
    exact KI.i ⟨t1, s1, rfl, z2, z3, z4, z5.wk (by omega) fun _ h => h⟩
end
