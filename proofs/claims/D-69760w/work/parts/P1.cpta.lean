/-! THE COMPONENT'S TYPER: all patterns -/
section
variable {G : Gh} {W : Nat → Prop} {ts : List (Nat × Nat × Nat)} {O : List (Nat × Nat) × List (Nat × Nat)} {Z : Zt} {D : Dm} {N rc : Nat} {Ct : Ctb} {Dt : Dtb} {kn : Nat → TS}
theorem pt_all : ∀ n d, PtI G W ts O Z D N Ct Dt kn rc n (d + 80 * n + 2) := by
  intro n
  induction n with
  | zero => intro d p q lo hi h M Pn τ m Γ cap h1; exact h1.elim
  | succ n ih =>
    intro d p q lo hi h M Pn τ m Γ cap hs hT hhi ot k hb hf
    have sA := k.1.1.1
    have w := k.1
    have ih' : PtI G W ts O Z D N Ct Dt kn rc n (d + 80 * n + 81) := by
      have := ih (d + 79)
      rw [show d + 79 + 80 * n + 2 = d + 80 * n + 81 by omega] at this
      exact this
    rcases hs with ⟨t, rfl⟩ | ⟨t, rfl⟩ | ⟨t, v, rfl⟩ | ⟨t, v, rfl⟩ | ⟨t, v, rfl⟩ | ⟨t, c, y, rfl, hc, hy⟩ | ⟨t, l, rfl, hl6, hl⟩ | ⟨t, l, rfl, hl⟩ | ⟨t, a, b, rfl, ha, hb'⟩ | ⟨t, y, rfl, hy⟩
    · -- a wildcard
      have hk : hK h q = 20 := by simpa [kc] using ((OTG_n0 (by decide)).mp ot).2.1
      refine ⟨19, _, v19_infer, hk, ?_⟩
      rw [show d + 80 * (n + 1) + 2 = d + 80 * n + 80 + 2 by omega]
      have e1 : nw (n0 31 t) = 1 := rfl
      rw [e1] at hb ⊢
      obtain ⟨u1, u2, u3, u4, u5⟩ := hb
      exact pt_any (d := d + 80 * n + 80) (n := n) k ⟨by omega, by omega, by omega, by omega, by omega⟩
    · -- unit
      have hk : hK h q = 24 := by simpa [kc] using ((OTG_n0 (by decide)).mp ot).2.1
      refine ⟨23, _, v23_infer, hk, ?_⟩
      refine bX25_infer G _ h _ _ (sA.at (by decide)) (sA.at (by decide)) ?_
      rw [w.2.2.1.2.2]
      exact pt_there (i := 2) (u := tUnit) k (by decide) (fun ρ hρ => (Sl0 k.2.1 hρ).2.2) _
    · -- a name
      obtain ⟨hWq, hkq, ⟨-, an⟩, -⟩ := (OTG_nd (k := 32) (by decide)).mp ot
      have hk : hK h q = 21 := by simpa [kc] using hkq
      refine ⟨20, _, v20_infer, hk, ?_⟩
      obtain ⟨a1, a2⟩ := (an _ _ rfl).2.2.1 rfl
      rw [Int.toNat_natCast] at a1 a2
      rw [show d + 80 * (n + 1) + 2 = d + 80 * n + 80 + 2 by omega]
      have e1 : nw (n1 32 t (.num v)) = 1 := rfl
      have e2 : pNm (n + 1) (n1 32 t (.num v)) = [t] := by
        show [(t : Int).toNat] = _
        rw [Int.toNat_natCast]
      rw [e1] at hb ⊢
      rw [e2] at hf ⊢
      obtain ⟨f1, f2, f3⟩ := hf.2 t (List.mem_cons_self ..)
      obtain ⟨u1, u2, u3, u4, u5⟩ := hb
      exact pt_name (d := d + 80 * n + 80) (n := n) (B := fun x => x ∈ [t]) k ⟨by omega, by omega, by omega, by omega, by omega⟩ a1 (List.mem_cons_self ..) f2 hk a2 f3
    · -- a number
      obtain ⟨hWq, hkq, ⟨ex, -⟩, -⟩ := (OTG_nd (k := 34) (by decide)).mp ot
      have hk : hK h q = 22 := by simpa [kc] using hkq
      refine ⟨21, _, v21_infer, hk, ?_⟩
      have e0 : fI h q 307 = 0 := by
        obtain ⟨v', -, -, e⟩ := (ex.2.2.2.2.2.2.2.2 _ _ rfl).2.1 (Or.inl rfl)
        exact e
      refine bX23_infer G _ h _ _ (sA.at (by decide)) (sA.at (by decide)) ⟨hk, fun _ => ?_, fun z => absurd e0 z⟩
      rw [w.2.2.1.1]
      exact pt_there (i := 0) (u := tInt) k (by decide) (fun ρ hρ => (Sl0 k.2.1 hρ).1) _
    · obtain ⟨hWq, hkq, ⟨ex, -⟩, -⟩ := (OTG_nd (k := 35) (by decide)).mp ot
      have hk : hK h q = 22 := by simpa [kc] using hkq
      refine ⟨21, _, v21_infer, hk, ?_⟩
      have e0 : fI h q 307 = 1 := by
        obtain ⟨v', -, -, e⟩ := (ex.2.2.2.2.2.2.2.2 _ _ rfl).2.1 (Or.inr rfl)
        exact e
      refine bX23_infer G _ h _ _ (sA.at (by decide)) (sA.at (by decide)) ⟨hk, fun z => absurd (e0.symm.trans z) (by decide), fun _ => ?_⟩
      rw [w.2.2.1.2.1]
      exact pt_there (i := 1) (u := tBool) k (by decide) (fun ρ hρ => (Sl0 k.2.1 hρ).2.1) _
    · obtain ⟨c1, hk⟩ := pt_con (d := d + 80 * n + 11) ih' hc hy hT hhi ot k hb hf
      exact ⟨18, _, v18_infer, hk, by rw [show d + 80 * (n + 1) + 2 = d + 80 * n + 11 + 71 by omega]; exact c1⟩
    · obtain ⟨c1, hk⟩ := pt_tup (d := d + 80 * n + 80) ih' hl hl6 hT hhi ot k hb hf
      exact ⟨25, _, v25_infer, hk, by rw [show d + 80 * (n + 1) + 2 = d + 80 * n + 80 + 2 by omega]; exact c1⟩
    · obtain ⟨c1, hk⟩ := pt_lst (d := d + 80 * n + 74) ih' hl hT hhi ot k hb hf
      exact ⟨22, _, v22_infer, hk, by rw [show d + 80 * (n + 1) + 2 = d + 80 * n + 74 + 8 by omega]; exact c1⟩
    · obtain ⟨c1, hk⟩ := pt_pair (d := d + 80 * n + 74) ih' ha hb' hT hhi ot k hb hf
      exact ⟨26, _, v26_infer, hk, by rw [show d + 80 * (n + 1) + 2 = d + 80 * n + 74 + 8 by omega]; exact c1⟩
    · obtain ⟨c1, hk⟩ := pt_grp (d := d + 80 * n + 80) ih' hy hT hhi ot k hb hf
      exact ⟨24, _, v24_infer, hk, by rw [show d + 80 * (n + 1) + 2 = d + 80 * n + 80 + 2 by omega]; exact c1⟩
end
