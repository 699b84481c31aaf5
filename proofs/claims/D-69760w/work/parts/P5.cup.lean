/-! CONTRACTS HOLD WITH MORE ROOM FOR FRAMES -/
section
variable {G : Gh} {μ : Mu} {d d' : Nat} {h : AH} {Q : Outcome → AH → Prop} {av : List Value}
theorem C.up (k : C G μ d av h Q) (hd : d ≤ d') : C G μ d' av h Q := by
  intro hb l hl p e ha hcs hk s m args below hfr happ hP hK
  obtain ⟨a1, a2, a3, a4, a5, a6, a7, a8⟩ := (Spec.appliesLoose_iff hfr).mp happ
  refine k hb l hl p e ha hcs hk s m args below hfr ((Spec.appliesLoose_iff hfr).mpr ⟨a1, a2, a3, a4, a5, a6, ?_, a8⟩) hP hK
  have h1 : (rmOf d h).frames ≤ (rmOf d' h).frames := hd
  have h2 : (rmOf d h).locals ≤ (rmOf d' h).locals := Nat.mul_le_mul_left 41 hd
  have h3 : (rmOf d h).cells ≤ (rmOf d' h).cells := Nat.le_refl _
  have h4 : (rmOf d h).slots ≤ (rmOf d' h).slots := Nat.le_refl _
  have a7' : s.hasRoom e.platform (rmOf d' h) = true := a7
  show s.hasRoom e.platform (rmOf d h) = true
  simp only [State.hasRoom, Bool.and_eq_true, decide_eq_true_eq] at a7' ⊢
  obtain ⟨⟨⟨⟨y, a, b, c, d, e⟩, f⟩, g⟩, i⟩ := a7'
  exact ⟨⟨⟨⟨by omega, by omega, by omega, by omega, by omega, e⟩, by omega⟩, by omega⟩, i⟩
end
section
variable {G : Gh} {W : Nat → Prop} {ts : List (Nat × Nat × Nat)} {O : List (Nat × Nat) × List (Nat × Nat)} {Z : Zt} {D : Dm} {N rc d d' n k : Nat} {Ct : Ctb} {Dt : Dtb} {kn : Nat → TS}
theorem PtI.up (p : PtI G W ts O Z D N Ct Dt kn rc n d) (hd : d ≤ d') : PtI G W ts O Z D N Ct Dt kn rc n d' := by
  intro x q lo hi h M Pn τ m Γ cap h1 h2 h3 h4 h5 h6 h7
  obtain ⟨k, ν, v1, v2, v3⟩ := p x q lo hi h M Pn τ m Γ cap h1 h2 h3 h4 h5 h6 h7
  exact ⟨k, ν, v1, v2, v3.up hd⟩
/-- all patterns, with less frames -/
theorem pt_all1 : ∀ n d, n + 80 ≤ d → PtI G W ts O Z D N Ct Dt kn rc n d := by
  intro n
  induction n with
  | zero => intro d _ p q lo hi h M Pn τ m Γ cap h1; exact h1.elim
  | succ n ih =>
    intro d hd p q lo hi h M Pn τ m Γ cap hs hT hhi ot k hb hf
    have sA := k.1.1.1
    have w := k.1
    obtain ⟨d0, rfl⟩ : ∃ d0, d = d0 + n + 81 := ⟨d - n - 81, by omega⟩
    have ih' : ∀ d, d0 + n + 80 ≤ d → PtI G W ts O Z D N Ct Dt kn rc n d := fun d hd => ih d (by omega)
    rcases hs with ⟨t, rfl⟩ | ⟨t, rfl⟩ | ⟨t, v, rfl⟩ | ⟨t, v, rfl⟩ | ⟨t, v, rfl⟩ | ⟨t, c, y, rfl, hc, hy⟩ | ⟨t, l, rfl, hl6, hl⟩ | ⟨t, l, rfl, hl⟩ | ⟨t, a, b, rfl, ha, hb'⟩ | ⟨t, y, rfl, hy⟩
    · have hk : hK h q = 20 := by simpa [kc] using ((OTG_n0 (by decide)).mp ot).2.1
      refine ⟨19, _, v19_infer, hk, ?_⟩
      have e1 : nw (n0 31 t) = 1 := rfl
      rw [e1] at hb ⊢
      obtain ⟨u1, u2, u3, u4, u5⟩ := hb
      exact (pt_any (d := d0 + n + 79) (n := n) k ⟨by omega, by omega, by omega, by omega, by omega⟩).up (by omega)
    · have hk : hK h q = 24 := by simpa [kc] using ((OTG_n0 (by decide)).mp ot).2.1
      refine ⟨23, _, v23_infer, hk, ?_⟩
      refine bX25_infer G _ h _ _ (sA.at (by decide)) (sA.at (by decide)) ?_
      rw [w.2.2.1.2.2]
      exact pt_there (i := 2) (u := tUnit) k (by decide) (fun ρ hρ => (Sl0 k.2.1 hρ).2.2) _
    · obtain ⟨hWq, hkq, ⟨-, an⟩, -⟩ := (OTG_nd (k := 32) (by decide)).mp ot
      have hk : hK h q = 21 := by simpa [kc] using hkq
      refine ⟨20, _, v20_infer, hk, ?_⟩
      obtain ⟨a1, a2⟩ := (an _ _ rfl).2.2.1 rfl
      rw [Int.toNat_natCast] at a1 a2
      have e1 : nw (n1 32 t (.num v)) = 1 := rfl
      have e2 : pNm (n + 1) (n1 32 t (.num v)) = [t] := by
        show [(t : Int).toNat] = _
        rw [Int.toNat_natCast]
      rw [e1] at hb ⊢
      rw [e2] at hf ⊢
      obtain ⟨f1, f2, f3⟩ := hf.2 t (List.mem_cons_self ..)
      obtain ⟨u1, u2, u3, u4, u5⟩ := hb
      exact (pt_name (d := d0 + n + 79) (n := n) (B := fun x => x ∈ [t]) k ⟨by omega, by omega, by omega, by omega, by omega⟩ a1 (List.mem_cons_self ..) f2 hk a2 f3).up (by omega)
    · obtain ⟨hWq, hkq, ⟨ex, -⟩, -⟩ := (OTG_nd (k := 34) (by decide)).mp ot
      have hk : hK h q = 22 := by simpa [kc] using hkq
      refine ⟨21, _, v21_infer, hk, ?_⟩
      have e0 : fI h q 307 = 0 := by
        obtain ⟨v', -, -, e⟩ := (ex.2.2.2.2.2.2.2.2 _ _ rfl).2.1 (Or.inl rfl)
        exact e
      refine bX23_infer G _ h _ _ (sA.at (by decide)) (sA.at (by decide)) ⟨hk, fun _ => ?_, fun z => absurd e0 z⟩
      rw [w.2.2.1.1]
      exact pt_there (i := 0) (u := tInt) k (by decide) (fun ρ hρ => (Sl0 k.2.1 hρ).1) _
    · obtain ⟨hWq, hkq, ⟨ex, -⟩, -⟩ := (OTG_nd (k := 35) (by decide)).mp ot
      have hk : hK h q = 22 := by simpa [kc] using hkq
      refine ⟨21, _, v21_infer, hk, ?_⟩
      have e0 : fI h q 307 = 1 := by
        obtain ⟨v', -, -, e⟩ := (ex.2.2.2.2.2.2.2.2 _ _ rfl).2.1 (Or.inr rfl)
        exact e
      refine bX23_infer G _ h _ _ (sA.at (by decide)) (sA.at (by decide)) ⟨hk, fun z => absurd (e0.symm.trans z) (by decide), fun _ => ?_⟩
      rw [w.2.2.1.2.1]
      exact pt_there (i := 1) (u := tBool) k (by decide) (fun ρ hρ => (Sl0 k.2.1 hρ).2.1) _
    · obtain ⟨c1, hk⟩ := pt_con (d := d0 + n + 10) (ih' _ (by omega)) hc hy hT hhi ot k hb hf
      exact ⟨18, _, v18_infer, hk, c1.up (by omega)⟩
    · obtain ⟨c1, hk⟩ := pt_tup (d := d0 + n + 79) (ih' _ (by omega)) hl hl6 hT hhi ot k hb hf
      exact ⟨25, _, v25_infer, hk, c1.up (by omega)⟩
    · obtain ⟨c1, hk⟩ := pt_lst (d := d0 + n + 73) (ih' _ (by omega)) hl hT hhi ot k hb hf
      exact ⟨22, _, v22_infer, hk, c1.up (by omega)⟩
    · obtain ⟨c1, hk⟩ := pt_pair (d := d0 + n + 73) (ih' _ (by omega)) ha hb' hT hhi ot k hb hf
      exact ⟨26, _, v26_infer, hk, c1.up (by omega)⟩
    · obtain ⟨c1, hk⟩ := pt_grp (d := d0 + n + 79) (ih' _ (by omega)) hy hT hhi ot k hb hf
      exact ⟨24, _, v24_infer, hk, c1.up (by omega)⟩
end
