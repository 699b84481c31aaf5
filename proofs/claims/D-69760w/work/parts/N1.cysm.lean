/-! THE COMPONENT'S TYPER: names in sight, equations -/
/-- what stays, besides what a method's mask says -/
def FIe (G : Gh) (Z : Zt) (B : Nat → Prop) (rc nC : Nat) (h h' : AH) : Prop := (∀ a, FIx G h a → Uf h h' a) ∧ (∀ a, hK h a = 1007 → Ns (gW G) a → fR h (gW G 6) 111 ≠ some a → aR h' a = aR h a) ∧ (∀ b, hK h b = 13 → (∀ t, B t → b ≠ Z.1 t) → fI h' b 127 = fI h b 127 ∧ fI h' b 128 = fI h b 128) ∧ (∀ c, hK h c = 54 → (∀ i, rc ≤ i → i < nC → c ≠ Z.2.1 i) → fR h' c 372 = fR h c 372 ∧ fR h' c 373 = fR h c 373) ∧ (fR h' (gW G 6) 111 = fR h (gW G 6) 111 ∨ ∃ b, fR h' (gW G 6) 111 = some b ∧ hK h b = 0)
/-- a fault was thrown -/
def FtA (h : AH) (ts : List (Nat × Nat × Nat)) (a n t : Nat) : Prop := hK h a = 18 ∧ fI h a 300 = nI n ∧ fI h a 301 = nI (Pl ts t)
/-- a name in sight: its scheme -/
def EnE (G : Gh) (h : AH) (M : Nat) (τ : Tb) (b : Nat) (s : Tr) : Prop := hK h b = 13 ∧ 0 ≤ (fI h b 129).toInt ∧ ∃ x, fI h b 127 = nI x ∧ x < M ∧ ((fI h b 128 = 0 ∧ s = .var x ∧ cln M τ x) ∨ (fI h b 128 = 1 ∧ SE M τ x s ∧ FL2 G h M τ x ∧ gsz s ≤ 60))
/-- names in sight, the latest last -/
def EnC (G : Gh) (h : AH) (M : Nat) (τ : Tb) (Z : Zt) (Γ : List (Nat × Tr)) (cap : Nat) : Prop := ∃ ba, fR h (gW G 6) 111 = some ba ∧ (hK h ba = 1007 ∧ Ns (gW G) ba ∧ hL h ba = cap) ∧ (64 ≤ cap ∧ cap ≤ 5200 ∧ Γ.length ≤ cap) ∧ fI h (gW G 6) 112 = nI Γ.length ∧ ∀ (i : Nat) x, Γ[i]? = some x → aR h ba i = some (Z.1 x.1) ∧ EnE G h M τ (Z.1 x.1) x.2
/-- the environment of a solution -/
def gE (Γ : List (Nat × Tr)) (ρ : Nat → Tr) : En := fun t u => ∃ s, (t, s) ∈ Γ ∧ sg s ρ u
section
variable {G : Gh} {ts : List (Nat × Nat × Nat)} {O : List (Nat × Nat) × List (Nat × Nat)} {Z : Zt} {d N rc nC M M' Pn m a b t cap : Nat} {B : Nat → Prop} {Ct : Ctb} {Dt : Dtb} {kn : Nat → TS} {h h1 h2 h' : AH} {τ τ' : Tb} {s : Tr} {Γ : List (Nat × Tr)}
theorem EnE.mv (e : EnE G h M τ b s) (F : FIn G Z B rc nC h h') (hb : ∀ t, B t → b ≠ Z.1 t) (ev : Ev G h M τ h' M' τ') : EnE G h' M' τ' b s := by
  obtain ⟨e1, e2, x, e3, e4, e5⟩ := e
  obtain ⟨g1, g2⟩ := F.2.2.2.1 b e1 hb
  refine ⟨((F.1.1.2 b (by rw [e1]; decide)).1).trans e1, by rw [F.1.fi e1 (by decide) (by decide +kernel)]; exact e2, x, g1.trans e3, Nat.lt_of_lt_of_le e4 ev.1, ?_⟩
  rcases e5 with ⟨q1, q2, q3⟩ | ⟨q1, q2, q3, q4⟩
  · exact Or.inl ⟨g2.trans q1, q2, ev.2.2.1 x q3⟩
  · obtain ⟨r1, r2⟩ := ev.2.2.2 x s q2 q3
    exact Or.inr ⟨g2.trans q1, r1, r2, q4⟩
/-- the table alone was changed: names stay in sight -/
theorem EnC.mt (e : EnC G h M τ Z Γ cap) (T : FTy G h h') (F : FIn G Z (fun _ => False) rc nC h h') (sA : SoA G h) (ev : Ev G h M τ h' M' τ') : EnC G h' M' τ' Z Γ cap := by
  obtain ⟨ba, e1, ⟨e2, e3, e4⟩, e5, e6, e7⟩ := e
  have s6 := sA.at (i := 6) (by decide)
  have s2 := sA.at (i := 2) (by decide)
  have kk : ∀ i, i ∈ TyC → hK h (gW G i) = 3 ∨ hK h (gW G i) = 1000 := fun i hi => by
    unfold TyC at hi
    simp only [List.mem_cons, List.not_mem_nil, or_false] at hi
    rcases hi with rfl | rfl | rfl | rfl | rfl | rfl | rfl | rfl | rfl
    · exact Or.inl s2.1
    · exact Or.inr (kw1030 s2)
    · exact Or.inr (kw1031 s2)
    · exact Or.inr (kw1032 s2)
    · exact Or.inr (kw1033 s2)
    · exact Or.inr (kw1034 s2)
    · exact Or.inr (kw1035 s2)
    · exact Or.inr (kw1039 s2)
    · exact Or.inr (kw1046 s2)
  have u6 := T.1 (gW G 6) fun i hi z => by
    have := kk i hi
    rw [← z, s6.1] at this
    exact absurd this (by decide)
  have ub := T.1 ba fun i hi z => by
    have := kk i hi
    rw [← z, e2] at this
    exact absurd this (by decide)
  refine ⟨ba, ((u6.2.2.2.2.2 111).2.2).trans e1, ⟨ub.1.trans e2, e3, ub.2.1.trans e4⟩, e5, ((u6.2.2.2.2.2 112).1).trans e6, fun i x hx => ?_⟩
  obtain ⟨q1, q2⟩ := e7 i x hx
  exact ⟨by rw [ub.2.2.2.2.1]; exact q1, q2.mv F (fun t h2 => h2.elim) ev⟩
/-- the end of an equation -/
def ysQ (G : Gh) (ts : List (Nat × Nat × Nat)) (Z : Zt) (rc nC : Nat) (h : AH) (M Pn : Nat) (τ : Tb) (m a b t : Nat) : Outcome → AH → Prop := fun o h' => FIn G Z (fun _ => False) rc nC h h' ∧ (((∃ ρ, Sl M τ ρ ∧ ρ a = ρ b) ∧ o = .returned none ∧ FTy G h h' ∧ ∃ τ', TT G h' M Pn τ' (m + 2) ∧ Ev G h M τ h' M τ' ∧ ∀ ρ, Sl M τ' ρ ↔ Sl M τ ρ ∧ ρ a = ρ b) ∨ ((∀ ρ, Sl M τ ρ → ρ a ≠ ρ b) ∧ ∃ e, o = .threw e ∧ FtA h' ts e 5 t ∧ un h' = un h + 24))
theorem c_ysm (w : IWd G ts O Z N Ct Dt kn rc h) (k0 : TT G h M Pn τ m) (hPn : Pn < 149000) (hm : m + 2 < 2147483648) (ca : cln M τ a) (cb : cln M τ b) (ht : t < ts.length) (hu : un h + 24 ≤ UB) : C G mX11_same (d + 6) [.ref (gW G 6), .int (nI a), .int (nI b), .int (nI t)] h (ysQ G ts Z rc nC h M Pn τ m a b t) := by
  have sA := w.1.1
  have hD := w.1.2
  have tl := w.2.2.2.1.1
  refine C.use (Q := fun o h' => FIe G Z (fun _ => False) rc nC h h' ∧ (((∃ ρ, Sl M τ ρ ∧ ρ a = ρ b) ∧ o = .returned none ∧ FTy G h h' ∧ ∃ τ', TT G h' M Pn τ' (m + 2) ∧ Ev G h M τ h' M τ' ∧ ∀ ρ, Sl M τ' ρ ↔ Sl M τ ρ ∧ ρ a = ρ b) ∨ ((∀ ρ, Sl M τ ρ → ρ a ≠ ρ b) ∧ ∃ e, o = .threw e ∧ FtA h' ts e 5 t ∧ un h' = un h + 24))) ?_ (by decide) (fun o h' q l _ => ⟨⟨l.weak (by decide +kernel), q.1⟩, q.2⟩)
  refine bX11_same G (d + 5) h _ _ _ _ (sA.at (by decide)) (sA.at (by decide)) (sA.at (by decide)) (C.use (c_same (d := d + 2) hD k0 hPn hm ca.lt cb.lt ca cb) (by decide) ?_)
  rintro o h1 ⟨T, q⟩ l -
  have F1 : FIn G Z (fun _ => False) rc nC h h1 := T.fin sA (l.weak (by decide +kernel))
  rcases q with ⟨rfl, q⟩ | ⟨rfl, τ', k1, eq, kept, f1⟩
  · refine KI.i ⟨fun _ => ?_, fun z => absurd rfl z⟩
    have hr := un_rm (n := 8) (h := h1) (by rw [T.2.1]; omega)
    refine ⟨hr.1, hr.2, fun q5 hq => ?_⟩
    rintro _ rfl
    have s1' := (sA.le T.2.2).at (i := 1) (by decide)
    have e25 : aI (nO h1 q5 17) (gW G 1025) t = nI (Pl ts t) := by
      rw [aI_nO]
      exact (w.mv (T.fin (Z := Z) (B := fun _ => False) (rc := rc) (nC := Ct.length) sA F1.1)).2.2.2.1.2 t ht
    rw [nI_cn (by omega), e25]
    refine ⟨vp_in_nI (by omega) (by decide), C.mono (c_Fault (d := d) (by rw [hK_nO, if_pos rfl]) rfl (by rw [fR_nO, if_pos rfl])) ?_⟩
    rintro _ _ ⟨rfl, h2, ⟨r1, r2, rfl⟩, rfl⟩
    have hq0 : hK h q5 = 0 := F1.1.fresh hq
    refine KV.i ⟨?_, Or.inr ⟨q, q5, rfl, ⟨?_, ?_, ?_⟩, ?_⟩⟩
    · obtain ⟨-, g1, g2, g3, g4, g5⟩ := F1
      refine ⟨fun x hx => ?_, fun x hx hn hne => ?_, fun x hx hp => ?_, fun x hx hp => ?_, ?_⟩
      · have hne : x ≠ q5 := fun e => hx.1 (by rw [e]; exact hq0)
        have u := g1 x hx
        refine ⟨?_, ?_, ?_, ?_, ?_, fun g => ⟨?_, ?_, ?_⟩⟩
        · simp only [hK_pI, hK_pR, hK_nO, if_neg hne]; exact u.1
        · simp only [hL_pI, hL_pR, hL_nO]; exact u.2.1
        · simp only [aI_pI, aI_pR, aI_nO]; exact u.2.2.1
        · simp only [aJ_pI, aJ_pR, aJ_nO]; exact u.2.2.2.1
        · simp only [aR_pI, aR_pR, aR_nO]; exact u.2.2.2.2.1
        · simp only [fI_pI, fI_pR, fI_nO, if_neg (fun z : x = q5 ∧ _ => hne z.1), if_neg hne]; exact (u.2.2.2.2.2 g).1
        · simp only [fJ_pI, fJ_pR, fJ_nO, if_neg hne]; exact (u.2.2.2.2.2 g).2.1
        · simp only [fR_pI, fR_pR, fR_nO, if_neg (fun z : x = q5 ∧ _ => hne z.1), if_neg hne]; exact (u.2.2.2.2.2 g).2.2
      · simp only [aR_pI, aR_pR, aR_nO]
        exact g2 x hx hn hne
      · have hne : x ≠ q5 := fun e => by rw [e, hq0] at hx; cases hx
        simp only [fI_pI, fI_pR, fI_nO, if_neg (fun z : x = q5 ∧ _ => hne z.1), if_neg hne]
        exact g3 x hx hp
      · have hne : x ≠ q5 := fun e => by rw [e, hq0] at hx; cases hx
        simp only [fR_pI, fR_pR, fR_nO, if_neg (fun z : x = q5 ∧ _ => hne z.1), if_neg hne]
        exact g4 x hx hp
      · have hne : gW G 6 ≠ q5 := fun e => by
          have := (sA.at (i := 6) (by decide)).1
          rw [e, hq0] at this
          cases this
        simp only [fR_pI, fR_pR, fR_nO, if_neg (fun z : gW G 6 = q5 ∧ _ => hne z.1), if_neg hne]
        exact g5
    · simp only [hK_pI, hK_pR]; rw [hK_nO, if_pos rfl]
    · rw [fI_pI, if_neg (fun e => absurd e.2 (by decide)), fI_pI, if_pos ⟨rfl, rfl⟩]; rfl
    · rw [fI_pI, if_pos ⟨rfl, rfl⟩]
    · simp only [un_pI, un_pR]
      rw [un_nO, T.2.1]
      rfl
  · refine KI.i ⟨fun z => absurd z (by decide), fun _ => ⟨F1.2, Or.inl ⟨?_, rfl, T, τ', k1, EqT.ev k0 k1 eq ca cb kept f1, eq.2.1⟩⟩⟩
    obtain ⟨fs', rt', dp', k', -, sf', -⟩ := k1
    obtain ⟨ρ, hρ, -⟩ := sf'.sol k'.kc (fun _ => gt 9 [])
    exact ⟨ρ, (eq.2.1 ρ).mp hρ⟩
end
