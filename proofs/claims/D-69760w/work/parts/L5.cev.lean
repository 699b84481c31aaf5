/-! THE COMPONENT'S TYPES: what stays when the table goes on -/
/-- the scheme's nodes of which something general is a part are known by -2 -/
def FL2 (G : Gh) (h : AH) (M : Nat) (τ : Tb) (x : Nat) : Prop := ∃ F : Nat → Prop, KC M τ F ∧ F x ∧ ∀ z, F z → uS τ z = none → ¬ cln M τ z → aI h (gW G 1032) z = -2
/-- clean nodes stay clean, schemes stay schemes, no solutions are new -/
def Ev (G : Gh) (h : AH) (M : Nat) (τ : Tb) (h' : AH) (M' : Nat) (τ' : Tb) : Prop := M ≤ M' ∧ (∀ ρ, Sl M' τ' ρ → Sl M τ ρ) ∧ (∀ x, cln M τ x → cln M' τ' x) ∧ ∀ x s, SE M τ x s → FL2 G h M τ x → SE M' τ' x s ∧ FL2 G h' M' τ' x
section
variable {G : Gh} {d M M' M2 Pn Pn' m m' a b : Nat} {h h1 h2 h' : AH} {τ τ' τ2 : Tb} {rt dp : Nat → Nat}
theorem Ev.rf : Ev G h M τ h M τ := ⟨Nat.le_refl _, fun _ k => k, fun _ k => k, fun _ _ k l => ⟨k, l⟩⟩
theorem Ev.tr (a : Ev G h M τ h1 M' τ') (b : Ev G h1 M' τ' h2 M2 τ2) : Ev G h M τ h2 M2 τ2 := ⟨Nat.le_trans a.1 b.1, fun ρ k => a.2.1 ρ (b.2.1 ρ k), fun x k => b.2.2.1 x (a.2.2.1 x k), fun x s k l => (fun q => b.2.2.2 x s q.1 q.2) (a.2.2.2 x s k l)⟩
theorem Gw.se (g : Gw M τ M' τ') (kc : KC M τ (· < M)) {x : Nat} {s : Tr} (e : SE M τ x s) (r' : RTs M' τ' (rtC M rt) dp) (r : RTs M τ rt dp) : SE M' τ' x s := by
  obtain ⟨f, hf⟩ := e.use r kc
  have hx := e.1
  have hM := g.1
  have key : ∀ f x, x < M → scF M' τ' (rtC M rt) f x = scF M τ rt f x := by
    intro f
    induction f with
    | zero => intro x _; rfl
    | succ f ih =>
      intro x hx
      have rC : rtC M rt x = rt x := by unfold rtC; rw [if_pos hx]
      have hr := (r x hx).1
      by_cases c : cln M τ x
      · rw [sc_cln c, sc_cln (g.cl c)]
      · have c' : ¬ cln M' τ' x := fun q => c (g.cl' kc hx q)
        obtain ⟨e1, e2, -⟩ := g.2.1 _ hr
        by_cases hn : uN τ (rt x) < 0
        · rw [sc_var c hn, sc_var c' (by rw [rC, e1]; exact hn), rC]
        · rw [sc_gt c hn, sc_gt c' (by rw [rC, e1]; exact hn), rC, e1, e2]
          congr 1
          exact List.map_congr_left fun p hp => ih p ((kc _ hr).2.2 (by omega) p hp)
  exact ⟨by omega, rtC M rt, dp, f, r', fun f' hf' => by rw [key f' x hx]; exact hf f' hf'⟩
theorem TGr.ev (k0 : TT G h M Pn τ m) (g : TGr G h h' M τ M' Pn' τ' m') : Ev G h M τ h' M' τ' := by
  obtain ⟨-, -, gw, f1⟩ := g
  obtain ⟨fs, rt, dp, k, nm, sf, mk, hp, fl, b3⟩ := k0
  have kc := k.kc
  refine ⟨gw.1, fun ρ hρ => ((gw.sl kc).mp hρ).1, fun x c => gw.cl c, fun x s e ⟨F, q1, q2, q3⟩ => ⟨gw.se kc e (gw.sf sf kc).1 sf.1, F, gw.kc q1, q2, fun z hz hn c => ?_⟩⟩
  have hzM := (q1 z hz).1
  rw [f1 z hzM]
  refine q3 z hz ?_ fun w => c (gw.cl w)
  rw [← (gw.2.1 z hzM).2.2]
  exact hn
/-- behind an equation -/
theorem EqT.ev (k0 : TT G h M Pn τ m) (k1 : TT G h' M Pn' τ' m') (e : EqT M τ τ' a b) (ca : cln M τ a) (cb : cln M τ b) (kept : ∀ z y, z < M → uS τ z = some y → uS τ' z = some y) (f1 : ∀ z, z < M → uS τ' z = none → aI h' (gW G 1032) z = aI h (gW G 1032) z) : Ev G h M τ h' M τ' := by
  obtain ⟨fs, rt, dp, k, nm, sf, mk, hp, fl, b3⟩ := k0
  obtain ⟨fs', rt', dp', k', nm', sf', -⟩ := k1
  have kc := k.kc
  have cl : ∀ x, cln M τ' x ↔ cln M τ x := fun x => e.cl ca cb kept
  have r := sf.1
  have r' := sf'.1
  obtain ⟨eN, eP⟩ := e.1
  have unt : ∀ z, z < M → ¬ cln M τ z → uS τ' z = uS τ z := fun z hz c => by
    refine Classical.byContradiction fun hne => ?_
    obtain ⟨A, a1, a2, a3⟩ := ca
    obtain ⟨B, b1, b2, b3⟩ := cb
    rcases (e.2.2 _ (a1.or b1) (Or.inl a2) (Or.inr b2)).2 z hz hne with q | q
    · exact c ⟨A, a1, q, a3⟩
    · exact c ⟨B, b1, q, b3⟩
  have rr : ∀ n x, dp x < n → x < M → ¬ cln M τ x → rt' x = rt x := by
    intro n
    induction n with
    | zero => intro x hn; omega
    | succ n ih =>
      intro x hn hx c
      have u := unt x hx c
      cases ex : uS τ x with
      | none =>
        rw [(r x hx).2.2 ex, (r' x hx).2.2 (by rw [u]; exact ex)]
      | some y =>
        obtain ⟨c1, c2, c3⟩ := (r x hx).2.1 y ex
        obtain ⟨-, d2, -⟩ := (r' x hx).2.1 y (by rw [u]; exact ex)
        rw [c2, d2]
        refine ih y (by omega) c1 fun q => c ((cln_rt sf kc fl.2 hx).mp ?_)
        rw [c2]
        exact q.rtt r
  refine ⟨Nat.le_refl _, fun ρ hρ => ((e.2.1 ρ).mp hρ).1, fun x c => (cl x).mpr c, fun x s se ⟨F, q1, q2, q3⟩ => ⟨?_, ?_⟩⟩
  · obtain ⟨f, hf⟩ := se.use r kc
    have key : ∀ f x, x < M → scF M τ' rt' f x = scF M τ rt f x := by
      intro f
      induction f with
      | zero => intro x _; rfl
      | succ f ih =>
        intro x hx
        have hr := (r x hx).1
        by_cases c : cln M τ x
        · rw [sc_cln c, sc_cln ((cl x).mpr c)]
        · have c' : ¬ cln M τ' x := fun q => c ((cl x).mp q)
          have rx := rr _ x (Nat.lt_succ_self _) hx c
          by_cases hn : uN τ (rt x) < 0
          · rw [sc_var c hn, sc_var c' (by rw [rx, eN]; exact hn), rx]
          · rw [sc_gt c hn, sc_gt c' (by rw [rx, eN]; exact hn), rx, eN, eP]
            congr 1
            exact List.map_congr_left fun p hp => ih p ((kc _ hr).2.2 (by omega) p hp)
    exact ⟨se.1, rt', dp', f, r', fun f' hf' => by rw [key f' x se.1]; exact hf f' hf'⟩
  · obtain ⟨A, a1, a2, a3⟩ := ca
    obtain ⟨B, b1, b2, b3⟩ := cb
    refine ⟨fun z => F z ∨ A z ∨ B z, (e.2.2 _ (q1.or (a1.or b1)) (Or.inr (Or.inl a2)) (Or.inr (Or.inr b2))).1, Or.inl q2, fun z hz hn c => ?_⟩
    rcases hz with hz | hz | hz
    · have hzM := (q1 z hz).1
      rw [f1 z hzM hn]
      refine q3 z hz ?_ fun w => c ((cl z).mpr w)
      cases ez : uS τ z with
      | none => rfl
      | some y => rw [kept z y hzM ez] at hn; cases hn
    · exact absurd ((cl z).mpr ⟨A, a1, hz, a3⟩) c
    · exact absurd ((cl z).mpr ⟨B, b1, hz, b3⟩) c
/-- what a type's inference says: nodes t, their types are those of S, whatever the solution was -/
def RsT (G : Gh) (h : AH) (M Pn : Nat) (τ : Tb) (m : Nat) (h' : AH) (ts : List Nat) (bN bM : Nat) (S : (Nat → Tr) → List Tr → Prop) : Prop := ∃ M' Pn' τ' m', (Ev G h M τ h' M' τ' ∧ FTy G h h') ∧ TT G h' M' Pn' τ' m' ∧ (∀ t, t ∈ ts → cln M' τ' t) ∧ (M' ≤ M + bN ∧ Pn' ≤ Pn + bN ∧ m' ≤ m + bM) ∧ (∀ ρ, Sl M' τ' ρ → S ρ (ts.map ρ)) ∧ ∀ ρ, Sl M τ ρ → ∀ u, S ρ u → ∃ ρ', Sl M' τ' ρ' ∧ (∀ x, x < M → ρ' x = ρ x) ∧ ts.map ρ' = u
end
