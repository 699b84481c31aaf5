/-! THE COMPONENT'S TYPER: environments of solutions -/
/-- the environments of a table's solutions -/
def eA (M : Nat) (τ : Tb) (Γ : List (Nat × Tr)) : En → Prop := fun γ => ∃ ρ, Sl M τ ρ ∧ γ = gE Γ ρ
section
variable {G : Gh} {W : Nat → Prop} {ts : List (Nat × Nat × Nat)} {O : List (Nat × Nat) × List (Nat × Nat)} {Z : Zt} {D : Dm} {N rc M M1 M2 Pn Pn1 Pn2 m m1 m2 b x t cap : Nat} {Ct : Ctb} {Dt : Dtb} {kn : Nat → TS} {h h1 h2 : AH} {τ τ1 τ2 : Tb} {Γ : List (Nat × Tr)} {s : Tr} {ρ ρ' : Nat → Tr}
theorem SE.nd (e : SE M τ x s) (kc : KC M τ (· < M)) : ∀ y, sNd s y → y < M := by
  obtain ⟨hx, rt, dp, f, r, h⟩ := e
  intro y hy
  rw [← h f (Nat.le_refl _)] at hy
  exact sc_in r kc f x hx y hy
theorem EnE.nd (e : EnE G h M τ b s) (kc : KC M τ (· < M)) : ∀ y, sNd s y → y < M := by
  obtain ⟨-, -, x, -, e4, e5⟩ := e
  rcases e5 with ⟨-, rfl, -⟩ | ⟨-, e6, -⟩
  · intro y hy
    have : x = y := hy
    omega
  · exact e6.nd kc
theorem gE_cg (hΓ : ∀ x, x ∈ Γ → ∀ y, sNd x.2 y → y < M) (hρ : ∀ x, x < M → ρ' x = ρ x) : gE Γ ρ' = gE Γ ρ := by
  funext t u
  refine propext ⟨?_, ?_⟩
  · rintro ⟨s, h1, h2⟩
    exact ⟨s, h1, by rw [← sg_cg fun y hy => hρ y (hΓ _ h1 y hy)]; exact h2⟩
  · rintro ⟨s, h1, h2⟩
    exact ⟨s, h1, by rw [sg_cg fun y hy => hρ y (hΓ _ h1 y hy)]; exact h2⟩
theorem ISt.ge (k : ISt G W ts O Z D N Ct Dt kn rc h M Pn τ m Γ cap) (hρ : ∀ x, x < M → ρ' x = ρ x) : gE Γ ρ' = gE Γ ρ := by
  refine gE_cg (fun x hx y hy => ?_) hρ
  obtain ⟨ba, -, -, -, -, e⟩ := k.2.2.1
  obtain ⟨i, hi⟩ := List.getElem?_of_mem hx
  exact (e i x hi).2.nd k.2.1.kc y hy
theorem gE_1 {u : Nat} (hn : ∀ x, x ∈ Γ → x.1 ≠ t) : gE (Γ ++ [(t, .var u)]) ρ = updE (gE Γ ρ) t fun w => w = ρ u := by
  funext x w
  unfold updE
  by_cases c : x = t
  · rw [if_pos c]
    refine propext ⟨?_, fun e => ⟨.var u, by rw [c]; exact List.mem_append_right _ (List.mem_cons_self ..), by rw [sg_var]; exact e⟩⟩
    rintro ⟨s, h1, h2⟩
    rcases List.mem_append.mp h1 with q | q
    · exact absurd c (hn _ q)
    · have e := (List.mem_cons.mp q).resolve_right fun z => by cases z
      cases e
      rw [sg_var] at h2
      exact h2
  · rw [if_neg c]
    refine propext ⟨?_, fun ⟨s, h1, h2⟩ => ⟨s, List.mem_append_left _ h1, h2⟩⟩
    rintro ⟨s, h1, h2⟩
    rcases List.mem_append.mp h1 with q | q
    · exact ⟨s, q, h2⟩
    · have e := (List.mem_cons.mp q).resolve_right fun z => by cases z
      cases e
      exact absurd rfl c
/-- names of a pattern come in sight -/
theorem gE_ap : ∀ (toks us : List Nat) (Γ : List (Nat × Tr)), toks.Nodup → (∀ t, t ∈ toks → ∀ x, x ∈ Γ → x.1 ≠ t) → us.length = toks.length → gE (Γ ++ toks.zip (us.map fun x => Int.Internal.Linear.Expr.var x)) ρ = updL (gE Γ ρ) (toks.zip (us.map ρ)) := by
  intro toks
  induction toks with
  | nil =>
    intro us Γ _ _ _
    rw [List.zip_nil_left, List.zip_nil_left, List.append_nil]
    rfl
  | cons t toks ih =>
    intro us Γ h1 h2 h3
    cases us with
    | nil => cases h3
    | cons u us =>
      have e1 : Γ ++ (t :: toks).zip ((u :: us).map fun x => Int.Internal.Linear.Expr.var x) = (Γ ++ [(t, .var u)]) ++ toks.zip (us.map fun x => Int.Internal.Linear.Expr.var x) := by
        rw [List.append_assoc]
        rfl
      rw [e1, ih us (Γ ++ [(t, Int.Internal.Linear.Expr.var u)]) (List.nodup_cons.mp h1).2 (fun t' ht' x hx => ?_) (by simpa using h3), gE_1 (h2 t (List.mem_cons_self ..))]
      · rfl
      · rcases List.mem_append.mp hx with q | q
        · exact h2 t' (List.mem_cons_of_mem _ ht') x q
        · rw [(List.mem_cons.mp q).resolve_right fun z => by cases z]
          exact fun e => (List.nodup_cons.mp h1).1 (by rw [show t = t' from e]; exact ht')
/-- an expression was typed: the environments that are left -/
theorem eA_rs {R : En → Tr → Prop} (k : ISt G W ts O Z D N Ct Dt kn rc h M Pn τ m Γ cap) (r : RsV G h M Pn τ m h1 M1 Pn1 τ1 m1 [t] b (fun ρ u => ∃ v, u = [v] ∧ R (gE Γ ρ) v)) (hA : ∀ γ v, R γ v → eA M τ Γ γ) : eA M1 τ1 Γ = fun γ => ∃ v, R γ v := by
  obtain ⟨q1, q2, q3, -, q7, q8⟩ := r
  funext γ
  refine propext ⟨?_, ?_⟩
  · rintro ⟨ρ, h1, rfl⟩
    obtain ⟨v, -, hv⟩ := q7 ρ h1
    exact ⟨v, hv⟩
  · rintro ⟨v, hv⟩
    obtain ⟨ρ, h1, rfl⟩ := hA γ v hv
    obtain ⟨ρ', h2, h3, h4⟩ := q8 ρ h1 [v] ⟨v, rfl, hv⟩
    exact ⟨ρ', h2, (k.ge h3).symm⟩
/-- two expressions, one behind another -/
theorem RsV.sq2 {R Q : En → Tr → Prop} {t2 b2 : Nat} (k : ISt G W ts O Z D N Ct Dt kn rc h M Pn τ m Γ cap) (r : RsV G h M Pn τ m h1 M1 Pn1 τ1 m1 [t] b (fun ρ u => ∃ v, u = [v] ∧ R (gE Γ ρ) v)) (r2 : RsV G h1 M1 Pn1 τ1 m1 h2 M2 Pn2 τ2 m2 [t2] b2 (fun ρ u => ∃ v, u = [v] ∧ Q (gE Γ ρ) v)) : RsV G h M Pn τ m h2 M2 Pn2 τ2 m2 [t, t2] (b + b2) (fun ρ u => ∃ v w, u = [v, w] ∧ R (gE Γ ρ) v ∧ Q (gE Γ ρ) w) := by
  refine (r.seq r2).imp fun ρ hρ u => ⟨?_, ?_⟩
  · rintro ⟨u2, ρ1, e1, e2, rfl, w, rfl, hw⟩
    obtain ⟨v, ev, hv⟩ := r.2.2.2.2.1 ρ1 e1
    have e3 : ρ1 t = v := (List.cons.inj ev).1
    rw [k.ge e2] at hv hw
    exact ⟨ρ1 t, w, rfl, by rw [e3]; exact hv, hw⟩
  · rintro ⟨v, w, rfl, hv, hw⟩
    obtain ⟨ρ1, e1, e2, e3⟩ := r.2.2.2.2.2 ρ hρ [v] ⟨v, rfl, hv⟩
    refine ⟨[w], ρ1, e1, e2, by rw [e3]; rfl, w, rfl, ?_⟩
    rw [k.ge e2]
    exact hw
end
