/-! THE COMPONENT'S TYPER: behind functions' names -/
section
variable {G : Gh} {c : Cx} {P P0 : Nat → Prop} {s s1 s2 : Sx} {B : Nat → Prop} {us vs pd L L2 : List Nat} {b b2 t v : Nat} {Z : En → List Tr → Nu → Prop} {S : En → List Tr → Prop} {A : En → Prop}
/-- what a name that isn't general has is one of its node -/
theorem gE_var (hn : (s.E.map (·.1)).Nodup) (hm : (t, Int.Internal.Linear.Expr.var v) ∈ s.E) (ρ : Nat → Tr) (w : Tr) : gE s.E ρ t w ↔ w = ρ v := by
  constructor
  · rintro ⟨sc, h1, h2⟩
    obtain ⟨i, hi⟩ := List.getElem?_of_mem h1
    obtain ⟨j, hj⟩ := List.getElem?_of_mem hm
    have e : i = j := by
      have li := (List.getElem?_eq_some_iff.mp hi).1
      have lj := (List.getElem?_eq_some_iff.mp hj).1
      have := (List.getElem?_inj (l := s.E.map (·.1)) (i := i) (j := j) (by rw [List.length_map]; exact li) hn).mp (by rw [List.getElem?_map, List.getElem?_map, hi, hj]; rfl)
      exact this
    rw [e, hj] at hi
    cases hi
    rw [sg_var] at h2
    exact h2
  · intro e
    exact ⟨_, hm, by rw [sg_var]; exact e⟩
/-- the node of a name in sight, besides -/
theorem Rn.nmd (k : XS G c P0 s) (r : Rn G c P s B s1 us b S) (hm : (t, Int.Internal.Linear.Expr.var v) ∈ s.E) (hcl : cln s.M s.t v) : Rn G c P s B s1 (us ++ [v]) b (fun γ u => ∃ u1 w, u = u1 ++ [w] ∧ S γ u1 ∧ γ t w) := by
  obtain ⟨r1, ⟨q1, q2, q3, q4, q5, q6⟩, r3, r4, r5, r6, r7⟩ := r
  have nd := k.1.2.2.2.2.2.2.2
  refine ⟨r1, ⟨q1, q2, fun x hx => ?_, q4, fun ρ hρ => ?_, fun ρ hρ u hu => ?_⟩, r3, r4, r5, r6, fun γ u ⟨u1, w, _, h1, _⟩ => r7 γ u1 h1⟩
  · rcases List.mem_append.mp hx with w | w
    · exact q3 x w
    · rw [(List.mem_cons.mp w).resolve_right fun z => by cases z]
      exact q1.2.2.1 v hcl
  · exact ⟨us.map ρ, ρ v, by rw [List.map_append]; rfl, q5 ρ hρ, (gE_var nd hm ρ _).mpr rfl⟩
  · obtain ⟨u1, w, rfl, h1, h2⟩ := hu
    obtain ⟨ρ', g1, g2, g3⟩ := q6 ρ hρ u1 h1
    refine ⟨ρ', g1, g2, ?_⟩
    rw [List.map_append, g3, (gE_var nd hm ρ w).mp h2, ← g2 v hcl.lt]
    rfl
/-- what was done behind names, as seen from before them -/
theorem Rpn.rn (k : XS G c P0 s) (r : Rpn G c P s (fun t => t ∈ L) s1 [] vs pd b Z) (q : Rn G c P s1 (fun t => t ∈ L2) s2 [] b2 (fun γ u => A γ ∧ u = [])) (hcv : ∀ v, v ∈ vs → cln s1.M s1.t v) : Rpn G c P s (fun t => t ∈ L ++ L2) s2 [] vs pd (b + b2) (fun γ u ν => Z γ u ν ∧ A (updL γ ν)) := by
  obtain ⟨r1, r2, r3, ⟨r4, r4'⟩, r5, r6, r7⟩ := id r
  obtain ⟨q1, ⟨p1, p2, p3, ⟨p4, p5, p6⟩, p7, p8⟩, q3, q4, q5, q6, q7⟩ := q
  obtain ⟨e1, e2, e3, ⟨e4, e5, e6⟩, e7, e8⟩ := id r2
  refine ⟨(r1.wk fun t ht => List.mem_append_left _ ht).tr k.sA ((q1.wk fun t ht => List.mem_append_right _ ht).rc_le r5), ⟨e1.tr p1, p2, fun x hx => p1.2.2.1 x (e3 x hx), ⟨by omega, by omega, by omega⟩, fun ρ hρ => ?_, fun ρ hρ u hu => ?_⟩, q3, ⟨q4.trans r4, r4'⟩, Nat.le_trans r5 q5, ⟨by omega, by omega⟩, fun γ u ν h => r7 γ u ν h.1⟩
  · have h1 := p1.2.1 ρ hρ
    have h2 := r.sol h1
    have h3 := (p7 ρ hρ).1
    rw [r.ge ρ] at h3
    have hz := List.map_snd_zip (l₁ := pd) (l₂ := vs.map ρ) (by rw [List.length_map, r4']; exact Nat.le_refl _)
    refine ⟨[], pd.zip (vs.map ρ), ?_, h2, h3⟩
    rw [List.nil_append, List.nil_append]
    exact hz.symm
  · obtain ⟨u1, ν, rfl, h1, h2⟩ := hu
    obtain ⟨-, f2, f3⟩ := r7 _ _ _ h1
    have hu1 : u1 = [] := List.eq_nil_of_length_eq_zero f2
    subst hu1
    obtain ⟨ρ1, g1, g2, g3⟩ := e8 ρ hρ _ ⟨[], ν, rfl, h1⟩
    rw [List.nil_append, List.nil_append] at g3
    have hE : gE s1.E ρ1 = updL (gE s.E ρ) ν := by rw [r.ge ρ1, k.ge g2, g3, ← nu_zip ν _ _ f3 rfl]
    obtain ⟨ρ2, y1, y2, y3⟩ := p8 ρ1 g1 [] ⟨by rw [hE]; exact h2, rfl⟩
    refine ⟨ρ2, y1, fun x hx => (y2 x (Nat.lt_of_lt_of_le hx e1.1)).trans (g2 x hx), ?_⟩
    rw [List.nil_append, List.nil_append, ← g3]
    refine List.map_congr_left fun v hv => y2 v (hcv v hv).lt
end
