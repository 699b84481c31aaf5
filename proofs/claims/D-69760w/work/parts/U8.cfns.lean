/-! THE COMPONENT'S TYPER: functions' names come in sight -/
section
variable {G : Gh} {c : Cx} {P P0 : Nat → Prop} {s s1 s2 : Sx} {us vs pd L : List Nat} {b b2 t v D q r0 lo hi : Nat} {Z : En → List Tr → Nu → Prop} {Q : Outcome → AH → Prop} {fs : List Tr}
theorem Rpn.snoc (k : XS G c P0 s) (r : Rpn G c P s (fun t => t ∈ L) s1 us vs pd b Z) (q : Rpn G c P s1 (fun t' => t' = t) s2 [] [v] [t] b2 (fun γ u ν => eA s1.M s1.t s1.E γ ∧ u = [] ∧ ∃ w, ν = [(t, w)])) : Rpn G c P s (fun x => x ∈ L ++ [t]) s2 us (vs ++ [v]) (pd ++ [t]) (b + b2) (fun γ u ν => ∃ ν1 w, ν = ν1 ++ [(t, w)] ∧ Z γ u ν1) := by
  obtain ⟨r1, r2, r3, ⟨r4, r4'⟩, r5, r6, r7⟩ := r
  obtain ⟨q1, q2, q3, ⟨q4, q4'⟩, q5, q6, q7⟩ := q
  refine ⟨(r1.wk fun t ht => List.mem_append_left _ ht).tr k.sA ((q1.wk fun t ht => List.mem_append_right _ (by rw [ht]; exact List.mem_cons_self ..)).rc_le r5), ?_, q3, ⟨?_, by rw [List.length_append, List.length_append, r4']; rfl⟩, Nat.le_trans r5 q5, ⟨by omega, by omega⟩, ?_⟩
  · have rr := r2.seq q2
    rw [List.nil_append, List.append_assoc] at rr
    refine rr.imp fun ρ hρ u => ⟨?_, ?_⟩
    · rintro ⟨_, ρ1, e1, e2, rfl, u1, ν, rfl, -, rfl, w, rfl⟩
      obtain ⟨u0, ν0, f1, f2⟩ := r2.2.2.2.2.1 ρ1 e1
      rw [k.ge e2] at f2
      refine ⟨u0, ν0 ++ [(t, w)], ?_, ν0, w, rfl, f2⟩
      rw [f1, List.map_append, List.append_assoc]
      rfl
    · rintro ⟨u0, _, rfl, ν0, w, rfl, f2⟩
      obtain ⟨ρ1, e1, e2, e3⟩ := r2.2.2.2.2.2 ρ hρ _ ⟨u0, ν0, rfl, f2⟩
      refine ⟨[w], ρ1, e1, e2, by rw [e3, List.map_append, List.append_assoc]; rfl, [], [(t, w)], rfl, ⟨ρ1, e1, rfl⟩, rfl, w, rfl⟩
  · rw [q4, r4, List.map_append, List.zip_append (by rw [List.length_map, r4']), List.append_assoc]
  · rintro γ u _ ⟨ν0, w, rfl, f2⟩
    obtain ⟨g1, g2, g3⟩ := r7 γ u ν0 f2
    exact ⟨g1, g2, by rw [List.map_append, g3]; rfl⟩
/-- the names of functions come in sight, one behind another -/
theorem fun_i7 (k : XS G c P s) (hWq : c.W q) (hk : hK s.h q = 46) (e48 : fR s.h q 348 = some r0) (rl : RowL c.W s.h r0 fs.length) (tg : TG (XA c.ts c.W c.O c.Z c.D s.h) c.W s.h (rowAt s.h r0) fs) (hTl : ∀ y, y ∈ fs → TR lo hi y) (hfs : ∀ y, y ∈ fs → ∃ (t : Nat) (v : Tr) (cs : List Tr), y = n2 54 t v (ls cs)) (hD2 : 2 ≤ D)
    (hQ : ∀ s1 vs, Rpn G c P s (fun t => t ∈ fs.map tkN) s1 [] vs (fs.map tkN) fs.length (fun γ u ν => eA s.M s.t s.E γ ∧ u = [] ∧ ν.map (·.1) = fs.map tkN) → s1.ws = s.ws → s1.rc = s.rc → (∀ a, P a → Uf s.h s1.h a) → X G mX49_infer (D + 1) none [] 57 [(0, .ref q), (1, .ref (gW G 6)), (2, .int (nI s.E.length)), (3, .int 0)] [] s1.h Q) :
    ∀ (l2 l1 : List Tr) (s1 : Sx) (vs : List Nat), fs = l1 ++ l2 → Rpn G c P s (fun t => t ∈ l1.map tkN) s1 [] vs (l1.map tkN) l1.length (fun γ u ν => eA s.M s.t s.E γ ∧ u = [] ∧ ν.map (·.1) = l1.map tkN) → s1.ws = s.ws → s1.rc = s.rc → (∀ a, P a → Uf s.h s1.h a) → BdX c s (l1.length + l2.length) → Frs s.h c.Z c.D s.E (l1.map tkN ++ l2.map tkN) →
    X G mX49_infer (D + 1) none [] 7 [(0, .ref q), (1, .ref (gW G 6)), (2, .int (nI s.E.length)), (3, .int (nI l1.length))] [] s1.h Q := by
  intro l2
  induction l2 with
  | nil =>
    intro l1 s1 vs he r hw hc hu hb hf
    rw [List.append_nil] at he
    subst he
    have x1 := r.xs
    have uq := r.uf k hWq
    obtain ⟨rl1, ra1, -⟩ := rl.mvs (N' := c.W) (h' := s1.h) fun a ha _ => ⟨(r.uf k ha).us, ha⟩
    obtain ⟨z1, z2, z3, z4⟩ := row_sz rl1
    refine bX49_infer_7 G D s1.h _ _ _ _ (x1.sA.at (by decide)) (x1.sA.at (by decide)) ⟨uq.1.trans hk, r0, (uq.2.2.2.2.2 348).2.2.trans e48, z1, ?_⟩
    rw [z2, nI_leI (by omega) (by omega)]
    exact ⟨fun _ => hQ s1 vs r hw hc hu, fun z => absurd (Nat.le_refl _) z⟩
  | cons y l2 IH =>
    intro l1 s1 vs he r hw hc hu hb hf
    have hj : fs[l1.length]? = some y := by rw [he, List.getElem?_append_right (Nat.le_refl _), Nat.sub_self]; rfl
    have hjl := (List.getElem?_eq_some_iff.mp hj).1
    have hy := List.mem_of_getElem? hj
    obtain ⟨b0, fb, ob⟩ := tg _ y hj
    obtain ⟨t, v, cs, ey⟩ := hfs y hy
    have ob1 := r.ot k (hTl y hy) ob
    have et : tkN y = t := by rw [ey]; rfl
    rw [ey] at ob1
    obtain ⟨hWb, hkb, ⟨-, an⟩, -⟩ := (OTG_nd (k := 54) (y := .add v (ls cs)) (by decide)).mp ob1
    have hk45 : hK s1.h b0 = 45 := by simpa [kc] using hkb
    have x1 := r.xs
    have uq := r.uf k hWq
    obtain ⟨rl1, ra1, -⟩ := rl.mvs (N' := c.W) (h' := s1.h) fun a ha _ => ⟨(r.uf k ha).us, ha⟩
    obtain ⟨z1, z2, z3, z4⟩ := row_sz rl1
    obtain ⟨rl0, rn, rc0, -, rb⟩ := row_get (i := l1.length) rl1 (by rw [ra1]; exact fb) (by omega)
    have e46 : c.D.1 t ∧ fR s1.h b0 346 = some (c.Z.1 t) := (an (t : Int) _ rfl).2.2.2.2.1 rfl
    have hf1 : Frs s1.h c.Z c.D s1.E ((y :: l2).map tkN) := by
      rw [r.2.2.2.1.1]
      exact hf.nx2 r.1 k.bd fun t ht => ht
    obtain ⟨d1, d2, d3⟩ := hf1.2 t (by rw [← et]; exact List.mem_cons_self ..)
    refine bX49_infer_7 G D s1.h _ _ _ _ (x1.sA.at (by decide)) (x1.sA.at (by decide)) ⟨uq.1.trans hk, r0, (uq.2.2.2.2.2 348).2.2.trans e48, z1, ?_⟩
    rw [z2, nI_leI (by omega) (by omega)]
    refine ⟨fun z => by omega, fun _ => ⟨r0, (uq.2.2.2.2.2 348).2.2.trans e48, z1, C.rr ((c_rfun (d := 0) rc0 rb hk45).up (by omega)) ⟨hk45, c.Z.1 t, e46.2, ?_⟩⟩⟩
    rw [List.length_cons] at hb
    refine x1.nam (K := fun h20 => ∀ x22 : Int32, x22 = nI l1.length + 1 → (X G mX49_infer (D + 1) none [] 7 [(0, .ref q), (1, .ref (gW G 6)), (2, .int (nI s.E.length)), (3, .int x22)] [] h20 Q)) d1 d2 d3 ((hb.le (show l1.length + 1 ≤ _ by omega)).nxp r) hD2 ?_
    intro s2 r2 w2 c2 u2
    rintro _ rfl
    rw [nI_1]
    have rr := (r.snoc k r2).imp (Z' := fun γ u ν => eA s.M s.t s.E γ ∧ u = [] ∧ ν.map (·.1) = (l1 ++ [y]).map tkN) fun γ u ν => ⟨by
      rintro ⟨ν1, w, rfl, h1, rfl, h3⟩
      exact ⟨h1, rfl, by rw [List.map_append, List.map_append, h3, ← et]; rfl⟩, by
      rintro ⟨h1, rfl, h3⟩
      rw [List.map_append] at h3
      have hl : ν.length = l1.length + 1 := by
        have := congrArg List.length h3
        simpa using this
      refine ⟨ν.take l1.length, (ν.getD l1.length (0, .num 0)).2, ?_, h1, rfl, ?_⟩
      · have e1 : ν.drop l1.length = [ν.getD l1.length (0, .num 0)] := by
          rw [List.drop_eq_getElem_cons (by omega), List.drop_of_length_le (by omega), List.getD, List.getElem?_eq_getElem (by omega)]
          rfl
        have e2 : (ν.getD l1.length (0, .num 0)).1 = t := by
          have h4 := congrArg (fun l : List Nat => l[l1.length]?) h3
          simp only [List.getElem?_map] at h4
          rw [List.getElem?_append_right (by rw [List.length_map]; exact Nat.le_refl _), List.length_map, Nat.sub_self] at h4
          rw [List.getElem?_eq_getElem (by omega)] at h4
          have h5 := Option.some.inj h4
          rw [List.getD, List.getElem?_eq_getElem (by omega)]
          rw [← et]
          exact h5
        have e3 : ν.take l1.length ++ ν.drop l1.length = ν := List.take_append_drop ..
        rw [e1] at e3
        rw [← e2]
        exact e3.symm
      · have h4 := congrArg (List.take l1.length) h3
        rw [← List.map_take, List.take_append_of_le_length (by rw [List.length_map]; exact Nat.le_refl _)] at h4
        exact h4.trans (List.take_of_length_le (by rw [List.length_map]; exact Nat.le_refl _))⟩
    have e5 : l1.map tkN ++ [t] = (l1 ++ [y]).map tkN := by rw [List.map_append, ← et]; rfl
    rw [e5] at rr
    have ih := IH (l1 ++ [y]) s2 _ (by rw [he, List.append_assoc]; rfl) (by rw [List.length_append]; exact rr) (w2.trans hw) (c2.trans hc) (fun a ha => (hu a ha).tr (u2 a ha)) (hb.le (by rw [List.length_append, List.length_singleton]; omega)) (by
      have : (l1 ++ [y]).map tkN ++ l2.map tkN = l1.map tkN ++ (y :: l2).map tkN := by rw [List.map_append, List.append_assoc]; rfl
      rw [this]
      exact hf)
    rw [List.length_append] at ih
    exact ih
end
