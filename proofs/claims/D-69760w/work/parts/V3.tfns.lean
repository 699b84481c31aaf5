/-! THE LAW OF TYPES: functions, plain steps -/
section
variable {N n : Nat} {Ct : Ctb} {Dt : Dtb} {f : Nat → Tr → (En → Prop) → Except Fa Rl} {γ γ' : En}
theorem updL_not : ∀ (ν : Nu) (γ : En) (t : Nat), t ∉ ν.map (·.1) → updL γ ν t = γ t := by
  intro ν
  induction ν with
  | nil => intro γ t _; rfl
  | cons y ν ih =>
    intro γ t h
    rw [List.map_cons, List.mem_cons, not_or] at h
    show updL (updE γ y.1 _) ν t = _
    rw [ih _ t h.2]
    exact if_neg h.1
theorem updL_sing : ∀ (ν : Nu) (γ : En), (ν.map (·.1)).Nodup → ∀ y, y ∈ ν → updL γ ν y.1 = fun u => u = y.2 := by
  intro ν
  induction ν with
  | nil => intro γ _ y hy; cases hy
  | cons x ν ih =>
    intro γ h y hy
    rw [List.map_cons, List.nodup_cons] at h
    show updL (updE γ x.1 _) ν y.1 = _
    rcases List.mem_cons.mp hy with e | e
    · rw [e, updL_not ν _ x.1 h.1]
      exact if_pos rfl
    · exact ih _ h.2 y e
/-- names' types can be told from the environment -/
theorem updL_inj (ν ν' : Nu) (hn : (ν.map (·.1)).Nodup) (hm : ν'.map (·.1) = ν.map (·.1)) (e : updL γ ν = updL γ' ν') : ν = ν' := by
  refine List.ext_getElem? fun i => ?_
  have hl : ν'.length = ν.length := by
    have := congrArg List.length hm
    simpa using this
  by_cases q : i < ν.length
  · rw [List.getElem?_eq_getElem q, List.getElem?_eq_getElem (by omega)]
    have h1 := updL_sing ν γ hn (ν[i]) (List.getElem_mem q)
    have h2 := updL_sing ν' γ' (by rw [hm]; exact hn) (ν'[i]'(by omega)) (List.getElem_mem _)
    have e1 : (ν'[i]'(by omega)).1 = (ν[i]).1 := by
      have := congrArg (fun l : List Nat => l[i]?) hm
      simp only [List.getElem?_map] at this
      rw [List.getElem?_eq_getElem q, List.getElem?_eq_getElem (by omega)] at this
      exact Option.some.inj this
    rw [e1, ← e, h1] at h2
    have h3 : (ν[i]).2 = (ν'[i]'(by omega)).2 := by
      have := congrFun h2 (ν[i]).2
      exact this.mp rfl
    congr 1
    exact Prod.ext e1.symm h3
  · rw [List.getElem?_eq_none (by omega), List.getElem?_eq_none (by omega)]
/-- functions leave fewer environments -/
theorem tFs_sub : ∀ (l : List Tr) (A B : En → Prop), tFs N Ct Dt n f l A = .ok B → ∀ γ, B γ → A γ := by
  intro l
  induction l with
  | nil =>
    intro A B h γ hB
    cases h
    exact hB
  | cons x l ih =>
    intro A B h γ hB
    obtain ⟨Q, hQ, h⟩ := bE_inv (show bE (tMt N Ct Dt n f (fCs x) A) _ = _ from h)
    obtain ⟨A', hA', h⟩ := bE_inv h
    obtain ⟨-, rfl⟩ := eqE_inv hA'
    exact (ih _ B h γ hB).1
/-- names of functions and of their clauses are new ones -/
theorem fB_nd : ∀ (fs : List Tr), (∀ y, y ∈ fs → ∃ (t : Nat) (v : Tr) (cs : List Tr), y = n2 54 t v (ls cs)) → (bT (ls fs)).Nodup → (fs.map tkN ++ fB fs).Nodup ∧ ∀ x, x ∈ fs.map tkN ++ fB fs → x ∈ bT (ls fs) := by
  intro fs
  induction fs with
  | nil => intro _ _; exact ⟨List.nodup_nil, fun x hx => (by cases hx)⟩
  | cons y fs ih =>
    intro hy hn
    obtain ⟨t, v, cs, ey⟩ := hy y (List.mem_cons_self ..)
    have e1 : bT (ls (y :: fs)) = (t :: (bT v ++ bT (ls cs))) ++ bT (ls fs) := by rw [ey]; rfl
    have e2 : (y :: fs).map tkN ++ fB (y :: fs) = t :: (fs.map tkN ++ (bT (ls cs) ++ fB fs)) := by
      have : fCs y = cs := by rw [ey]; exact unl_ls cs
      show tkN y :: (fs.map tkN ++ (bT (ls (fCs y)) ++ fB fs)) = _
      rw [this, ey]
      rfl
    rw [e1] at hn ⊢
    rw [e2]
    obtain ⟨n1, n2, n3⟩ := List.nodup_append.mp hn
    obtain ⟨n4, n5⟩ := List.nodup_cons.mp n1
    obtain ⟨n6, n7, n8⟩ := List.nodup_append.mp n5
    obtain ⟨i1, i2⟩ := ih (fun x hx => hy x (List.mem_cons_of_mem _ hx)) n2
    obtain ⟨j1, j2, j3⟩ := List.nodup_append.mp i1
    have mM : ∀ x, x ∈ fs.map tkN → x ∈ bT (ls fs) := fun x hx => i2 x (List.mem_append_left _ hx)
    have mF : ∀ x, x ∈ fB fs → x ∈ bT (ls fs) := fun x hx => i2 x (List.mem_append_right _ hx)
    refine ⟨List.nodup_cons.mpr ⟨fun h => ?_, List.nodup_append.mpr ⟨j1, List.nodup_append.mpr ⟨n7, j2, fun a ha b hb e => n3 a (List.mem_cons_of_mem _ (List.mem_append_right _ ha)) b (mF b hb) e⟩, fun a ha b hb e => ?_⟩⟩, fun x hx => ?_⟩
    · rcases List.mem_append.mp h with w | w
      · exact n3 t (List.mem_cons_self ..) t (mM t w) rfl
      · rcases List.mem_append.mp w with w | w
        · exact n4 (List.mem_append_right _ w)
        · exact n3 t (List.mem_cons_self ..) t (mF t w) rfl
    · rcases List.mem_append.mp hb with w | w
      · exact n3 b (List.mem_cons_of_mem _ (List.mem_append_right _ w)) a (mM a ha) e.symm
      · exact j3 a ha b w e
    · rcases List.mem_cons.mp hx with w | w
      · rw [w]
        exact List.mem_append_left _ (List.mem_cons_self ..)
      · rcases List.mem_append.mp w with w | w
        · exact List.mem_append_right _ (mM x w)
        · rcases List.mem_append.mp w with w | w
          · exact List.mem_append_left _ (List.mem_cons_of_mem _ (List.mem_append_right _ w))
          · exact List.mem_append_right _ (mF x w)
/-- the law's sets of names' types, with the environments that they are for -/
theorem tFs_set {fs : List Tr} {A B : En → Prop} (hn : (fs.map tkN).Nodup) (h : tFs N Ct Dt n f fs (fun γ' => ∃ γ φ, A γ ∧ φ.length = fs.length ∧ γ' = updL γ ((fs.map tkN).zip φ)) = .ok B) (γ : En) (ν : Nu) : (∃ φ, ν = (fs.map tkN).zip φ ∧ φ.length = fs.length ∧ B (updL γ ν)) → ν.map (·.1) = fs.map tkN ∧ ∃ γ0, A γ0 ∧ updL γ0 ν = updL γ ν := by
  rintro ⟨φ, rfl, hl, hB⟩
  have h1 : ((fs.map tkN).zip φ).map (·.1) = fs.map tkN := List.map_fst_zip (by rw [List.length_map, hl]; exact Nat.le_refl _)
  obtain ⟨γ0, φ0, hA, hl0, e⟩ := tFs_sub fs _ B h _ hB
  have h2 : ((fs.map tkN).zip φ0).map (·.1) = fs.map tkN := List.map_fst_zip (by rw [List.length_map, hl0]; exact Nat.le_refl _)
  have e2 := updL_inj _ _ (by rw [h1]; exact hn) (h2.trans h1.symm) e
  refine ⟨h1, γ0, hA, ?_⟩
  rw [e, ← e2]
end
