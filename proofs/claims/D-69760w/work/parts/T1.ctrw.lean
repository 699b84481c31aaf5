/-! THE LAW OF TYPES: shapes of typed clauses -/
/-- a clause that was resolved -/
def clR (N : Nat) (Ct : Ctb) (Dt : Dtb) (n : Nat) (y : Tr) : Prop := ∃ (t : Nat) (v : Int) (ps : List Tr) (e : Tr), y = n3 50 t (.num v) (ls ps) e ∧ 1 ≤ ps.length ∧ 30 ≤ n ∧ (∀ p, p ∈ ps → sPt N Ct Ct.length 30 p ∧ sVal p) ∧ (ps.map (shp Ct Dt 30)).length + pqs (ps.map (shp Ct Dt 30)) ≤ 24
section
variable {ts : List (Nat × Nat × Nat)} {O : List (Nat × Nat) × List (Nat × Nat)} {N rc rc2 rc' n : Nat} {Ct : Ctb} {Dt : Dtb} {V : List Nat} {γ : En} {ins : List Tr} {o : Tr} {f : Nat → Tr → (En → Prop) → Except Fa Rl}
theorem sPt_rc (hr : rc ≤ rc2) : ∀ k p, sPt N Ct rc k p → sPt N Ct rc2 k p := by
  intro k
  induction k with
  | zero => intro p hs; exact hs.elim
  | succ k ih =>
    intro p hs
    rcases hs with ⟨t, rfl⟩ | ⟨t, rfl⟩ | ⟨t, w, rfl⟩ | ⟨t, w, rfl⟩ | ⟨t, w, rfl⟩ | ⟨t, c, y, rfl, hc, hy⟩ | ⟨t, l, rfl, hl6, hl⟩ | ⟨t, l, rfl, hl⟩ | ⟨t, a, b, rfl, ha, hb⟩ | ⟨t, y, rfl, hy⟩
    · exact Or.inl ⟨t, rfl⟩
    · exact Or.inr (Or.inl ⟨t, rfl⟩)
    · exact Or.inr (Or.inr (Or.inl ⟨t, w, rfl⟩))
    · exact Or.inr (Or.inr (Or.inr (Or.inl ⟨t, w, rfl⟩)))
    · exact Or.inr (Or.inr (Or.inr (Or.inr (Or.inl ⟨t, w, rfl⟩))))
    · exact Or.inr (Or.inr (Or.inr (Or.inr (Or.inr (Or.inl ⟨t, c, y, rfl, by omega, hy.imp id fun h => ⟨h.1, ih y h.2⟩⟩)))))
    · exact Or.inr (Or.inr (Or.inr (Or.inr (Or.inr (Or.inr (Or.inl ⟨t, l, rfl, hl6, fun y hy => ih y (hl y hy)⟩))))))
    · exact Or.inr (Or.inr (Or.inr (Or.inr (Or.inr (Or.inr (Or.inr (Or.inl ⟨t, l, rfl, fun y hy => ih y (hl y hy)⟩)))))))
    · exact Or.inr (Or.inr (Or.inr (Or.inr (Or.inr (Or.inr (Or.inr (Or.inr (Or.inl ⟨t, a, b, rfl, ih a ha, ih b hb⟩))))))))
    · exact Or.inr (Or.inr (Or.inr (Or.inr (Or.inr (Or.inr (Or.inr (Or.inr (Or.inr ⟨t, y, rfl, ih y hy⟩))))))))
theorem sLn_le {g : Nat → Tr → Nat → Prop} : ∀ (l : List Tr) (rc rc' : Nat), (∀ rc x rc', x ∈ l → g rc x rc' → rc ≤ rc') → sLn g l rc rc' → rc ≤ rc' := by
  intro l
  induction l with
  | nil => intro rc rc' _ h; exact Nat.le_of_eq h.symm
  | cons x l ih =>
    rintro rc rc' hg ⟨r1, h1, h2⟩
    exact Nat.le_trans (hg _ _ _ (List.mem_cons_self ..) h1) (ih _ _ (fun rc x rc' hx => hg rc x rc' (List.mem_cons_of_mem _ hx)) h2)
theorem sDc_le {g : List Nat → Nat → Tr → Nat → Prop} (hg : ∀ V rc x rc', g V rc x rc' → rc ≤ rc') : ∀ (l : List Tr) (V V' : List Nat) (rc rc' : Nat), sDc g l V rc V' rc' → rc ≤ rc' := by
  intro l
  induction l with
  | nil => intro V V' rc rc' h; exact Nat.le_of_eq h.2.symm
  | cons x l ih =>
    rintro V V' rc rc' ⟨r1, h1, h2⟩
    exact Nat.le_trans (hg _ _ _ _ h1) (ih _ _ _ _ h2)
theorem sDs_le {ds : List Tr} (h : sDs N Ct Dt ds rc rc') : rc ≤ rc' := by
  obtain ⟨mx, -, -, h⟩ := h
  refine sLn_le ds rc rc' (fun rc d rc' _ hd => ?_) h
  obtain ⟨t, id, vs, cs, y, -, -, -, -, h2⟩ := hd
  refine sLn_le cs rc rc' (fun rc k rc' _ hk => ?_) h2
  obtain ⟨t', has, x, -, h3, -⟩ := hk
  omega
theorem sEx_le : ∀ n g V rc x rc', sEx ts O N Ct Dt n g V rc x rc' → rc ≤ rc' := by
  intro n
  induction n with
  | zero => intro g V rc x rc' h; exact h.elim
  | succ n ih =>
    intro g V rc x rc' h
    have ih0 := fun V rc x rc' h => ih 0 V rc x rc' h
    have cl : ∀ V rc k rc', sCl N Ct Dt n (fun V rc e rc' => sEx ts O N Ct Dt n 0 V rc e rc') V rc k rc' → rc ≤ rc' := fun V rc k rc' ⟨t, v, ps, e, _, _, _, _, _, _, h⟩ => ih 0 _ _ _ _ h
    unfold sEx at h
    by_cases hg : g = 2
    · rw [if_pos hg] at h
      rcases h with ⟨t, p, e, -, h, -⟩ | ⟨t, fs, -, -, h⟩ | ⟨t, ds, -, h⟩
      · exact ih _ _ _ _ _ h
      · refine sLn_le fs rc rc' (fun rc f rc' _ hf => ?_) h
        obtain ⟨t', v, cs, -, -, -, h2⟩ := hf
        exact sLn_le cs rc rc' (fun rc c rc' _ hc => cl _ _ _ _ hc) h2
      · exact sDs_le h
    · rw [if_neg hg] at h
      rcases h with ⟨t, rf, up, -, h, -⟩ | ⟨t, k, -, h, -⟩ | ⟨t, v, -, h⟩ | ⟨t, v, -, h⟩ | ⟨t, -, h⟩ | ⟨t, -, h⟩ | ⟨t, -, h⟩ | ⟨t, l, -, -, h⟩ | ⟨t, l, -, -, h⟩ | ⟨t, l, -, h⟩ | ⟨t, ds, e, V', r1, -, h1, h2⟩ | ⟨t, cs, -, -, -, h⟩ | ⟨t, e, cs, r1, -, -, -, h1, h2⟩ | ⟨t, a, b, d, r1, r2, -, h1, h2, h3⟩ | ⟨t, f, l, r1, -, -, h1, h2⟩ | ⟨t, f, ps, r1, -, -, h1, h2⟩ | ⟨t, a, b, r1, -, h1, h2⟩ | ⟨t, a, b, r1, -, h1, h2⟩ | ⟨t, y, -, h⟩
      · exact Nat.le_of_eq h.symm
      · exact Nat.le_of_eq h.symm
      · exact Nat.le_of_eq h.symm
      · exact Nat.le_of_eq h.symm
      · exact Nat.le_of_eq h.symm
      · exact Nat.le_of_eq h.symm
      · exact Nat.le_of_eq h.symm
      · exact sLn_le l rc rc' (fun rc x rc' _ h => ih0 _ _ _ _ h) h
      · exact sLn_le l rc rc' (fun rc x rc' _ h => ih0 _ _ _ _ h) h
      · exact sLn_le l rc rc' (fun rc x rc' _ h => ih0 _ _ _ _ h) h
      · exact Nat.le_trans (sDc_le (fun V rc x rc' h => ih _ _ _ _ _ h) ds V V' rc r1 h1) (ih0 _ _ _ _ h2)
      · exact sLn_le cs rc rc' (fun rc x rc' _ h => cl _ _ _ _ h) h
      · exact Nat.le_trans (ih0 _ _ _ _ h1) (sLn_le cs r1 rc' (fun rc x rc' _ h => cl _ _ _ _ h) h2)
      · exact Nat.le_trans (ih0 _ _ _ _ h1) (Nat.le_trans (ih0 _ _ _ _ h2) (ih0 _ _ _ _ h3))
      · exact Nat.le_trans (ih0 _ _ _ _ h1) (sLn_le l r1 rc' (fun rc x rc' _ h => ih0 _ _ _ _ h) h2)
      · exact Nat.le_trans (ih0 _ _ _ _ h1) (sLn_le _ r1 rc' (fun rc x rc' _ h => ih0 _ _ _ _ h) h2)
      · exact Nat.le_trans (ih0 _ _ _ _ h1) (ih0 _ _ _ _ h2)
      · exact Nat.le_trans (ih0 _ _ _ _ h1) (ih0 _ _ _ _ h2)
      · exact ih0 _ _ _ _ h
/-- clauses, each with all constructors -/
theorem clR_ln : ∀ (cs : List Tr) (rc : Nat), sLn (fun rc k rc' => sCl N Ct Dt n (fun V rc e rc' => sEx ts O N Ct Dt n 0 V rc e rc') V rc k rc') cs rc rc' → rc' ≤ Ct.length → ∀ y, y ∈ cs → clR N Ct Dt n y := by
  intro cs
  induction cs with
  | nil => intro rc _ _ y hy; cases hy
  | cons x cs ih =>
    rintro rc ⟨r1, h1, h2⟩ hr y hy
    have l2 : r1 ≤ rc' := sLn_le cs r1 rc' (fun rc k rc' _ ⟨t, v, ps, e, _, _, _, _, _, _, h⟩ => sEx_le n 0 _ _ _ _ h) h2
    rcases List.mem_cons.mp hy with e | e
    · rw [e]
      obtain ⟨t, v, ps, e, a1, a2, a3, a4, a5, a6, a7⟩ := h1
      have l1 := sEx_le n 0 _ _ _ _ a7
      exact ⟨t, v, ps, e, a1, a2, a3, fun p hp => ⟨sPt_rc (by omega) 30 p (a4 p hp), a6 p hp⟩, a5⟩
    · exact ih r1 h2 hr y e
theorem tPf_ty (c : CtF N Ct Dt) : ∀ (ps : List Tr) (Z0 Z : En → List Tr → Nu → Prop), (∀ p, p ∈ ps → sPt N Ct Ct.length 30 p ∧ sVal p) → tPf N Ct Dt 30 ps Z0 = .ok Z → ∀ ins ν, Z γ ins ν → ∃ a τs ν0, ins = a ++ τs ∧ Z0 γ a ν0 ∧ τs.length = ps.length ∧ ∀ (i : Nat) (p u : Tr), ps[i]? = some p → τs[i]? = some u → ∃ m, sTy (gAk Ct Dt) (gSg N Ct Dt) m u (shp Ct Dt 30 p) := by
  intro ps
  induction ps with
  | nil =>
    intro Z0 Z _ h ins ν hz
    cases h
    exact ⟨ins, [], ν, (List.append_nil _).symm, hz, rfl, fun i p u h => by simp at h⟩
  | cons p ps ih =>
    intro Z0 Z hp h ins ν hz
    obtain ⟨P, hP, h⟩ := bE_inv (show bE (tPa N Ct Dt 30 p) _ = _ from h)
    obtain ⟨a, τs, ν0, rfl, ⟨a', τ, ν1, ν2, rfl, -, g1, g2⟩, g3, g4⟩ := ih _ Z (fun x hx => hp x (List.mem_cons_of_mem _ hx)) h ins ν hz
    refine ⟨a', τ :: τs, ν1, by rw [List.append_assoc]; rfl, g1, by rw [List.length_cons, List.length_cons, g3], fun i p' u z1 z2 => ?_⟩
    cases i with
    | zero =>
      cases z1
      cases z2
      obtain ⟨q1, q2⟩ := hp p (List.mem_cons_self ..)
      exact shp_ty c (Nat.le_refl _) 30 p q1 q2 P hP _ _ g2
    | succ i =>
      rw [List.getElem?_cons_succ] at z1 z2
      exact g4 i p' u z1 z2
theorem tPe_ty (c : CtF N Ct Dt) : ∀ (ps : List Tr) (i : Nat) (Z0 Z : En → List Tr → Tr → Nu → Prop), (∀ p, p ∈ ps → sPt N Ct Ct.length 30 p ∧ sVal p) → tPe N Ct Dt 30 i ps Z0 = .ok Z → ∀ ν, Z γ ins o ν → (∃ ν0, Z0 γ ins o ν0) ∧ ∀ (j : Nat) (p u : Tr), ps[j]? = some p → ins[i + j]? = some u → ∃ m, sTy (gAk Ct Dt) (gSg N Ct Dt) m u (shp Ct Dt 30 p) := by
  intro ps
  induction ps with
  | nil =>
    intro i Z0 Z _ h ν hz
    cases h
    exact ⟨⟨ν, hz⟩, fun j p u h => by simp at h⟩
  | cons p ps ih =>
    intro i Z0 Z hp h ν hz
    obtain ⟨P, hP, h⟩ := bE_inv (show bE (tPa N Ct Dt 30 p) _ = _ from h)
    obtain ⟨Z1, h1, h⟩ := bE_inv h
    obtain ⟨-, rfl⟩ := eqE_inv h1
    obtain ⟨⟨ν0, ν1, ν2, τ, -, g1, g2, g3⟩, g4⟩ := ih (i + 1) _ Z (fun x hx => hp x (List.mem_cons_of_mem _ hx)) h ν hz
    refine ⟨⟨ν1, g1⟩, fun j p' u z1 z2 => ?_⟩
    cases j with
    | zero =>
      cases z1
      rw [Nat.add_zero, g2] at z2
      cases z2
      obtain ⟨q1, q2⟩ := hp p (List.mem_cons_self ..)
      exact shp_ty c (Nat.le_refl _) 30 p q1 q2 P hP _ _ g3
    | succ j =>
      rw [List.getElem?_cons_succ] at z1
      exact g4 j p' u z1 (by rw [← z2]; congr 1; omega)
theorem tMs_ty (c : CtF N Ct Dt) : ∀ (cs : List Tr) (Q0 Q : Mq), (∀ y, y ∈ cs → clR N Ct Dt n y) → tMs N Ct Dt n f cs Q0 = .ok Q → Q γ ins o → Q0 γ ins o ∧ ∀ y, y ∈ cs → ∀ (j : Nat) (p u : Tr), (clP y)[j]? = some p → ins[j]? = some u → ∃ m, sTy (gAk Ct Dt) (gSg N Ct Dt) m u (shp Ct Dt 30 p) := by
  intro cs
  induction cs with
  | nil =>
    intro Q0 Q _ h hq
    cases h
    exact ⟨hq, fun y hy => (by cases hy)⟩
  | cons x cs ih =>
    intro Q0 Q hc h hq
    obtain ⟨t, v, ps, e, ex, a1, a2, a3, a4⟩ := hc x (List.mem_cons_self ..)
    have ecp : clP x = ps := by rw [ex]; exact unl_ls ps
    obtain ⟨Z, hZ, h⟩ := bE_inv (show bE (tPe N Ct Dt n 0 (clP x) _) _ = _ from h)
    obtain ⟨R, hR, h⟩ := bE_inv h
    obtain ⟨Q1, hQ1, h⟩ := bE_inv h
    obtain ⟨-, rfl⟩ := eqE_inv hQ1
    obtain ⟨⟨ν, g1, g2⟩, g3⟩ := ih _ Q (fun y hy => hc y (List.mem_cons_of_mem _ hy)) h hq
    rw [ecp, tPe_up a2 ps 0 _ fun p hp => (a3 p hp).1] at hZ
    obtain ⟨⟨ν0, g4, g5⟩, g6⟩ := tPe_ty c ps 0 _ Z a3 hZ ν g1
    refine ⟨g4, fun y hy => ?_⟩
    rcases List.mem_cons.mp hy with e | e
    · rw [e, ecp]
      intro j p u z1 z2
      exact g6 j p u z1 (by rw [Nat.zero_add]; exact z2)
    · exact g3 y e
/-- all rows of a typed match have shapes of its types -/
theorem tMt_ty (c : CtF N Ct Dt) {cs : List Tr} {cols : Nat} {A : En → Prop} {Q : Mq} (hc : ∀ y, y ∈ cs → clR N Ct Dt n y) (hl : ∀ y, y ∈ cs → (clP y).length = cols) (h : tMt N Ct Dt n f cs A = .ok Q) (hq : Q γ ins o) : A γ ∧ ins.length = cols ∧ ∀ y, y ∈ cs → rTy1 (gAk Ct Dt) (gSg N Ct Dt) ins ((clP y).map (shp Ct Dt 30)) := by
  cases cs with
  | nil =>
    cases h
    exact hq.elim
  | cons x cs =>
    obtain ⟨t, v, ps, e, ex, a1, a2, a3, a4⟩ := hc x (List.mem_cons_self ..)
    have ecp : clP x = ps := by rw [ex]; exact unl_ls ps
    obtain ⟨Z, hZ, h⟩ := bE_inv (show bE (tPf N Ct Dt n (clP x) _) _ = _ from h)
    obtain ⟨R, hR, h⟩ := bE_inv h
    obtain ⟨⟨ν, g1, g2⟩, g3⟩ := tMs_ty c cs _ Q (fun y hy => hc y (List.mem_cons_of_mem _ hy)) h hq
    rw [ecp, tPf_up a2 ps _ fun p hp => (a3 p hp).1] at hZ
    obtain ⟨a, τs, ν0, e1, ⟨g4, rfl, -⟩, g5, g6⟩ := tPf_ty c ps _ Z a3 hZ ins ν g1
    rw [List.nil_append] at e1
    subst e1
    have hlen : ins.length = cols := by rw [g5, ← ecp]; exact hl x (List.mem_cons_self ..)
    refine ⟨g4, hlen, fun y hy => ⟨by rw [List.length_map, hlen]; exact hl y hy, fun k z u z1 z2 => ?_⟩⟩
    obtain ⟨p, hp, rfl⟩ : ∃ p, (clP y)[k]? = some p ∧ shp Ct Dt 30 p = z := by
      rw [List.getElem?_map] at z1
      cases hp : (clP y)[k]? with
      | none => rw [hp] at z1; cases z1
      | some p =>
        rw [hp] at z1
        exact ⟨p, rfl, Option.some.inj z1⟩
    rcases List.mem_cons.mp hy with e | e
    · rw [e, ecp] at hp
      exact g6 k p u hp z2
    · exact g3 y e k p u hp z2
end
