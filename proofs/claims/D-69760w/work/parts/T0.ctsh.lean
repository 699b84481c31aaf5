/-! THE LAW OF TYPES: shapes of typed patterns -/
/-- constructors and datatypes go together -/
def CtF (N : Nat) (Ct : Ctb) (Dt : Dtb) : Prop := (∀ (i : Nat) x, Ct[i]? = some x → 5 ≤ x.2.1 ∧ ∃ y : Nat × Nat × Nat × Nat, Dt[x.2.1]? = some y ∧ x.2.2.1 < y.2.2.1 ∧ y.2.2.1 < 5000 ∧ ∀ s, cH N Ct i = some s → ∀ k, gV s k → ∃ j : Nat, j < y.2.1 ∧ k = j) ∧ ∀ (i j : Nat) x y, Ct[i]? = some x → Ct[j]? = some y → x.2.1 = y.2.1 → x.2.2.1 = y.2.2.1 → i = j
/-- how many heads a type has -/
def akn (Ct : Ctb) (Dt : Dtb) (n al : Int) : Prop := (n = 7 ∧ al = 0) ∨ (n = 8 ∧ al = 2) ∨ (n = 9 ∧ al = 1) ∨ ((2 ≤ n ∧ n ≤ 6) ∧ al = 1) ∨ (n = 10 ∧ al = 2) ∨ ∃ (c : Nat) (x : Nat × Nat × Nat × Tr), Ct[c]? = some x ∧ n = (x.2.1 : Int) + 7 ∧ al = cAl Ct Dt c
def gAk (Ct : Ctb) (Dt : Dtb) : Tr → Int → Prop := fun τ al => ∃ n l, τ = gt n l ∧ akn Ct Dt n al
/-- the parts of a head -/
def gSg (N : Nat) (Ct : Ctb) (Dt : Dtb) : Tr → Int → List Tr → Prop := fun τ hd l => ∃ n ps, τ = gt n ps ∧ (((7 ≤ n ∧ n ≤ 9) ∧ l = []) ∨ ((2 ≤ n ∧ n ≤ 6) ∧ l = ps) ∨ (n = 10 ∧ hd = 0 ∧ l = []) ∨ (n = 10 ∧ hd ≠ 0 ∧ l = ps ++ [τ]) ∨ ∃ (c : Nat) (x : Nat × Nat × Nat × Tr) (θ : Int → Tr), Ct[c]? = some x ∧ n = (x.2.1 : Int) + 7 ∧ hd = x.2.2.1 ∧ τ = gi θ (cG Ct Dt c) ∧ l = match cH N Ct c with
  | none => []
  | some s => [gi θ s])
theorem bE_inv {α β : Type} {x : Except Fa α} {f : α → Except Fa β} {b : β} (h : bE x f = .ok b) : ∃ a, x = .ok a ∧ f a = .ok b := by
  cases x with
  | error e => cases h
  | ok a => exact ⟨a, rfl, h⟩
theorem eqE_inv {α : Type} {t : Nat} {P : Prop} {a b : α} (h : eqE t P a = .ok b) : P ∧ a = b := by
  by_cases c : P
  · rw [eqE_y c] at h
    cases h
    exact ⟨c, rfl⟩
  · rw [eqE_n c] at h
    cases h
section
variable {N rc n m : Nat} {Ct : Ctb} {Dt : Dtb} {Ak : Tr → Int → Prop} {Sg : Tr → Int → List Tr → Prop} {τ x : Tr} {hd al : Int} {l τs : List Tr}
theorem gi_cG {c : Nat} {y : Nat × Nat × Nat × Tr} {z : Nat × Nat × Nat × Nat} {θ : Int → Tr} (hc : Ct[c]? = some y) (hz : Dt[y.2.1]? = some z) : gi θ (cG Ct Dt c) = gt ((y.2.1 : Int) + 7) ((List.range z.2.1).map fun (i : Nat) => θ (i : Int)) := by
  unfold gi cG
  rw [hc]
  show ins θ _ (gt ((y.2.1 : Int) + 7) ((List.range (match Dt[y.2.1]? with | some y => y.2.1 | none => 0)).map fun (i : Nat) => .neg (.num (i : Int)))) = _
  rw [hz, ins_gt, List.map_map]
  rfl
theorem gAk_fn (f : CtF N Ct Dt) : ∀ τ a b, gAk Ct Dt τ a → gAk Ct Dt τ b → a = b := by
  rintro τ a b ⟨n, l, rfl, h1⟩ ⟨n', l', e, h2⟩
  obtain ⟨rfl, -⟩ := gt_inj e
  unfold akn at h1 h2
  rcases h1 with h1 | h1 | h1 | h1 | h1 | ⟨c, x, hc, e1, h1⟩
  all_goals rcases h2 with h2 | h2 | h2 | h2 | h2 | ⟨c', x', hc', e2, h2⟩
  all_goals first
    | omega
    | (have := (f.1 _ _ hc).1; omega)
    | (have := (f.1 _ _ hc').1; omega)
    | skip
  have ed : x.2.1 = x'.2.1 := by omega
  rw [h1, h2]
  unfold cAl
  rw [hc, hc']
  show (match Dt[x.2.1]? with | some y => ((y.2.2.1 : Nat) : Int) | none => 0) = match Dt[x'.2.1]? with | some y => ((y.2.2.1 : Nat) : Int) | none => 0
  rw [ed]
theorem gSg_fn (f : CtF N Ct Dt) : ∀ τ h l l', gSg N Ct Dt τ h l → gSg N Ct Dt τ h l' → l = l' := by
  rintro τ hd l l' ⟨n, ps, rfl, h1⟩ ⟨n', ps', e, h2⟩
  obtain ⟨rfl, rfl⟩ := gt_inj e
  rcases h1 with ⟨h1, rfl⟩ | ⟨h1, rfl⟩ | ⟨h1, h3, rfl⟩ | ⟨h1, h3, rfl⟩ | ⟨c, x, θ, hc, e1, e3, h1, rfl⟩
  all_goals rcases h2 with ⟨h2, rfl⟩ | ⟨h2, rfl⟩ | ⟨h2, h4, rfl⟩ | ⟨h2, h4, rfl⟩ | ⟨c', x', θ', hc', e2, e4, h2, rfl⟩
  all_goals first
    | rfl
    | (exfalso; omega)
    | (exfalso; have := (f.1 _ _ hc).1; omega)
    | (exfalso; have := (f.1 _ _ hc').1; omega)
    | skip
  have ec := f.2 c c' x x' hc hc' (by omega) (by omega)
  subst ec
  rw [hc] at hc'
  cases hc'
  obtain ⟨-, y, hy, -, -, hv⟩ := f.1 c x hc
  rw [h1, gi_cG hc hy, gi_cG hc hy] at h2
  obtain ⟨-, h5⟩ := gt_inj h2
  have h6 : ∀ j : Nat, j < y.2.1 → θ j = θ' j := fun j hj => by
    have := congrArg (fun l : List Tr => l[j]?) h5
    simp only [List.getElem?_map, List.getElem?_range hj, Option.map_some] at this
    exact Option.some.inj this
  cases hh : cH N Ct c with
  | none => rfl
  | some s =>
    show [gi θ s] = [gi θ' s]
    unfold gi
    rw [ins_ck s fun k hk => by
      obtain ⟨j, hj, rfl⟩ := hv s hh k hk
      exact h6 j hj]
theorem sTy_up : ∀ n τ x, sTy Ak Sg n τ x → ∀ m, n ≤ m → sTy Ak Sg m τ x := by
  intro n
  induction n with
  | zero =>
    intro τ x h m _
    rw [show x = .num 0 from h]
    exact sTy_any
  | succ n ih =>
    intro τ x h m hm
    cases m with
    | zero => omega
    | succ m =>
      rcases h with h | ⟨hd, al, l, τs, h1, h2, h3, h4, h5, h6, h7, h8⟩
      · exact Or.inl h
      · exact Or.inr ⟨hd, al, l, τs, h1, h2, h3, h4, h5, h6, h7, fun k y u z1 z2 => ih u y (h8 k y u z1 z2) m (by omega)⟩
theorem sTy_max : ∀ (l τs : List Tr), (∀ (k : Nat) (y u : Tr), l[k]? = some y → τs[k]? = some u → ∃ n, sTy Ak Sg n u y) → ∃ n, ∀ (k : Nat) (y u : Tr), l[k]? = some y → τs[k]? = some u → sTy Ak Sg n u y := by
  intro l
  induction l with
  | nil => intro τs _; exact ⟨0, fun k y u h => by simp at h⟩
  | cons a l ih =>
    intro τs h
    cases τs with
    | nil => exact ⟨0, fun k y u _ h => by simp at h⟩
    | cons b τs =>
      obtain ⟨n1, h1⟩ := h 0 a b rfl rfl
      obtain ⟨n2, h2⟩ := ih τs fun k y u z1 z2 => h (k + 1) y u (by rw [List.getElem?_cons_succ]; exact z1) (by rw [List.getElem?_cons_succ]; exact z2)
      refine ⟨max n1 n2, fun k y u z1 z2 => ?_⟩
      cases k with
      | zero =>
        cases z1
        cases z2
        exact sTy_up _ _ _ h1 _ (Nat.le_max_left ..)
      | succ k =>
        rw [List.getElem?_cons_succ] at z1 z2
        exact sTy_up _ _ _ (h2 k y u z1 z2) _ (Nat.le_max_right ..)
theorem sTy_mk (h2 : -2147483648 ≤ hd ∧ hd < 2147483648) (h3 : 0 ≤ al ∧ al < 2147483648) (h4 : Ak τ al) (h5 : 0 < al → 0 ≤ hd ∧ hd < al) (h6 : Sg τ hd τs) (h7 : τs.length = l.length) (h8 : ∀ (k : Nat) (y u : Tr), l[k]? = some y → τs[k]? = some u → ∃ n, sTy Ak Sg n u y) : ∃ n, sTy Ak Sg n τ (sN hd al l) := by
  obtain ⟨n, hn⟩ := sTy_max l τs h8
  exact ⟨n + 1, Or.inr ⟨hd, al, l, τs, rfl, h2, h3, h4, h5, h6, h7, hn⟩⟩
theorem sVal_ls : ∀ l : List Tr, sVal (ls l) → ∀ y, y ∈ l → sVal y := by
  intro l
  induction l with
  | nil => intro _ y hy; cases hy
  | cons a l ih =>
    intro h y hy
    rcases List.mem_cons.mp hy with e | e
    · rw [e]; exact h.1
    · exact ih h.2 y e
/-- a typed pattern has a typed shape -/
theorem shp_ty (f : CtF N Ct Dt) (hrc : rc ≤ Ct.length) : ∀ k p, sPt N Ct rc k p → sVal p → ∀ P, tPa N Ct Dt k p = .ok P → ∀ τ ν, P τ ν → ∃ m, sTy (gAk Ct Dt) (gSg N Ct Dt) m τ (shp Ct Dt k p) := by
  intro k
  induction k with
  | zero => intro p hs; exact hs.elim
  | succ k ih =>
    intro p hs hv P hP τ ν hτ
    rcases hs with ⟨t, rfl⟩ | ⟨t, rfl⟩ | ⟨t, w, rfl⟩ | ⟨t, w, rfl⟩ | ⟨t, w, rfl⟩ | ⟨t, c, y, rfl, hc, hy⟩ | ⟨t, l, rfl, hl6, hl⟩ | ⟨t, l, rfl, hl⟩ | ⟨t, a, b, rfl, ha, hb⟩ | ⟨t, y, rfl, hy⟩
    · exact ⟨0, rfl⟩
    · cases hP
      obtain ⟨hτ, -⟩ := hτ
      exact sTy_mk (τs := []) (by decide) (by decide) ⟨9, [], hτ, Or.inr (Or.inr (Or.inl ⟨rfl, rfl⟩))⟩ (fun _ => by decide) ⟨9, [], hτ, Or.inl ⟨by decide, rfl⟩⟩ rfl (fun k y u h => by simp at h)
    · exact ⟨0, rfl⟩
    · cases hP
      obtain ⟨hτ, -⟩ := hτ
      exact sTy_mk (hd := w) (al := 0) (τs := []) (hv.1 rfl t w rfl) (by decide) ⟨7, [], hτ, Or.inl ⟨rfl, rfl⟩⟩ (fun h => absurd h (by decide)) ⟨7, [], hτ, Or.inl ⟨by decide, rfl⟩⟩ rfl (fun k y u h => by simp at h)
    · cases hP
      obtain ⟨hτ, -⟩ := hτ
      have := hv.2.1 rfl t w rfl
      exact sTy_mk (hd := w) (al := 2) (τs := []) (by omega) (by decide) ⟨8, [], hτ, Or.inr (Or.inl ⟨rfl, rfl⟩)⟩ (fun _ => this) ⟨8, [], hτ, Or.inl ⟨by decide, rfl⟩⟩ rfl (fun k y u h => by simp at h)
    · obtain ⟨cx, hcx⟩ : ∃ x, Ct[c]? = some x := ⟨_, List.getElem?_eq_getElem (Nat.lt_of_lt_of_le hc hrc)⟩
      obtain ⟨h5, z, hz, hz1, hz2, -⟩ := f.1 c cx hcx
      have eNo : cNo Ct c = cx.2.2.1 := by unfold cNo; rw [hcx]
      have eAl : cAl Ct Dt c = z.2.2.1 := by
        unfold cAl
        rw [hcx]
        show (match Dt[cx.2.1]? with | some y => ((y.2.2.1 : Nat) : Int) | none => 0) = _
        rw [hz]
      have es : shp Ct Dt (k + 1) (n2 33 t (.num c) y) = sN (cNo Ct c) (cAl Ct Dt c) (if isN y = true then [] else [shp Ct Dt k y]) := rfl
      have hk : ∀ θ, τ = gi θ (cG Ct Dt c) → gAk Ct Dt τ (cAl Ct Dt c) := fun θ e => ⟨_, _, e.trans (gi_cG hcx hz), Or.inr (Or.inr (Or.inr (Or.inr (Or.inr ⟨c, cx, hcx, rfl, rfl⟩))))⟩
      rw [es]
      rcases hy with ⟨rfl, hn⟩ | ⟨hn, hy⟩
      · cases hP
        obtain ⟨-, θ, hθ⟩ := hτ
        refine sTy_mk (τs := []) (by rw [eNo]; omega) (by rw [eAl]; omega) (hk θ hθ) (fun _ => by rw [eNo, eAl]; omega) ⟨_, _, hθ.trans (gi_cG hcx hz), Or.inr (Or.inr (Or.inr (Or.inr ⟨c, cx, θ, hcx, rfl, eNo, hθ, ?_⟩)))⟩ rfl (fun k y u h => by simp [isN] at h)
        rw [hn]
      · have hN : isN y = false := by
          cases k with
          | zero => exact hy.elim
          | succ n => rcases hy with ⟨t, rfl⟩ | ⟨t, rfl⟩ | ⟨t, w, rfl⟩ | ⟨t, w, rfl⟩ | ⟨t, w, rfl⟩ | ⟨t, c, y, rfl, -⟩ | ⟨t, l, rfl, -⟩ | ⟨t, l, rfl, -⟩ | ⟨t, a, b, rfl, -⟩ | ⟨t, y, rfl, -⟩ <;> rfl
        have e1 : tPa N Ct Dt (k + 1) (n2 33 t (.num c) y) = (if isN y = true then .ok fun τ ν => ν = [] ∧ ∃ θ, τ = gi θ (cG Ct Dt (c : Int).toNat) else bE (tPa N Ct Dt k y) fun P => eqE (tkN y) (∃ θ ν, P (gi θ ((cH N Ct (c : Int).toNat).getD (.num 0))) ν) fun τ ν => ∃ θ, τ = gi θ (cG Ct Dt (c : Int).toNat) ∧ P (gi θ ((cH N Ct (c : Int).toNat).getD (.num 0))) ν) := rfl
        rw [e1, hN, if_neg (by decide)] at hP
        obtain ⟨Q, hQ, hP⟩ := bE_inv hP
        obtain ⟨-, rfl⟩ := eqE_inv hP
        obtain ⟨θ, hθ, h2⟩ := hτ
        obtain ⟨s, hs⟩ := Option.isSome_iff_exists.mp hn
        have h2' : Q (gi θ s) ν := by
          have : ((cH N Ct (c : Int).toNat).getD (.num 0)) = s := by rw [show (c : Int).toNat = c from rfl, hs]; rfl
          rw [← this]
          exact h2
        obtain ⟨m, hm⟩ := ih y hy hv.2.2.2.2 Q hQ _ _ h2'
        rw [hN, if_neg (by decide)]
        refine sTy_mk (τs := [gi θ s]) (by rw [eNo]; omega) (by rw [eAl]; omega) (hk θ hθ) (fun _ => by rw [eNo, eAl]; omega) ⟨_, _, hθ.trans (gi_cG hcx hz), Or.inr (Or.inr (Or.inr (Or.inr ⟨c, cx, θ, hcx, rfl, eNo, hθ, ?_⟩)))⟩ rfl (fun k y u h1 h2 => ?_)
        · rw [hs]
        · cases k with
          | zero =>
            cases h1
            cases h2
            exact ⟨m, hm⟩
          | succ k => simp at h1
    · have e1 : tPa N Ct Dt (k + 1) (n1 37 t (ls l)) = bE (tTu N Ct Dt k (unl (ls l))) fun Q => .ok fun τ ν => ∃ τs, τ = gt (unl (ls l)).length τs ∧ Q τs ν := by
        rw [← tTu_eq]
        rfl
      have es : shp Ct Dt (k + 1) (n1 37 t (ls l)) = sN 0 1 ((unl (ls l)).map (shp Ct Dt k)) := rfl
      rw [es]
      rw [e1] at hP
      rw [unl_ls] at hP ⊢
      have hvl := sVal_ls l hv.2.2.2
      have key : ∀ l : List Tr, (∀ y, y ∈ l → sPt N Ct rc k y ∧ sVal y) → ∀ Q, tTu N Ct Dt k l = .ok Q → ∀ τs ν, Q τs ν → τs.length = l.length ∧ ∀ (i : Nat) (y u : Tr), (l.map (shp Ct Dt k))[i]? = some y → τs[i]? = some u → ∃ m, sTy (gAk Ct Dt) (gSg N Ct Dt) m u y := by
        intro l
        induction l with
        | nil =>
          intro _ Q hQ τs ν h
          cases hQ
          rw [h.1]
          exact ⟨rfl, fun i y u h => by simp at h⟩
        | cons a l ih2 =>
          intro hl Q hQ τs ν h
          obtain ⟨P1, hP1, hQ⟩ := bE_inv (show bE (tPa N Ct Dt k a) _ = _ from hQ)
          obtain ⟨Q1, hQ1, hQ⟩ := bE_inv hQ
          cases hQ
          obtain ⟨τ', τs', ν1, ν2, rfl, -, h3, h4⟩ := h
          obtain ⟨g1, g2⟩ := ih2 (fun y hy => hl y (List.mem_cons_of_mem _ hy)) Q1 hQ1 _ _ h4
          refine ⟨by rw [List.length_cons, List.length_cons, g1], fun i y u z1 z2 => ?_⟩
          cases i with
          | zero =>
            cases z1
            cases z2
            exact ih a (hl a (List.mem_cons_self ..)).1 (hl a (List.mem_cons_self ..)).2 P1 hP1 _ _ h3
          | succ i =>
            rw [List.map_cons, List.getElem?_cons_succ] at z1
            rw [List.getElem?_cons_succ] at z2
            exact g2 i y u z1 z2
      obtain ⟨Q, hQ, hP⟩ := bE_inv hP
      cases hP
      obtain ⟨τs, rfl, h3⟩ := hτ
      obtain ⟨g1, g2⟩ := key l (fun y hy => ⟨hl y hy, hvl y hy⟩) Q hQ _ _ h3
      exact sTy_mk (τs := τs) (by decide) (by decide) ⟨_, _, rfl, Or.inr (Or.inr (Or.inr (Or.inl ⟨by omega, rfl⟩)))⟩ (fun _ => by decide) ⟨_, _, rfl, Or.inr (Or.inl ⟨by omega, rfl⟩)⟩ (by rw [List.length_map, g1]) g2
    · have es : shp Ct Dt (k + 1) (n1 38 t (ls l)) = (unl (ls l)).foldr (fun p s => sN 1 2 [shp Ct Dt k p, s]) (sN 0 2 []) := rfl
      rw [es, unl_ls]
      have hvl := sVal_ls l hv.2.2.2
      -- all parts have one type
      have fin : ∀ α, (∀ y, y ∈ l → ∃ m, sTy (gAk Ct Dt) (gSg N Ct Dt) m α (shp Ct Dt k y)) → τ = tList α → ∃ m, sTy (gAk Ct Dt) (gSg N Ct Dt) m τ (l.foldr (fun p s => sN 1 2 [shp Ct Dt k p, s]) (sN 0 2 [])) := by
        rintro α hα rfl
        clear hv hP hvl es hl
        induction l with
        | nil => exact sTy_mk (τs := []) (by decide) (by decide) ⟨10, [α], rfl, Or.inr (Or.inr (Or.inr (Or.inr (Or.inl ⟨rfl, rfl⟩))))⟩ (fun _ => by decide) ⟨10, [α], rfl, Or.inr (Or.inr (Or.inl ⟨rfl, rfl, rfl⟩))⟩ rfl (fun k y u h => by simp at h)
        | cons a l ih2 =>
          rw [List.foldr_cons]
          refine sTy_mk (τs := [α, tList α]) (by decide) (by decide) ⟨10, [α], rfl, Or.inr (Or.inr (Or.inr (Or.inr (Or.inl ⟨rfl, rfl⟩))))⟩ (fun _ => by decide) ⟨10, [α], rfl, Or.inr (Or.inr (Or.inr (Or.inl ⟨rfl, by decide, rfl⟩)))⟩ rfl (fun i y u z1 z2 => ?_)
          match i, z1, z2 with
          | 0, z1, z2 =>
            cases z1
            cases z2
            exact hα a (List.mem_cons_self ..)
          | 1, z1, z2 =>
            cases z1
            cases z2
            exact ih2 fun y hy => hα y (List.mem_cons_of_mem _ hy)
          | i + 2, z1, z2 => simp at z1
      cases l with
      | nil =>
        have e1 : tPa N Ct Dt (k + 1) (n1 38 t (ls [])) = .ok fun τ ν => ν = [] ∧ ∃ α, τ = tList α := rfl
        rw [e1] at hP
        cases hP
        obtain ⟨-, α, hτ⟩ := hτ
        exact fin α (fun y hy => (by cases hy)) hτ
      | cons a l =>
        have e1 : tPa N Ct Dt (k + 1) (n1 38 t (ls (a :: l))) = bE (tPa N Ct Dt k a) fun P => bE (tLs N Ct Dt k l P) fun R => .ok fun τ ν => ∃ α, τ = tList α ∧ R α ν := by
          have : tPa N Ct Dt (k + 1) (n1 38 t (ls (a :: l))) = match unl (ls (a :: l)) with
            | [] => .ok fun τ ν => ν = [] ∧ ∃ α, τ = tList α
            | p :: ps => bE (tPa N Ct Dt k p) fun P => bE (ps.foldl (fun r p => bE r fun (R : Tr → Nu → Prop) => bE (tPa N Ct Dt k p) fun Q => eqE (tkN p) (∃ τ ν1 ν2, R τ ν1 ∧ Q τ ν2) fun τ ν => ∃ ν1 ν2, ν = ν1 ++ ν2 ∧ R τ ν1 ∧ Q τ ν2) (.ok P)) fun R => .ok fun τ ν => ∃ α, τ = tList α ∧ R α ν := rfl
          rw [this, unl_ls]
          show (bE (tPa N Ct Dt k a) fun P => bE (l.foldl _ (.ok P)) _) = _
          congr 1
          funext P
          rw [tLs_eq]
        rw [e1] at hP
        obtain ⟨P1, hP1, hP⟩ := bE_inv hP
        obtain ⟨R, hR, hP⟩ := bE_inv hP
        cases hP
        obtain ⟨α, hτ, h3⟩ := hτ
        have key : ∀ (l : List Tr), (∀ y, y ∈ l → sPt N Ct rc k y ∧ sVal y) → ∀ R0 R, tLs N Ct Dt k l R0 = .ok R → ∀ ν, R α ν → (∃ ν0, R0 α ν0) ∧ ∀ y, y ∈ l → ∃ m, sTy (gAk Ct Dt) (gSg N Ct Dt) m α (shp Ct Dt k y) := by
          intro l
          induction l with
          | nil =>
            intro _ R0 R hR ν h
            cases hR
            exact ⟨⟨ν, h⟩, fun y hy => (by cases hy)⟩
          | cons a l ih2 =>
            intro hl R0 R hR ν h
            obtain ⟨Q, hQ, hR⟩ := bE_inv (show bE (tPa N Ct Dt k a) _ = _ from hR)
            obtain ⟨R', hR', hR⟩ := bE_inv hR
            obtain ⟨-, rfl⟩ := eqE_inv hR'
            obtain ⟨⟨ν0, ν1, ν2, -, g1, g2⟩, g3⟩ := ih2 (fun y hy => hl y (List.mem_cons_of_mem _ hy)) _ R hR ν h
            refine ⟨⟨ν1, g1⟩, fun y hy => ?_⟩
            rcases List.mem_cons.mp hy with e | e
            · rw [e]
              exact ih a (hl a (List.mem_cons_self ..)).1 (hl a (List.mem_cons_self ..)).2 Q hQ _ _ g2
            · exact g3 y e
        obtain ⟨⟨ν0, g1⟩, g2⟩ := key l (fun y hy => ⟨hl y (List.mem_cons_of_mem _ hy), hvl y (List.mem_cons_of_mem _ hy)⟩) P1 R hR ν h3
        refine fin α (fun y hy => ?_) hτ
        rcases List.mem_cons.mp hy with e | e
        · rw [e]
          exact ih a (hl a (List.mem_cons_self ..)) (hvl a (List.mem_cons_self ..)) P1 hP1 _ _ g1
        · exact g2 y e
    · have e1 : tPa N Ct Dt (k + 1) (n2 39 t a b) = bE (tPa N Ct Dt k a) fun P => bE (tPa N Ct Dt k b) fun Q => eqE (tkN b) (∃ α ν1 ν2, P α ν1 ∧ Q (tList α) ν2) fun τ ν => ∃ α ν1 ν2, τ = tList α ∧ ν = ν1 ++ ν2 ∧ P α ν1 ∧ Q τ ν2 := rfl
      rw [e1] at hP
      obtain ⟨P1, hP1, hP⟩ := bE_inv hP
      obtain ⟨Q1, hQ1, hP⟩ := bE_inv hP
      obtain ⟨-, rfl⟩ := eqE_inv hP
      obtain ⟨α, ν1, ν2, rfl, -, h3, h4⟩ := hτ
      have es : shp Ct Dt (k + 1) (n2 39 t a b) = sN 1 2 [shp Ct Dt k a, shp Ct Dt k b] := rfl
      rw [es]
      refine sTy_mk (τs := [α, tList α]) (by decide) (by decide) ⟨10, [α], rfl, Or.inr (Or.inr (Or.inr (Or.inr (Or.inl ⟨rfl, rfl⟩))))⟩ (fun _ => by decide) ⟨10, [α], rfl, Or.inr (Or.inr (Or.inr (Or.inl ⟨rfl, by decide, rfl⟩)))⟩ rfl (fun i y u z1 z2 => ?_)
      match i, z1, z2 with
      | 0, z1, z2 =>
        cases z1
        cases z2
        exact ih a ha hv.2.2.2.1 P1 hP1 _ _ h3
      | 1, z1, z2 =>
        cases z1
        cases z2
        exact ih b hb hv.2.2.2.2 Q1 hQ1 _ _ h4
      | i + 2, z1, z2 => simp at z1
    · exact ih y hy hv.2.2.2 P hP τ ν hτ
end
