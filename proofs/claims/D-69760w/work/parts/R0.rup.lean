/-! THE LAW OF TYPES AND THE LAW OF CLAUSES: more fuel changes nothing -/
section
variable {N rc : Nat} {Ct : Ctb} {Dt : Dtb}
theorem tTu_up {n k : Nat} : ∀ l : List Tr, (∀ y, y ∈ l → tPa N Ct Dt n y = tPa N Ct Dt k y) → tTu N Ct Dt n l = tTu N Ct Dt k l := by
  intro l
  induction l with
  | nil => intro _; rfl
  | cons p l ih =>
    intro h
    unfold tTu
    rw [h p (List.mem_cons_self ..), ih fun y hy => h y (List.mem_cons_of_mem _ hy)]
theorem fl_up {α β : Type} {f g : α → β → α} : ∀ (l : List β) (a : α), (∀ a b, b ∈ l → f a b = g a b) → l.foldl f a = l.foldl g a := by
  intro l
  induction l with
  | nil => intro a _; rfl
  | cons b l ih =>
    intro a h
    rw [List.foldl_cons, List.foldl_cons, h a b (List.mem_cons_self ..)]
    exact ih _ fun a b hb => h a b (List.mem_cons_of_mem _ hb)
theorem fr_up {α β : Type} {f g : β → α → α} : ∀ (l : List β) (a : α), (∀ a b, b ∈ l → f b a = g b a) → l.foldr f a = l.foldr g a := by
  intro l
  induction l with
  | nil => intro a _; rfl
  | cons b l ih =>
    intro a h
    rw [List.foldr_cons, List.foldr_cons, ih a fun a b hb => h a b (List.mem_cons_of_mem _ hb), h _ b (List.mem_cons_self ..)]
theorem tPa_up : ∀ k p, sPt N Ct rc k p → ∀ n, k ≤ n → tPa N Ct Dt n p = tPa N Ct Dt k p ∧ pNm n p = pNm k p ∧ shp Ct Dt n p = shp Ct Dt k p := by
  intro k
  induction k with
  | zero => intro p hs; exact hs.elim
  | succ k ih =>
    intro p hs n hn
    obtain ⟨n, rfl⟩ : ∃ n', n = n' + 1 := ⟨n - 1, by omega⟩
    have hn' : k ≤ n := by omega
    rcases hs with ⟨t, rfl⟩ | ⟨t, rfl⟩ | ⟨t, v, rfl⟩ | ⟨t, v, rfl⟩ | ⟨t, v, rfl⟩ | ⟨t, c, y, rfl, hc, hy⟩ | ⟨t, l, rfl, hl6, hl⟩ | ⟨t, l, rfl, hl⟩ | ⟨t, a, b, rfl, ha, hb'⟩ | ⟨t, y, rfl, hy⟩
    · exact ⟨rfl, rfl, rfl⟩
    · exact ⟨rfl, rfl, rfl⟩
    · exact ⟨rfl, rfl, rfl⟩
    · exact ⟨rfl, rfl, rfl⟩
    · exact ⟨rfl, rfl, rfl⟩
    · rcases hy with ⟨rfl, -⟩ | ⟨-, hy⟩
      · exact ⟨rfl, rfl, rfl⟩
      · obtain ⟨e1, e2, e3⟩ := ih y hy n hn'
        refine ⟨?_, ?_, ?_⟩
        · show (if isN y = true then _ else bE (tPa N Ct Dt n y) _) = (if isN y = true then _ else bE (tPa N Ct Dt k y) _)
          rw [e1]
        · show (if isN y = true then _ else pNm n y) = (if isN y = true then _ else pNm k y)
          rw [e2]
        · show sN _ _ (if isN y = true then [] else [shp Ct Dt n y]) = sN _ _ (if isN y = true then [] else [shp Ct Dt k y])
          rw [e3]
    · refine ⟨?_, ?_, ?_⟩
      · have h1 : ∀ m, tPa N Ct Dt (m + 1) (n1 37 t (ls l)) = bE (tTu N Ct Dt m l) fun Q => .ok fun τ ν => ∃ τs, τ = gt (unl (ls l)).length τs ∧ Q τs ν := fun m => by
          have : tPa N Ct Dt (m + 1) (n1 37 t (ls l)) = bE ((unl (ls l)).foldr (fun p r => bE (tPa N Ct Dt m p) fun P => bE r fun (Q : List Tr → Nu → Prop) => .ok fun τs ν => ∃ τ τs' ν1 ν2, τs = τ :: τs' ∧ ν = ν1 ++ ν2 ∧ P τ ν1 ∧ Q τs' ν2) (.ok fun τs ν => τs = [] ∧ ν = [])) fun Q => .ok fun τ ν => ∃ τs, τ = gt (unl (ls l)).length τs ∧ Q τs ν := rfl
          rw [this, unl_ls, tTu_eq]
        rw [h1, h1, tTu_up l fun y hy => (ih y (hl y hy) n hn').1]
      · show ((unl (ls l)).map (pNm n)).flatten = ((unl (ls l)).map (pNm k)).flatten
        rw [unl_ls, List.map_congr_left fun y hy => (ih y (hl y hy) n hn').2.1]
      · show sN 0 1 ((unl (ls l)).map (shp Ct Dt n)) = sN 0 1 ((unl (ls l)).map (shp Ct Dt k))
        rw [unl_ls, List.map_congr_left fun y hy => (ih y (hl y hy) n hn').2.2]
    · refine ⟨?_, ?_, ?_⟩
      · have h1 : ∀ m, tPa N Ct Dt (m + 1) (n1 38 t (ls l)) = (match unl (ls l) with
            | [] => .ok fun τ ν => ν = [] ∧ ∃ α, τ = tList α
            | p :: ps => bE (tPa N Ct Dt m p) fun P => bE (ps.foldl (fun r p => bE r fun (R : Tr → Nu → Prop) => bE (tPa N Ct Dt m p) fun Q => eqE (tkN p) (∃ τ ν1 ν2, R τ ν1 ∧ Q τ ν2) fun τ ν => ∃ ν1 ν2, ν = ν1 ++ ν2 ∧ R τ ν1 ∧ Q τ ν2) (.ok P)) fun R => .ok fun τ ν => ∃ α, τ = tList α ∧ R α ν) := fun m => rfl
        rw [h1, h1, unl_ls]
        cases l with
        | nil => rfl
        | cons p ps =>
          show bE (tPa N Ct Dt n p) _ = bE (tPa N Ct Dt k p) _
          rw [(ih p (hl p (List.mem_cons_self ..)) n hn').1]
          congr 1
          funext P
          congr 1
          exact fl_up ps _ fun a b hb => by rw [(ih b (hl b (List.mem_cons_of_mem _ hb)) n hn').1]
      · show ((unl (ls l)).map (pNm n)).flatten = ((unl (ls l)).map (pNm k)).flatten
        rw [unl_ls, List.map_congr_left fun y hy => (ih y (hl y hy) n hn').2.1]
      · show (unl (ls l)).foldr (fun p s => sN 1 2 [shp Ct Dt n p, s]) (sN 0 2 []) = (unl (ls l)).foldr (fun p s => sN 1 2 [shp Ct Dt k p, s]) (sN 0 2 [])
        rw [unl_ls]
        exact fr_up l _ fun a b hb => by rw [(ih b (hl b hb) n hn').2.2]
    · obtain ⟨e1, e2, e3⟩ := ih a ha n hn'
      obtain ⟨f1, f2, f3⟩ := ih b hb' n hn'
      refine ⟨?_, ?_, ?_⟩
      · show bE (tPa N Ct Dt n a) _ = bE (tPa N Ct Dt k a) _
        rw [e1, f1]
      · show pNm n a ++ pNm n b = pNm k a ++ pNm k b
        rw [e2, f2]
      · show sN 1 2 [shp Ct Dt n a, shp Ct Dt n b] = sN 1 2 [shp Ct Dt k a, shp Ct Dt k b]
        rw [e3, f3]
    · exact ih y hy n hn'
end
