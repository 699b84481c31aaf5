/-! THE LAW OF CLAUSES: columns, heads -/
section
variable {Ak : Tr → Int → Prop} {Sg : Tr → Int → List Tr → Prop} {τ x p : Tr} {τs σs r r' q : List Tr} {hd : Int} {n w : Nat} {rows : List (List Tr)} {c : List Tr}
theorem sTy_any : sTy Ak Sg n τ (.num 0) := by
  cases n with
  | zero => rfl
  | succ n => exact Or.inl rfl
theorem sTy_isN (h : sTy Ak Sg n τ x) (hx : isN x = true) : x = .num 0 := by
  cases n with
  | zero => exact h
  | succ n =>
    rcases h with h | ⟨hd, al, l, τs, rfl, -⟩
    · exact h
    · rw [isN_N] at hx; cases hx
theorem sTy_N (h : sTy Ak Sg n τ x) (hx : isN x = false) : ∃ al l τs, x = sN (sH x) al l ∧ (-2147483648 ≤ sH x ∧ sH x < 2147483648) ∧ (0 ≤ al ∧ al < 2147483648) ∧ Ak τ al ∧ (0 < al → 0 ≤ sH x ∧ sH x < al) ∧ Sg τ (sH x) τs ∧ τs.length = l.length ∧ ∀ (k : Nat) (y u : Tr), l[k]? = some y → τs[k]? = some u → ∃ n, sTy Ak Sg n u y := by
  cases n with
  | zero => rw [show x = .num 0 from h] at hx; cases hx
  | succ n =>
    rcases h with h | ⟨hd, al, l, τs, rfl, h1, h2, h3, h4, h5, h6, h7⟩
    · rw [h] at hx; cases hx
    · exact ⟨al, l, τs, rfl, h1, h2, h3, h4, h5, h6, fun k y u z1 z2 => ⟨n, h7 k y u z1 z2⟩⟩
theorem rTy1.tl (h : rTy1 Ak Sg (τ :: τs) (p :: r)) : rTy1 Ak Sg τs r := ⟨by simpa using h.1, fun k y u z1 z2 => h.2 (k + 1) y u (by rw [List.getElem?_cons_succ]; exact z1) (by rw [List.getElem?_cons_succ]; exact z2)⟩
theorem rTy1.h1 (h : rTy1 Ak Sg (τ :: τs) (p :: r)) : ∃ n, sTy Ak Sg n τ p := h.2 0 p τ rfl rfl
theorem rTy1.ap (h1 : rTy1 Ak Sg σs q) (h2 : rTy1 Ak Sg τs r) : rTy1 Ak Sg (σs ++ τs) (q ++ r) := by
  refine ⟨by rw [List.length_append, List.length_append, h1.1, h2.1], fun k y u z1 z2 => ?_⟩
  by_cases c : k < q.length
  · rw [List.getElem?_append_left c] at z1
    rw [List.getElem?_append_left (by rw [← h1.1]; exact c)] at z2
    exact h1.2 k y u z1 z2
  · rw [List.getElem?_append_right (by omega)] at z1
    rw [List.getElem?_append_right (by rw [← h1.1]; omega), ← h1.1] at z2
    exact h2.2 _ y u z1 z2
theorem rTy1.rep (e : σs.length = n) : rTy1 Ak Sg σs (List.replicate n (.num 0)) := by
  refine ⟨by rw [List.length_replicate, e], fun k y u z1 _ => ⟨0, ?_⟩⟩
  exact (List.mem_replicate.mp (List.mem_of_getElem? z1)).2
theorem rTy1.F (hS : ∀ τ h l l', Sg τ h l → Sg τ h l' → l = l') (h : rTy1 Ak Sg (τ :: τs) r) (hs : Sg τ hd σs) (e : σs.length = n) (hr : rowF hd n r = some r') : rTy1 Ak Sg (σs ++ τs) r' := by
  cases r with
  | nil => cases hr
  | cons p r =>
    rw [rowF_c] at hr
    by_cases c : isN p = true
    · rw [if_pos c] at hr
      cases hr
      exact (rTy1.rep e).ap h.tl
    · rw [if_neg c] at hr
      by_cases c2 : sH p = hd
      · rw [if_pos c2] at hr
        cases hr
        obtain ⟨m, hm⟩ := h.h1
        obtain ⟨al, l, τ2, e1, -, -, -, -, e5, e6, e7⟩ := sTy_N hm (by simpa using c)
        rw [c2] at e5
        have e8 := hS _ _ _ _ e5 hs
        rw [e8] at e6 e7
        have e9 : sP p = l := by rw [e1, sP_N]
        rw [e9]
        exact rTy1.ap ⟨e6.symm, e7⟩ h.tl
      · rw [if_neg c2] at hr; cases hr
theorem rTy1.E (h : rTy1 Ak Sg (τ :: τs) r) (hr : rowE r = some r') : rTy1 Ak Sg τs r' := by
  cases r with
  | nil => cases hr
  | cons p r =>
    rw [rowE_c] at hr
    by_cases c : isN p = true
    · rw [if_pos c] at hr
      cases hr
      exact h.tl
    · rw [if_neg c] at hr; cases hr
theorem whl_sn : ∀ (l : List Tr) (v : Int) (p : Tr), whl v (l ++ [p]) = if isN p = true then whl v l else sAl p := by
  intro l
  induction l with
  | nil => intro v p; rfl
  | cons y l ih => intro v p; exact ih _ p
theorem dcn_sn : ∀ (l sn : List Tr) (p : Tr), dcn sn (l ++ [p]) = dcn sn l + if isN p = true ∨ hasH (sn ++ l) (sH p) = true then 0 else 1 := by
  intro l
  induction l with
  | nil =>
    intro sn p
    rw [List.append_nil]
    show _ + 0 = 0 + _
    omega
  | cons y l ih =>
    intro sn p
    show _ + dcn (sn ++ [y]) (l ++ [p]) = _ + dcn (sn ++ [y]) l + _
    rw [ih, List.append_assoc]
    show _ + (_ + if isN p = true ∨ hasH (sn ++ (y :: l)) (sH p) = true then 0 else 1) = _
    omega
theorem hasH_sn {l : List Tr} {h : Int} : hasH (l ++ [p]) h = (hasH l h || (!isN p && sH p == h)) := by
  unfold hasH
  rw [List.any_append]
  show (_ || ((!isN p && sH p == h) || false)) = _
  rw [Bool.or_false]
/-- the heads, each once -/
def dhL : List Tr → List Tr → List Nat
  | _, [] => []
  | sn, p :: l => (if isN p = true ∨ hasH sn (sH p) = true then [] else [(sH p).toNat]) ++ dhL (sn ++ [p]) l
theorem dhL_len : ∀ (l sn : List Tr), (dhL sn l).length = dcn sn l := by
  intro l
  induction l with
  | nil => intro sn; rfl
  | cons p l ih =>
    intro sn
    show (_ ++ dhL (sn ++ [p]) l).length = _ + dcn (sn ++ [p]) l
    rw [List.length_append, ih]
    split <;> rfl
theorem hasH_iff {l : List Tr} {h : Int} : hasH l h = true ↔ ∃ p, p ∈ l ∧ isN p = false ∧ sH p = h := by
  unfold hasH
  rw [List.any_eq_true]
  refine ⟨fun ⟨p, h1, h2⟩ => ⟨p, h1, ?_⟩, fun ⟨p, h1, h2, h3⟩ => ⟨p, h1, by rw [h2, h3]; simp⟩⟩
  rw [Bool.and_eq_true] at h2
  exact ⟨by simpa using h2.1, by simpa using h2.2⟩
theorem dhL_mem : ∀ (l sn : List Tr) (x : Nat), (∀ p, p ∈ l → isN p = false → 0 ≤ sH p) → x ∈ dhL sn l → (∃ p, p ∈ l ∧ isN p = false ∧ sH p = x) ∧ hasH sn x = false := by
  intro l
  induction l with
  | nil => intro sn x _ h; cases h
  | cons p l ih =>
    intro sn x hp h
    have h' : x ∈ (if isN p = true ∨ hasH sn (sH p) = true then [] else [(sH p).toNat]) ++ dhL (sn ++ [p]) l := h
    rcases List.mem_append.mp h' with e | e
    · split at e
      · cases e
      · next c =>
        rw [not_or] at c
        have c1 : isN p = false := by simpa using c.1
        have h0 := hp p (List.mem_cons_self ..) c1
        have ex : x = (sH p).toNat := (List.mem_cons.mp e).resolve_right fun z => by cases z
        have e2 : sH p = (x : Int) := by omega
        refine ⟨⟨p, List.mem_cons_self .., c1, e2⟩, ?_⟩
        rw [← e2]
        simpa using c.2
    · obtain ⟨⟨p', h1, h2, h3⟩, h4⟩ := ih (sn ++ [p]) x (fun y hy => hp y (List.mem_cons_of_mem _ hy)) e
      refine ⟨⟨p', List.mem_cons_of_mem _ h1, h2, h3⟩, ?_⟩
      rw [hasH_sn, Bool.or_eq_false_iff] at h4
      exact h4.1
theorem dhL_nd : ∀ (l sn : List Tr), (∀ p, p ∈ l → isN p = false → 0 ≤ sH p) → (dhL sn l).Nodup := by
  intro l
  induction l with
  | nil => intro sn _; exact List.nodup_nil
  | cons p l ih =>
    intro sn hp
    show ((if isN p = true ∨ hasH sn (sH p) = true then [] else [(sH p).toNat]) ++ dhL (sn ++ [p]) l).Nodup
    have h1 := ih (sn ++ [p]) fun y hy => hp y (List.mem_cons_of_mem _ hy)
    split
    · exact h1
    · next c =>
      rw [not_or] at c
      have c1 : isN p = false := by simpa using c.1
      have h0 := hp p (List.mem_cons_self ..) c1
      refine List.nodup_cons.mpr ⟨fun e => ?_, h1⟩
      have h2 := (dhL_mem l (sn ++ [p]) _ (fun y hy => hp y (List.mem_cons_of_mem _ hy)) e).2
      rw [hasH_sn, Bool.or_eq_false_iff] at h2
      have h3 := h2.2
      rw [c1] at h3
      have : ((sH p).toNat : Int) = sH p := by omega
      rw [this] at h3
      simp at h3
/-- enough different heads: all are there -/
theorem head_in (hp : ∀ p, p ∈ c → isN p = false → 0 ≤ sH p ∧ sH p < w) (hd : w ≤ dcn [] c) {h : Nat} (hh : h < w) : ∃ p, p ∈ c ∧ isN p = false ∧ sH p = h := by
  refine Classical.byContradiction fun hn => ?_
  have h1 := dhL_nd c [] fun p h1 h2 => (hp p h1 h2).1
  have h2 : ∀ x, x ∈ dhL [] c → x < w ∧ x ≠ h := fun x hx => by
    obtain ⟨⟨p, h1, h2, h3⟩, -⟩ := dhL_mem c [] x (fun p h1 h2 => (hp p h1 h2).1) hx
    have := hp p h1 h2
    exact ⟨by omega, fun e => hn ⟨p, h1, h2, by rw [h3, e]⟩⟩
  have h3 := nodup_lt w (h :: dhL [] c) (List.nodup_cons.mpr ⟨fun e => (h2 h e).2 rfl, h1⟩) (fun x hx => by
    rcases List.mem_cons.mp hx with e | e
    · omega
    · exact (h2 x e).1)
  rw [List.length_cons, dhL_len] at h3
  omega
theorem find_head {h : Nat} (hx : ∃ p, p ∈ c ∧ isN p = false ∧ sH p = h) : ∃ p, c.find? (fun p => !isN p && sH p == (h : Int)) = some p ∧ p ∈ c ∧ isN p = false ∧ sH p = h := by
  obtain ⟨p, h1, h2, h3⟩ := hx
  cases e : c.find? (fun p => !isN p && sH p == (h : Int)) with
  | none =>
    have := List.find?_eq_none.mp e p h1
    rw [h2, h3] at this
    simp at this
  | some p' =>
    have e1 := List.find?_some e
    rw [Bool.and_eq_true] at e1
    exact ⟨p', rfl, List.mem_of_find?_eq_some e, by simpa using e1.1, by simpa using e1.2⟩
/-- the last known one tells how many heads there are -/
theorem whl_ty (hA : ∀ τ a b, Ak τ a → Ak τ b → a = b) : ∀ (c : List Tr) (v : Int), (∀ p, p ∈ c → ∃ n, sTy Ak Sg n τ p) → (whl v c = v ∧ ∀ p, p ∈ c → isN p = true) ∨ (Ak τ (whl v c) ∧ 0 ≤ whl v c ∧ whl v c < 2147483648 ∧ ∀ p, p ∈ c → isN p = false → 0 < whl v c → 0 ≤ sH p ∧ sH p < whl v c) := by
  intro c
  induction c with
  | nil => intro v _; exact Or.inl ⟨rfl, fun p hp => (by cases hp)⟩
  | cons p c ih =>
    intro v hp
    have hw : whl v (p :: c) = whl (if isN p = true then v else sAl p) c := rfl
    rw [hw]
    obtain ⟨m, hm⟩ := hp p (List.mem_cons_self ..)
    have ih' := ih (if isN p = true then v else sAl p) fun y hy => hp y (List.mem_cons_of_mem _ hy)
    by_cases cn : isN p = true
    · rw [if_pos cn] at ih' ⊢
      rcases ih' with ⟨h1, h2⟩ | ⟨h1, h2, h3, h4⟩
      · refine Or.inl ⟨h1, fun y hy => ?_⟩
        rcases List.mem_cons.mp hy with e | e
        · rw [e]; exact cn
        · exact h2 y e
      · refine Or.inr ⟨h1, h2, h3, fun y hy hn => ?_⟩
        rcases List.mem_cons.mp hy with e | e
        · rw [e, cn] at hn; cases hn
        · exact h4 y e hn
    · have cn' : isN p = false := by simpa using cn
      rw [if_neg cn] at ih' ⊢
      obtain ⟨al, l, τ2, e1, -, e3, e4, e5, -⟩ := sTy_N hm cn'
      have ea : sAl p = al := by rw [e1]; rfl
      refine Or.inr ?_
      rcases ih' with ⟨h1, h2⟩ | ⟨h1, h2, h3, h4⟩
      · rw [h1, ea]
        refine ⟨e4, e3.1, e3.2, fun y hy hn hp => ?_⟩
        rcases List.mem_cons.mp hy with e | e
        · rw [e]; exact e5 hp
        · rw [h2 y e] at hn; cases hn
      · have e6 := hA _ _ _ e4 h1
        refine ⟨h1, h2, h3, fun y hy hn hp => ?_⟩
        rcases List.mem_cons.mp hy with e | e
        · rw [e, ← e6]; exact e5 (by omega)
        · exact h4 y e hn hp
end
