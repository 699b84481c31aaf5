/-! THE COMPONENT'S TYPER: pairs -/
section
variable {G : Gh} {M Pn m M1 Pn1 m1 M2 Pn2 m2 b b1 : Nat} {h h1 h2 : AH} {τ τ1 τ2 : Tb} {ts ps : List Nat} {P : List Tr → Prop} {n : Int}
/-- a node of nodes that are there -/
theorem RsV.nd0 (k : RsV G h M Pn τ m h1 M1 Pn1 τ1 m1 ts b (fun _ => P)) (g : TGr G h1 h2 M1 τ1 (M1 + 1) (Pn1 + ps.length) τ2 m1) (hN : uN τ2 M1 = n) (hP : uP τ2 M1 = ps) (hn : 0 ≤ n) (hl : ps.length ≤ 6) (f : List Tr → List Tr) (hf : ∀ ρ : Nat → Tr, ps.map ρ = f (ts.map ρ)) : RsV G h M Pn τ m h2 (M1 + 1) (Pn1 + ps.length) τ2 m1 (M1 :: ts) (b + 1) (fun _ u => ∃ w, P w ∧ u = gt n (f w) :: w) := by
  have r := k.seq (RsV.nd k.2.1 g hN hP hn hl)
  have hc : ∀ x, x ∈ M1 :: ts → cln (M1 + 1) τ2 x := fun x hx => r.2.2.1 x (by
    rcases List.mem_cons.mp hx with e | e
    · rw [e]; exact List.mem_append_right _ (List.mem_cons_self ..)
    · exact List.mem_append_left _ e)
  have r2 := r.prj (ts' := M1 :: ts) (fun u => (u.drop ts.length) ++ u.take ts.length) hc (fun ρ _ => by
    rw [List.map_append, List.drop_append_of_le_length (by rw [List.length_map]; exact Nat.le_refl _), List.drop_of_length_le (by rw [List.length_map]; exact Nat.le_refl _), List.take_append_of_le_length (by rw [List.length_map]; exact Nat.le_refl _), List.take_of_length_le (by rw [List.length_map]; exact Nat.le_refl _)]
    rfl)
  refine r2.imp fun ρ hρ u => ⟨?_, ?_⟩
  · rintro ⟨v, ⟨u2, ρ1, e1, e2, rfl, rfl⟩, rfl⟩
    refine ⟨ts.map ρ1, k.2.2.2.2.1 ρ1 e1, ?_⟩
    rw [hf]
    rw [List.drop_append_of_le_length (by rw [List.length_map]; exact Nat.le_refl _), List.drop_of_length_le (by rw [List.length_map]; exact Nat.le_refl _), List.take_append_of_le_length (by rw [List.length_map]; exact Nat.le_refl _), List.take_of_length_le (by rw [List.length_map]; exact Nat.le_refl _)]
    rfl
  · rintro ⟨w, e1, rfl⟩
    obtain ⟨ρ1, f1, f2, f3⟩ := k.2.2.2.2.2 ρ hρ w e1
    refine ⟨w ++ [gt n (f w)], ⟨[gt n (f w)], ρ1, f1, f2, by rw [f3], by rw [hf, f3]⟩, ?_⟩
    have hl : w.length = ts.length := by rw [← f3, List.length_map]
    rw [← hl, List.drop_append_of_le_length (Nat.le_refl _), List.drop_of_length_le (Nat.le_refl _), List.take_append_of_le_length (Nat.le_refl _), List.take_of_length_le (Nat.le_refl _)]
    rfl
end
section
variable {G : Gh} {W : Nat → Prop} {X : Nat → Nat → Tr → Prop} {ts : List (Nat × Nat × Nat)} {O : List (Nat × Nat) × List (Nat × Nat)} {Z : Zt} {D : Dm} {d n N rc M M' Pn Pn' m m' t cap q lo hi nC bb : Nat} {Ct : Ctb} {Dt : Dtb} {kn : Nat → TS} {h h1 h2 h' : AH} {τ τ' : Tb} {s x y : Tr} {Γ : List (Nat × Tr)} {B : Nat → Prop} {l1 l2 : List Nat}
theorem pNm_len : ∀ n p, (pNm n p).length ≤ nw p := by
  intro n
  induction n with
  | zero => intro p; exact Nat.zero_le _
  | succ n ih =>
    have hls : ∀ l : List Tr, (((l.map (pNm n)).flatten)).length ≤ nw (ls l) := by
      intro l
      induction l with
      | nil => exact Nat.zero_le _
      | cons a l ih2 =>
        rw [List.map_cons, List.flatten_cons, List.length_append]
        show _ ≤ nw a + nw (ls l)
        have := ih a
        omega
    have hun : ∀ y : Tr, nw (ls (unl y)) ≤ nw y := by
      intro y
      induction y with
      | add a b _ ihb =>
        show nw a + nw (ls (unl b)) ≤ nw a + nw b
        omega
      | _ => exact Nat.zero_le _
    intro p
    unfold pNm
    split
    · next k t y =>
      refine Nat.le_trans (m := 0 + nw y + 1) ?_ (by show _ ≤ 0 + nw y + (if k = 1 ∨ k = 2 ∨ k = 33 then 10 else if k = 54 then 8 else if k = 56 then 6 else if k = 8 ∨ k = 37 then 4 else if k = 12 ∨ k = 13 then 3 else 1); (repeat' split) <;> omega)
      split
      · exact Nat.le_add_left 1 _
      split
      · split
        · next sub =>
          split
          · exact Nat.zero_le _
          · have := ih sub
            show _ ≤ 0 + (_ + nw sub) + 1
            omega
        · exact Nat.zero_le _
      split
      · have h1 := hls (unl y)
        have h2 := hun y
        omega
      split
      · split
        · next a b =>
          have h1 := ih a
          have h2 := ih b
          rw [List.length_append]
          show _ ≤ 0 + (nw a + nw b) + 1
          omega
        · exact Nat.zero_le _
      split
      · have := ih y
        omega
      · exact Nat.zero_le _
    · exact Nat.zero_le _
/-- the law's names of a pattern are those that it binds -/
theorem tPa_nm : ∀ n p, sPt N Ct rc n p → ∀ P, tPa N Ct Dt n p = .ok P → ∀ v ν, P v ν → ν.map (·.1) = pNm n p := by
  intro n
  induction n with
  | zero => intro p hs; exact hs.elim
  | succ n ih =>
    intro p hs P hP v ν hv
    rcases hs with ⟨t, rfl⟩ | ⟨t, rfl⟩ | ⟨t, w, rfl⟩ | ⟨t, w, rfl⟩ | ⟨t, w, rfl⟩ | ⟨t, c, y, rfl, -, hy⟩ | ⟨t, l, rfl, -, hl⟩ | ⟨t, l, rfl, hl⟩ | ⟨t, a, b, rfl, ha, hb⟩ | ⟨t, y, rfl, hy⟩
    · cases hP
      change ν = [] at hv
      rw [hv]
      rfl
    · cases hP
      obtain ⟨-, hv⟩ := hv
      rw [hv]
      rfl
    · cases hP
      change ν = _ at hv
      rw [hv]
      rfl
    · cases hP
      obtain ⟨-, hv⟩ := hv
      rw [hv]
      rfl
    · cases hP
      obtain ⟨-, hv⟩ := hv
      rw [hv]
      rfl
    · rcases hy with ⟨rfl, -⟩ | ⟨-, hy⟩
      · cases hP
        obtain ⟨hv, -⟩ := hv
        rw [hv]
        rfl
      · have hN : isN y = false := by
          cases n with
          | zero => exact hy.elim
          | succ n => rcases hy with ⟨t, rfl⟩ | ⟨t, rfl⟩ | ⟨t, w, rfl⟩ | ⟨t, w, rfl⟩ | ⟨t, w, rfl⟩ | ⟨t, c, y, rfl, -⟩ | ⟨t, l, rfl, -⟩ | ⟨t, l, rfl, -⟩ | ⟨t, a, b, rfl, -⟩ | ⟨t, y, rfl, -⟩ <;> rfl
        have e1 : tPa N Ct Dt (n + 1) (n2 33 t (.num c) y) = (if isN y = true then .ok fun τ ν => ν = [] ∧ ∃ θ, τ = gi θ (cG Ct Dt (c : Int).toNat) else bE (tPa N Ct Dt n y) fun P => eqE (tkN y) (∃ θ ν, P (gi θ ((cH N Ct (c : Int).toNat).getD (.num 0))) ν) fun τ ν => ∃ θ, τ = gi θ (cG Ct Dt (c : Int).toNat) ∧ P (gi θ ((cH N Ct (c : Int).toNat).getD (.num 0))) ν) := rfl
        have e2 : pNm (n + 1) (n2 33 t (.num c) y) = if isN y = true then [] else pNm n y := rfl
        rw [e1, hN, if_neg (by decide)] at hP
        rw [e2, hN, if_neg (by decide)]
        cases hr : tPa N Ct Dt n y with
        | error f => rw [hr] at hP; cases hP
        | ok Q =>
          rw [hr] at hP
          change eqE _ _ _ = _ at hP
          unfold eqE at hP
          by_cases c : ∃ θ ν, Q (gi θ ((cH N Ct (c : Int).toNat).getD (.num 0))) ν
          · rw [tIf_pos c] at hP
            cases hP
            obtain ⟨θ, -, h2⟩ := hv
            exact ih y hy Q hr _ _ h2
          · rw [tIf_neg c] at hP
            cases hP
    · have key : ∀ l : List Tr, (∀ y, y ∈ l → sPt N Ct rc n y) → ∀ Q, l.foldr (fun p r => bE (tPa N Ct Dt n p) fun P => bE r fun (Q : List Tr → Nu → Prop) => .ok fun τs ν => ∃ τ τs' ν1 ν2, τs = τ :: τs' ∧ ν = ν1 ++ ν2 ∧ P τ ν1 ∧ Q τs' ν2) (.ok fun τs ν => τs = [] ∧ ν = []) = .ok Q → ∀ vs ν, Q vs ν → ν.map (·.1) = ((l.map (pNm n)).flatten) := by
        intro l
        induction l with
        | nil =>
          intro _ Q hQ vs ν hv
          cases hQ
          rw [hv.2]
          rfl
        | cons a l ih2 =>
          intro hl Q hQ vs ν hv
          rw [List.foldr_cons] at hQ
          cases hr : tPa N Ct Dt n a with
          | error f => rw [hr] at hQ; cases hQ
          | ok P1 =>
            rw [hr] at hQ
            generalize hg : l.foldr (fun p r => bE (tPa N Ct Dt n p) fun P => bE r fun (Q : List Tr → Nu → Prop) => .ok fun τs ν => ∃ τ τs' ν1 ν2, τs = τ :: τs' ∧ ν = ν1 ++ ν2 ∧ P τ ν1 ∧ Q τs' ν2) (.ok fun τs ν => τs = [] ∧ ν = []) = R at hQ
            cases R with
            | error f => cases hQ
            | ok Q2 =>
              cases hQ
              obtain ⟨τ, τs', ν1, ν2, -, rfl, h3, h4⟩ := hv
              rw [List.map_append, ih a (hl a (List.mem_cons_self ..)) P1 hr _ _ h3, ih2 (fun y hy => hl y (List.mem_cons_of_mem _ hy)) Q2 hg _ _ h4]
              rfl
      have eu : unl (ls l) = l := by
        clear hl hP
        induction l with
        | nil => rfl
        | cons a l ih2 => show a :: unl (ls l) = _; rw [ih2]
      have e1 : tPa N Ct Dt (n + 1) (n1 37 t (ls l)) = bE ((unl (ls l)).foldr (fun p r => bE (tPa N Ct Dt n p) fun P => bE r fun (Q : List Tr → Nu → Prop) => .ok fun τs ν => ∃ τ τs' ν1 ν2, τs = τ :: τs' ∧ ν = ν1 ++ ν2 ∧ P τ ν1 ∧ Q τs' ν2) (.ok fun τs ν => τs = [] ∧ ν = [])) fun Q => .ok fun τ ν => ∃ τs, τ = gt (unl (ls l)).length τs ∧ Q τs ν := rfl
      have e2 : pNm (n + 1) (n1 37 t (ls l)) = ((unl (ls l)).map (pNm n)).flatten := rfl
      rw [e1, eu] at hP
      rw [e2, eu]
      generalize hg : l.foldr (fun p r => bE (tPa N Ct Dt n p) fun P => bE r fun (Q : List Tr → Nu → Prop) => .ok fun τs ν => ∃ τ τs' ν1 ν2, τs = τ :: τs' ∧ ν = ν1 ++ ν2 ∧ P τ ν1 ∧ Q τs' ν2) (.ok fun τs ν => τs = [] ∧ ν = []) = R at hP
      cases R with
      | error f => cases hP
      | ok Q =>
        cases hP
        obtain ⟨τs, -, h2⟩ := hv
        exact key l hl Q hg _ _ h2
    · have key : ∀ (l : List Tr) (R0 : Tr → Nu → Prop) (pre : List Nat), (∀ y, y ∈ l → sPt N Ct rc n y) → (∀ v ν, R0 v ν → ν.map (·.1) = pre) → ∀ Q, l.foldl (fun r p => bE r fun (R : Tr → Nu → Prop) => bE (tPa N Ct Dt n p) fun Q => eqE (tkN p) (∃ τ ν1 ν2, R τ ν1 ∧ Q τ ν2) fun τ ν => ∃ ν1 ν2, ν = ν1 ++ ν2 ∧ R τ ν1 ∧ Q τ ν2) (.ok R0) = .ok Q → ∀ v ν, Q v ν → ν.map (·.1) = pre ++ ((l.map (pNm n)).flatten) := by
        intro l
        induction l with
        | nil =>
          intro R0 pre _ h0 Q hQ v ν hv
          cases hQ
          show _ = pre ++ []
          rw [List.append_nil]
          exact h0 v ν hv
        | cons a l ih2 =>
          intro R0 pre hl h0 Q hQ v ν hv
          rw [List.foldl_cons] at hQ
          have er : ∀ f : Fa, l.foldl (fun r p => bE r fun (R : Tr → Nu → Prop) => bE (tPa N Ct Dt n p) fun Q => eqE (tkN p) (∃ τ ν1 ν2, R τ ν1 ∧ Q τ ν2) fun τ ν => ∃ ν1 ν2, ν = ν1 ++ ν2 ∧ R τ ν1 ∧ Q τ ν2) (.error f) = .error f := by
            intro f
            clear ih2 hQ hl
            induction l with
            | nil => rfl
            | cons b l ih3 => rw [List.foldl_cons]; exact ih3
          cases hr : tPa N Ct Dt n a with
          | error f =>
            rw [hr] at hQ
            exact absurd ((er f).symm.trans hQ) (fun w => (by cases w))
          | ok P1 =>
            rw [hr] at hQ
            change l.foldl _ (eqE (tkN a) (∃ τ ν1 ν2, R0 τ ν1 ∧ P1 τ ν2) fun τ ν => ∃ ν1 ν2, ν = ν1 ++ ν2 ∧ R0 τ ν1 ∧ P1 τ ν2) = _ at hQ
            unfold eqE at hQ
            by_cases c : ∃ τ ν1 ν2, R0 τ ν1 ∧ P1 τ ν2
            · rw [tIf_pos c] at hQ
              have := ih2 _ (pre ++ pNm n a) (fun y hy => hl y (List.mem_cons_of_mem _ hy)) (fun v ν hv => by
                obtain ⟨ν1, ν2, rfl, h3, h4⟩ := hv
                rw [List.map_append, h0 _ _ h3, ih a (hl a (List.mem_cons_self ..)) P1 hr _ _ h4]) Q hQ v ν hv
              rw [this, List.append_assoc]
              rfl
            · rw [tIf_neg c] at hQ
              exact absurd ((er _).symm.trans hQ) (fun w => (by cases w))
      have eu : unl (ls l) = l := by
        clear hl hP
        induction l with
        | nil => rfl
        | cons a l ih2 => show a :: unl (ls l) = _; rw [ih2]
      have e2 : pNm (n + 1) (n1 38 t (ls l)) = ((unl (ls l)).map (pNm n)).flatten := rfl
      have e1 : tPa N Ct Dt (n + 1) (n1 38 t (ls l)) = (match unl (ls l) with
        | [] => .ok fun τ ν => ν = [] ∧ ∃ α, τ = tList α
        | p :: ps => bE (tPa N Ct Dt n p) fun P => bE (ps.foldl (fun r p => bE r fun (R : Tr → Nu → Prop) => bE (tPa N Ct Dt n p) fun Q => eqE (tkN p) (∃ τ ν1 ν2, R τ ν1 ∧ Q τ ν2) fun τ ν => ∃ ν1 ν2, ν = ν1 ++ ν2 ∧ R τ ν1 ∧ Q τ ν2) (.ok P)) fun R => .ok fun τ ν => ∃ α, τ = tList α ∧ R α ν) := rfl
      rw [e1, eu] at hP
      rw [e2, eu]
      cases l with
      | nil =>
        cases hP
        rw [hv.1]
        rfl
      | cons a l =>
        change bE (tPa N Ct Dt n a) _ = _ at hP
        cases hr : tPa N Ct Dt n a with
        | error f => rw [hr] at hP; cases hP
        | ok P1 =>
          rw [hr] at hP
          change bE (l.foldl _ (.ok P1)) _ = _ at hP
          generalize hg : l.foldl (fun r p => bE r fun (R : Tr → Nu → Prop) => bE (tPa N Ct Dt n p) fun Q => eqE (tkN p) (∃ τ ν1 ν2, R τ ν1 ∧ Q τ ν2) fun τ ν => ∃ ν1 ν2, ν = ν1 ++ ν2 ∧ R τ ν1 ∧ Q τ ν2) (.ok P1) = R at hP
          cases R with
          | error f => cases hP
          | ok Q =>
            cases hP
            obtain ⟨α, -, h2⟩ := hv
            exact key l P1 (pNm n a) (fun y hy => hl y (List.mem_cons_of_mem _ hy)) (fun v ν hv => ih a (hl a (List.mem_cons_self ..)) P1 hr v ν hv) Q hg _ _ h2
    · have e1 : tPa N Ct Dt (n + 1) (n2 39 t a b) = bE (tPa N Ct Dt n a) fun P => bE (tPa N Ct Dt n b) fun Q => eqE (tkN b) (∃ α ν1 ν2, P α ν1 ∧ Q (tList α) ν2) fun τ ν => ∃ α ν1 ν2, τ = tList α ∧ ν = ν1 ++ ν2 ∧ P α ν1 ∧ Q τ ν2 := rfl
      rw [e1] at hP
      show _ = pNm n a ++ pNm n b
      cases hr1 : tPa N Ct Dt n a with
      | error f => rw [hr1] at hP; cases hP
      | ok P1 =>
        rw [hr1] at hP
        change bE (tPa N Ct Dt n b) _ = _ at hP
        cases hr2 : tPa N Ct Dt n b with
        | error f => rw [hr2] at hP; cases hP
        | ok P2 =>
          rw [hr2] at hP
          change eqE _ _ _ = _ at hP
          unfold eqE at hP
          by_cases c : ∃ α ν1 ν2, P1 α ν1 ∧ P2 (tList α) ν2
          · rw [tIf_pos c] at hP
            cases hP
            obtain ⟨α, ν1, ν2, -, rfl, h3, h4⟩ := hv
            rw [List.map_append, ih a ha P1 hr1 _ _ h3, ih b hb P2 hr2 _ _ h4]
          · rw [tIf_neg c] at hP
            cases hP
    · exact ih y hy P hP v ν hv
/-- the token of a pattern -/
theorem pt_tok {b : Nat} (hs : sPt N Ct rc n x) (o : OTG (XA ts W O Z D h) W h x 0 0 b) : HF h b 302 0 ∧ fI h b 302 = nI (tkN x) := by
  have hk := shP_kg n x b hs o
  obtain ⟨kk, z, rfl⟩ := OTG_0 o
  unfold OTG at o
  obtain ⟨b', e, hN, h0, hkc, ⟨ex, -⟩, -⟩ := o
  have e' : some b = some b' := e
  cases e'
  refine ⟨?_, ?_⟩
  · have : hK h b = 19 ∨ hK h b = 20 ∨ hK h b = 21 ∨ hK h b = 22 ∨ hK h b = 23 ∨ hK h b = 24 ∨ hK h b = 25 ∨ hK h b = 26 ∨ hK h b = 27 := by omega
    rcases this with w | w | w | w | w | w | w | w | w
    · exact ⟨18, by decide, w, by decide⟩
    · exact ⟨19, by decide, w, by decide⟩
    · exact ⟨20, by decide, w, by decide⟩
    · exact ⟨21, by decide, w, by decide⟩
    · exact ⟨22, by decide, w, by decide⟩
    · exact ⟨23, by decide, w, by decide⟩
    · exact ⟨24, by decide, w, by decide⟩
    · exact ⟨25, by decide, w, by decide⟩
    · exact ⟨26, by decide, w, by decide⟩
  · have htf : tf (hK h b) = 302 := by unfold tf; rw [if_pos hk]
    obtain ⟨x1, x2, x3, -⟩ := ex
    rw [htf] at x3
    rw [i_eq, x3, nI_toInt (by show (tkn z).toNat < _; omega)]
    show tkn z = ((tkn z).toNat : Int)
    omega
/-- what stands behind a part of a pattern -/
theorem Bud.nx {b1 : Nat} {S : (Nat → Tr) → List Tr → Prop} {M1 Pn1 m1 cap1 n1 : Nat} {τ1 : Tb} {us : List Nat} (hb : Bud M Pn m h cap Γ.length (b1 + bb)) (r : RsV G h M Pn τ m h1 M1 Pn1 τ1 m1 us b1 S) (hp : pot h1 cap1 ≤ pot h cap + 4 * b1) (hn : n1 ≤ Γ.length + b1) : Bud M1 Pn1 m1 h1 cap1 n1 bb := by
  obtain ⟨u1, u2, u3, u4, u5⟩ := hb
  obtain ⟨-, -, -, ⟨r1, r2, r3⟩, -⟩ := r
  exact ⟨by omega, by omega, by omega, by omega, by omega⟩
theorem TR.tk (hT : TR lo hi x) (hx : ∃ k z, x = .mulL k z) : tkN x < hi := by
  obtain ⟨k, z, rfl⟩ := hx
  obtain ⟨h1, h2, -⟩ := hT
  show (tkn z).toNat < hi
  omega
theorem pt_pair {a b : Tr} (hP : PtI G W ts O Z D N Ct Dt kn rc n (d + 7)) (ha : sPt N Ct rc n a) (hbb : sPt N Ct rc n b) (hT : TR lo hi (n2 39 t a b)) (hhi : hi ≤ ts.length) (ot : OTG (XA ts W O Z D h) W h (n2 39 t a b) 0 0 q) (k : ISt G W ts O Z D N Ct Dt kn rc h M Pn τ m Γ cap) (hb : Bud M Pn m h cap Γ.length (2 * nw (n2 39 t a b))) (hf : Frs h Z D Γ (pNm (n + 1) (n2 39 t a b))) : C G mX28_infer (d + 8) [.ref q, .ref (gW G 6)] h (PtQ G W ts O Z D N Ct Dt kn rc h M Pn τ m Γ cap (fun x => x ∈ pNm (n + 1) (n2 39 t a b)) (2 * nw (n2 39 t a b) - 1) (pNm (n + 1) (n2 39 t a b)) (tPa N Ct Dt (n + 1) (n2 39 t a b))) ∧ hK h q = 27 := by
  obtain ⟨hWq, hkq, -, oy⟩ := (OTG_nd (k := 39) (by decide)).mp ot
  have hk : hK h q = 27 := by simpa [kc] using hkq
  rw [OTG_c2 (by decide) (by decide)] at oy
  obtain ⟨b1, e1, o1⟩ := OTG_f.mp oy.1
  obtain ⟨b2, e2, o2⟩ := OTG_f.mp ((OTG_ef (m' := 1) (i' := 312) (by decide) (by decide)).mp oy.2)
  refine ⟨?_, hk⟩
  have sA := k.1.1.1
  have hD := k.1.1.2
  have ew : nw (n2 39 t a b) = nw a + nw b + 1 := by show 0 + (nw a + nw b) + 1 = _; omega
  have ep : pNm (n + 1) (n2 39 t a b) = pNm n a ++ pNm n b := rfl
  have el : tPa N Ct Dt (n + 1) (n2 39 t a b) = bE (tPa N Ct Dt n a) fun P => bE (tPa N Ct Dt n b) fun Q => eqE (tkN b) (∃ α ν1 ν2, P α ν1 ∧ Q (tList α) ν2) fun τ ν => ∃ α ν1 ν2, τ = tList α ∧ ν = ν1 ++ ν2 ∧ P α ν1 ∧ Q τ ν2 := rfl
  rw [ep, el, ew]
  rw [ep] at hf
  rw [ew] at hb
  have hTa : TR lo hi a := hT.2.2.2.1
  have hTb : TR lo hi b := hT.2.2.2.2
  have pl1 := pNm_len n a
  have pl2 := pNm_len n b
  have na := sPt_nw n a ha
  have nb := sPt_nw n b hbb
  obtain ⟨k1, ν1, v1, v2, v3⟩ := hP a b1 lo hi h M Pn τ m Γ cap ha hTa hhi o1 k (by obtain ⟨u1, u2, u3, u4, u5⟩ := hb; exact ⟨by omega, by omega, by omega, by omega, by omega⟩) ⟨(List.nodup_append.mp hf.1).1, fun t ht => hf.2 t (List.mem_append_left _ ht)⟩
  refine bX28_infer G (d + 7) h _ _ (sA.at (by decide)) (sA.at (by decide)) ⟨hk, b1, e1, k1, ν1, v1, v2, C.mono v3 ?_⟩
  rintro o h4 ⟨F4, q4⟩
  have sub1 : ∀ t, t ∈ pNm n a → t ∈ pNm n a ++ pNm n b := fun t ht => List.mem_append_left _ ht
  cases hr1 : tPa N Ct Dt n a with
  | error f =>
    rw [hr1] at q4
    obtain ⟨e, rfl, q2, q3⟩ := q4
    exact KI.t ⟨F4.wk sub1, e, rfl, q2, by omega⟩
  | ok P1 =>
    rw [hr1] at q4
    obtain ⟨t1, us1, M1, Pn1, τ1, m1, cap1, rfl, hl1, r1, s1, p1⟩ := q4
    have uq4 := F4.2.1 q (k.2.2.2.1 q hWq)
    have hb2 : Bud M Pn m h cap Γ.length (2 * nw a - 1 + 2 * nw b) := by
      obtain ⟨u1, u2, u3, u4, u5⟩ := hb
      exact ⟨by omega, by omega, by omega, by omega, by omega⟩
    have hzl1 : ((pNm n a).zip (us1.map fun x => Int.Internal.Linear.Expr.var x)).length = (pNm n a).length := by rw [List.length_zip, List.length_map]; omega
    obtain ⟨k2, ν2, w1, w2, w3⟩ := hP b b2 lo hi h4 M1 Pn1 τ1 m1 _ cap1 hbb hTb hhi (k.ot F4 hTb o2) s1 (Bud.nx hb2 r1 p1 (by rw [List.length_append, hzl1]; omega)) (hf.nx F4 k.2.2.2.2.1)
    refine KI.i ⟨b2, ((uq4.2.2.2.2.2 312).2.2).trans e2, k2, ν2, w1, w2, C.mono w3 ?_⟩
    rintro o h9 ⟨F9, q9⟩
    have F09 : FIn G Z (fun x => x ∈ pNm n a ++ pNm n b) rc Ct.length h h9 := (F4.wk sub1).tr sA (F9.wk fun t ht => List.mem_append_right _ ht)
    show KI (PtQ G W ts O Z D N Ct Dt kn rc h M Pn τ m Γ cap _ _ _ (bE (tPa N Ct Dt n b) _)) _ _ _
    cases hr2 : tPa N Ct Dt n b with
    | error f =>
      rw [hr2] at q9
      obtain ⟨e, rfl, q2, q3⟩ := q9
      exact KI.t ⟨F09, e, rfl, q2, by omega⟩
    | ok P2 =>
      rw [hr2] at q9
      obtain ⟨t2, us2, M2, Pn2, τ2, m2, cap2, rfl, hl2, r2, s2, p2⟩ := q9
      have r12 := r1.seq0 r2
      obtain ⟨u1, u2, u3, u4, u5⟩ := id hb
      obtain ⟨-, -, -, ⟨bd1, bd2, bd3⟩, -⟩ := id r12
      have w9 := s2.1
      have c1 : cln M2 τ2 t1 := r12.2.2.1 t1 (List.mem_append_left _ (List.mem_cons_self ..))
      have c2 : cln M2 τ2 t2 := r12.2.2.1 t2 (List.mem_append_right _ (List.mem_cons_self ..))
      refine KI.i (C.use (o_b1 (d := d + 6) (v := 10) hD s2.2.1 (by omega) (by omega) c1 w9.2.1.2.2.1) (by decide) ?_)
      rintro _ h12 ⟨rfl, τ3, g, hN, hPp⟩ l -
      have lm : Lm (gW G) MI h9 h12 none := l.weak (by decide +kernel)
      have s3 := s2.mt g.1 lm g.2.1 (TGr.ev s2.2.1 g)
      have F12 : FIn G Z (fun x => x ∈ pNm n a ++ pNm n b) rc Ct.length h h12 := F09.tr sA (g.1.fin w9.1.1 lm)
      have r3 := r12.nd0 g hN hPp (by decide) (by show 1 ≤ 6; omega) (fun w => [w.headD tUnit]) (fun ρ => rfl)
      have uq12 := F12.2.1 q (k.2.2.2.1 q hWq)
      obtain ⟨hF, hT302⟩ := pt_tok hbb (k.ot F12 hTb o2)
      have htk := TR.tk hTb (OTG_0 o2)
      have un12 : un h12 = un h9 := g.1.2.1
      have hpot : un h9 ≤ pot h9 cap2 := by unfold pot; omega
      refine KI.i ⟨b2, ((uq12.2.2.2.2.2 312).2.2).trans e2, hF, ?_⟩
      rw [hT302]
      refine C.mono (c_ysm (d := d + 1) (nC := Ct.length) s3.1 s3.2.1 (by show Pn2 + 1 < 149000; omega) (by omega) (g.2.2.1.cl c2) (g.2.2.1.new (Nat.le_refl _) (by omega)) (by omega) (by rw [un12]; omega)) ?_
      have hE : ∀ ρ : Nat → Tr, Sl (M2 + 1) τ3 ρ → (ρ t2 = ρ M2 ↔ (fun u : List Tr => u[us1.length + 2]? = u[0]?) ((M2 :: (t1 :: us1 ++ t2 :: us2)).map ρ)) := fun ρ _ => by
        have i1 : (M2 :: (t1 :: us1 ++ t2 :: us2))[us1.length + 2]? = some t2 := by
          rw [show us1.length + 2 = (us1.length + 1) + 1 by omega, List.getElem?_cons_succ, List.getElem?_append_right (by rw [List.length_cons]; omega), List.length_cons, Nat.sub_self]
          rfl
        show _ ↔ ((M2 :: (t1 :: us1 ++ t2 :: us2)).map ρ)[us1.length + 2]? = ((M2 :: (t1 :: us1 ++ t2 :: us2)).map ρ)[0]?
        rw [List.getElem?_map, i1]
        show _ ↔ some (ρ t2) = some (ρ M2)
        exact ⟨fun e => by rw [e], fun e => Option.some.inj e⟩
      have can := r3.can (a := t2) (c := M2) (E := fun u => u[us1.length + 2]? = u[0]?) hE
      -- what the law says of it
      have law : (∃ ρ, Sl (M2 + 1) τ3 ρ ∧ ρ t2 = ρ M2) ↔ ∃ α ν1 ν2, P1 α ν1 ∧ P2 (tList α) ν2 := by
        rw [can]
        have ix : ∀ (x v1 v2 : Tr) (l1 l2 : List Tr), l1.length = us1.length → (x :: (v1 :: l1 ++ v2 :: l2))[us1.length + 2]? = some v2 := fun x v1 v2 l1 l2 hl => by
          rw [show us1.length + 2 = (us1.length + 1) + 1 by omega, List.getElem?_cons_succ, List.getElem?_append_right (by rw [List.length_cons]; omega), List.length_cons, hl, Nat.sub_self]
          rfl
        have ln : ∀ (ν : Nu), ν.map (·.1) = pNm n a → (ν.map (·.2)).length = us1.length := fun ν hν => by
          rw [List.length_map, hl1, ← hν, List.length_map]
        constructor
        · rintro ⟨ρ, u, -, ⟨w, ⟨w1, w2, rfl, ⟨v1, ν1, rfl, g1, g2⟩, ⟨v2, ν2, rfl, g3, g4⟩⟩, rfl⟩, he⟩
          have he' : (gt 10 [v1] :: (v1 :: ν1.map (·.2) ++ v2 :: ν2.map (·.2)))[us1.length + 2]? = some (gt 10 [v1]) := he
          rw [ix _ _ _ _ _ (ln ν1 g1)] at he'
          have e3 : v2 = gt 10 [v1] := Option.some.inj he'
          rw [e3] at g4
          exact ⟨v1, ν1, ν2, g2, g4⟩
        · rintro ⟨α, ν1, ν2, g2, g4⟩
          obtain ⟨ρ, hρ⟩ := k.2.1.sol
          have g1 := tPa_nm n a ha P1 hr1 _ _ g2
          have g3 := tPa_nm n b hbb P2 hr2 _ _ g4
          refine ⟨ρ, _, hρ, ⟨_, ⟨_, _, rfl, ⟨α, ν1, rfl, g1, g2⟩, ⟨tList α, ν2, rfl, g3, g4⟩⟩, rfl⟩, ?_⟩
          show (gt 10 [α] :: (α :: ν1.map (·.2) ++ tList α :: ν2.map (·.2)))[us1.length + 2]? = some (gt 10 [α])
          rw [ix _ _ _ _ _ (ln ν1 g1)]
          rfl
      rintro o h18 ⟨F18, q18⟩
      have F018 : FIn G Z (fun x => x ∈ pNm n a ++ pNm n b) rc Ct.length h h18 := F12.tr sA (F18.wk fun _ w => w.elim)
      show KV (PtQ G W ts O Z D N Ct Dt kn rc h M Pn τ m Γ cap _ _ _ (eqE (tkN b) _ _)) _ _ _
      rcases q18 with ⟨ex, rfl, T18, τ4, k4, ev4, hs4⟩ | ⟨no, e, rfl, ft, hu⟩
      · have hlaw := law.mp ex
        have r4 := r3.eqn k4 ev4 hs4 (E := fun u => u[us1.length + 2]? = u[0]?) hE
        have s4 := s3.mt T18 F18.1 k4 ev4
        have prE : ∀ (x v1 v2 : Tr) (l1 l2 : List Tr), l1.length = us1.length → (fun u : List Tr => u.take 1 ++ ((u.drop 2).take us1.length ++ u.drop (us1.length + 3))) (x :: (v1 :: l1 ++ v2 :: l2)) = x :: (l1 ++ l2) := fun x v1 v2 l1 l2 hl => by
          show [x] ++ ((l1 ++ v2 :: l2).take us1.length ++ (l1 ++ v2 :: l2).drop (us1.length + 1)) = _
          rw [← hl, List.take_append_of_le_length (Nat.le_refl _), List.take_of_length_le (Nat.le_refl _), List.drop_append, List.drop_of_length_le (Nat.le_succ _), show l1.length + 1 - l1.length = 1 by omega]
          rfl
        have r5 := r4.prj (ts' := M2 :: (us1 ++ us2)) (fun u => u.take 1 ++ ((u.drop 2).take us1.length ++ u.drop (us1.length + 3))) (fun x hx => r4.2.2.1 x (by
          simp only [List.mem_cons, List.mem_append, List.cons_append] at hx ⊢
          rcases hx with e | e | e
          · exact Or.inl e
          · exact Or.inr (Or.inr (Or.inl e))
          · exact Or.inr (Or.inr (Or.inr (Or.inr e))))) (fun ρ _ => by
          rw [List.map_cons, List.map_append, List.map_cons, List.map_append, List.map_cons, List.map_cons]
          exact (prE _ _ _ _ _ (by rw [List.length_map])).symm)
        refine KV.i ?_
        show PtQ G W ts O Z D N Ct Dt kn rc h M Pn τ m Γ cap _ _ _ (eqE (tkN b) (∃ α ν1 ν2, P1 α ν1 ∧ P2 (tList α) ν2) fun τ ν => ∃ α ν1 ν2, τ = tList α ∧ ν = ν1 ++ ν2 ∧ P1 α ν1 ∧ P2 τ ν2) _ _
        unfold eqE
        rw [tIf_pos hlaw]
        refine ⟨F018, M2, us1 ++ us2, M2 + 1, Pn2 + [t1].length, τ4, m2 + 2, cap2, rfl, by rw [List.length_append, List.length_append, hl1, hl2], ?_, ?_, ?_⟩
        · refine (r5.wk (by omega)).imp fun ρ hρ u => ⟨?_, ?_⟩
          · rintro ⟨v, ⟨⟨w, ⟨w1, w2, rfl, ⟨v1, ν1, rfl, g1, g2⟩, ⟨v2, ν2, rfl, g3, g4⟩⟩, rfl⟩, he⟩, rfl⟩
            have ln1 : (ν1.map (·.2)).length = us1.length := by rw [List.length_map, hl1, ← g1, List.length_map]
            have he' : (gt 10 [v1] :: (v1 :: ν1.map (·.2) ++ v2 :: ν2.map (·.2)))[us1.length + 2]? = some (gt 10 [v1]) := he
            rw [show us1.length + 2 = (us1.length + 1) + 1 by omega, List.getElem?_cons_succ, List.getElem?_append_right (by rw [List.length_cons]; omega), List.length_cons, ln1, Nat.sub_self] at he'
            have e3 : v2 = gt 10 [v1] := Option.some.inj he'
            rw [e3] at g4
            refine ⟨gt 10 [v1], ν1 ++ ν2, ?_, by rw [List.map_append, g1, g3], v1, ν1, ν2, rfl, rfl, g2, g4⟩
            rw [List.map_append]
            exact prE _ _ _ _ _ ln1
          · rintro ⟨v, ν, rfl, -, α, ν1, ν2, rfl, rfl, g2, g4⟩
            have g1 := tPa_nm n a ha P1 hr1 _ _ g2
            have g3 := tPa_nm n b hbb P2 hr2 _ _ g4
            have ln1 : (ν1.map (·.2)).length = us1.length := by rw [List.length_map, hl1, ← g1, List.length_map]
            refine ⟨_, ⟨⟨_, ⟨_, _, rfl, ⟨α, ν1, rfl, g1, g2⟩, ⟨tList α, ν2, rfl, g3, g4⟩⟩, rfl⟩, ?_⟩, ?_⟩
            · show (gt 10 [α] :: (α :: ν1.map (·.2) ++ tList α :: ν2.map (·.2)))[us1.length + 2]? = some (gt 10 [α])
              rw [show us1.length + 2 = (us1.length + 1) + 1 by omega, List.getElem?_cons_succ, List.getElem?_append_right (by rw [List.length_cons]; omega), List.length_cons, ln1, Nat.sub_self]
              rfl
            · rw [List.map_append]
              exact prE _ _ _ _ _ ln1
        · have e : Γ ++ (pNm n a ++ pNm n b).zip ((us1 ++ us2).map fun x => Int.Internal.Linear.Expr.var x) = Γ ++ (pNm n a).zip (us1.map fun x => Int.Internal.Linear.Expr.var x) ++ (pNm n b).zip (us2.map fun x => Int.Internal.Linear.Expr.var x) := by
            rw [List.map_append, List.zip_append (by rw [List.length_map, hl1]), List.append_assoc]
          rw [e]
          exact s4
        · have : pot h18 cap2 = pot h9 cap2 := by unfold pot; rw [T18.2.1, un12]
          omega
      · unfold eqE
        rw [tIf_neg fun w => (law.mpr w).elim fun ρ hρ => no ρ hρ.1 hρ.2]
        exact KV.t ⟨F018, e, rfl, ft, by rw [hu, un12]; omega⟩
end
