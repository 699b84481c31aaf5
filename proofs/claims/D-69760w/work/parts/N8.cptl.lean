/-! THE COMPONENT'S TYPER: patterns of lists -/
section
variable (N : Nat) (Ct : Ctb) (Dt : Dtb)
/-- the parts of a list behind the first -/
noncomputable def tLs (n : Nat) : List Tr → (Tr → Nu → Prop) → Except Fa (Tr → Nu → Prop)
  | [], R => .ok R
  | p :: ps, R => bE (tPa N Ct Dt n p) fun Q => bE (eqE (tkN p) (∃ τ ν1 ν2, R τ ν1 ∧ Q τ ν2) fun τ ν => ∃ ν1 ν2, ν = ν1 ++ ν2 ∧ R τ ν1 ∧ Q τ ν2) fun R' => tLs n ps R'
theorem fold_er {α β : Type} (f : α → β → Except Fa α) (e : Fa) : ∀ l : List β, l.foldl (fun r p => bE r fun R => f R p) (.error e) = .error e := by
  intro l
  induction l with
  | nil => rfl
  | cons a l ih => exact ih
theorem tLs_eq (n : Nat) : ∀ (l : List Tr) (R : Tr → Nu → Prop), l.foldl (fun r p => bE r fun (R : Tr → Nu → Prop) => bE (tPa N Ct Dt n p) fun Q => eqE (tkN p) (∃ τ ν1 ν2, R τ ν1 ∧ Q τ ν2) fun τ ν => ∃ ν1 ν2, ν = ν1 ++ ν2 ∧ R τ ν1 ∧ Q τ ν2) (.ok R) = tLs N Ct Dt n l R := by
  intro l
  induction l with
  | nil => intro R; rfl
  | cons p l ih =>
    intro R
    rw [List.foldl_cons]
    unfold tLs
    show List.foldl _ (bE (tPa N Ct Dt n p) _) l = _
    cases tPa N Ct Dt n p with
    | error e => exact fold_er _ e l
    | ok Q =>
      show List.foldl _ (eqE (tkN p) _ _) l = bE (eqE (tkN p) _ _) _
      unfold eqE
      by_cases c : ∃ τ ν1 ν2, R τ ν1 ∧ Q τ ν2
      · rw [tIf_pos c]
        exact ih _
      · rw [tIf_neg c]
        exact fold_er _ _ l
end
section
variable {G : Gh} {W : Nat → Prop} {ts : List (Nat × Nat × Nat)} {O : List (Nat × Nat) × List (Nat × Nat)} {Z : Zt} {D : Dm} {d n N rc M Pn m t cap q lo hi arr : Nat} {Ct : Ctb} {Dt : Dtb} {kn : Nat → TS} {h : AH} {τ : Tb} {Γ : List (Nat × Tr)} {l : List Tr}
theorem pt_lst_38 (hP : PtI G W ts O Z D N Ct Dt kn rc n (d + 7)) (k : ISt G W ts O Z D N Ct Dt kn rc h M Pn τ m Γ cap) (hhi : hi ≤ ts.length) (hWq : W q) (hk : hK h q = 23) (eA : ArF W h q 308 arr) : ∀ (l2 : List Tr) (i c M1 Pn1 m1 cap1 b1 : Nat) (h1 : AH) (τ1 : Tb) (R : Tr → Nu → Prop) (pd us : List Nat),
    (∀ (j : Nat) (x : Tr), l2[j]? = some x → sPt N Ct rc n x ∧ TR lo hi x ∧ ∃ b, aR h arr (i + j) = some b ∧ OTG (XA ts W O Z D h) W h x 0 0 b) → hL h arr = i + l2.length → i + l2.length ≤ 20000 →
    FIn G Z (fun x => x ∈ pd) rc Ct.length h h1 → RsV G h M Pn τ m h1 M1 Pn1 τ1 m1 (c :: us) b1 (fun _ u => ∃ v ν, u = v :: ν.map (·.2) ∧ ν.map (·.1) = pd ∧ R v ν) → (∀ v ν, R v ν → ν.map (·.1) = pd) → us.length = pd.length → ISt G W ts O Z D N Ct Dt kn rc h1 M1 Pn1 τ1 m1 (Γ ++ pd.zip (us.map fun x => Int.Internal.Linear.Expr.var x)) cap1 → pot h1 cap1 ≤ pot h cap + 4 * b1 → Bud M Pn m h cap Γ.length (b1 + 2 * nw (ls l2) + 1) → pd.length ≤ b1 → Frs h1 Z D (Γ ++ pd.zip (us.map fun x => Int.Internal.Linear.Expr.var x)) (l2.map (pNm n)).flatten →
    X G mX24_infer (d + 8) none [] 38 [(0, .ref q), (1, .ref (gW G 6)), (2, .int (nI c)), (3, .int (nI i))] [] h1 (PtQ G W ts O Z D N Ct Dt kn rc h M Pn τ m Γ cap (fun x => x ∈ pd ++ (l2.map (pNm n)).flatten) (b1 + 2 * nw (ls l2) + 1) (pd ++ (l2.map (pNm n)).flatten) (bE (tLs N Ct Dt n l2 R) fun R => .ok fun τ ν => ∃ α, τ = tList α ∧ R α ν)) := by
  obtain ⟨eA1, eA2, eA3⟩ := eA
  have sA := k.1.1.1
  have hD := k.1.1.2
  intro l2
  induction l2 with
  | nil =>
    intro i c M1 Pn1 m1 cap1 b1 h1 τ1 R pd us hl hL1 hlt F1 r1 hR hus s1 p1 hb hpd hf
    have u1 := F1.2.1 q (k.2.2.2.1 q hWq)
    have ua := F1.2.1 arr (k.2.2.2.1 arr eA3)
    have w1 := s1.1
    obtain ⟨b1', b2', b3', b4', b5'⟩ := id hb
    obtain ⟨-, -, -, ⟨d1, d2, d3⟩, -⟩ := id r1
    change hL h arr = i at hL1
    change i ≤ 20000 at hlt
    refine bX24_infer_38 G (d + 7) h1 _ _ _ _ (w1.1.1.at (by decide)) (w1.1.1.at (by decide)) ⟨u1.1.trans hk, arr, ((u1.2.2.2.2.2 308).2.2).trans eA1, ua.1.trans eA2, ?_⟩
    rw [ua.2.1, hL1, show Int32.ofNat i = nI i from rfl, nI_leI (by omega) (by omega)]
    refine ⟨fun _ => ?_, fun z => absurd (Nat.le_refl _) z⟩
    have c1 : cln M1 τ1 c := r1.2.2.1 c (List.mem_cons_self ..)
    refine C.use (o_b1 (d := d + 6) (v := 10) hD s1.2.1 (by omega) (by omega) c1 w1.2.1.2.2.1) (by decide) ?_
    rintro _ h6 ⟨rfl, τ3, g, hN, hPp⟩ l -
    have lm : Lm (gW G) MI h1 h6 none := l.weak (by decide +kernel)
    have s3 := s1.mt g.1 lm g.2.1 (TGr.ev s1.2.1 g)
    have F6 : FIn G Z (fun x => x ∈ pd) rc Ct.length h h6 := F1.tr sA (g.1.fin w1.1.1 lm)
    have r3 := r1.nd0 g hN hPp (by decide) (by show 1 ≤ 6; omega) (fun w => [w.headD tUnit]) (fun ρ => rfl)
    have r5 := r3.prj (ts' := M1 :: us) (fun u => u.take 1 ++ u.drop 2) (fun x hx => r3.2.2.1 x (by
      rcases List.mem_cons.mp hx with e | e
      · rw [e]; exact List.mem_cons_self ..
      · exact List.mem_cons_of_mem _ (List.mem_cons_of_mem _ e))) (fun ρ _ => rfl)
    rw [show ((([] : List Tr).map (pNm n)).flatten) = [] from rfl, List.append_nil]
    refine KI.i ⟨F6, M1, us, M1 + 1, Pn1 + [c].length, τ3, m1, cap1, rfl, hus, ?_, s3, ?_⟩
    · refine (r5.wk (by omega)).imp fun ρ hρ u => ⟨?_, ?_⟩
      · rintro ⟨v, ⟨w, ⟨v1, ν1, rfl, g1, g2⟩, rfl⟩, rfl⟩
        exact ⟨gt 10 [v1], ν1, rfl, g1, v1, rfl, g2⟩
      · rintro ⟨v, ν, rfl, g1, α, rfl, g2⟩
        exact ⟨_, ⟨_, ⟨α, ν, rfl, g1, g2⟩, rfl⟩, rfl⟩
    · have : pot h6 cap1 = pot h1 cap1 := by unfold pot; rw [g.1.2.1]
      omega
  | cons p l2 IH =>
    intro i c M1 Pn1 m1 cap1 b1 h1 τ1 R pd us hl hL1 hlt F1 r1 hR hus s1 p1 hb hpd hf
    have u1 := F1.2.1 q (k.2.2.2.1 q hWq)
    have ua := F1.2.1 arr (k.2.2.2.1 arr eA3)
    have w1 := s1.1
    have ewl : nw (ls (p :: l2)) = nw p + nw (ls l2) := rfl
    rw [ewl] at hb ⊢
    rw [List.length_cons] at hL1 hlt
    obtain ⟨b1', b2', b3', b4', b5'⟩ := id hb
    obtain ⟨-, -, -, ⟨d1, d2, d3⟩, -⟩ := id r1
    obtain ⟨hp, hTp, b, fb, ob⟩ := hl 0 p rfl
    rw [Nat.add_zero] at fb
    have np := sPt_nw n p hp
    have pl := pNm_len n p
    refine bX24_infer_38 G (d + 7) h1 _ _ _ _ (w1.1.1.at (by decide)) (w1.1.1.at (by decide)) ⟨u1.1.trans hk, arr, ((u1.2.2.2.2.2 308).2.2).trans eA1, ua.1.trans eA2, ?_⟩
    rw [ua.2.1, hL1, show Int32.ofNat (i + (l2.length + 1)) = nI (i + (l2.length + 1)) from rfl, nI_leI (by omega) (by omega)]
    refine ⟨fun z => by omega, fun _ => ?_⟩
    rw [nI_cn (by omega)]
    have en : ((p :: l2).map (pNm n)).flatten = pNm n p ++ (l2.map (pNm n)).flatten := rfl
    rw [en] at hf ⊢
    have hzl : (pd.zip (us.map fun x => Int.Internal.Linear.Expr.var x)).length = pd.length := by rw [List.length_zip, List.length_map]; omega
    have hb2 : Bud M Pn m h cap Γ.length (b1 + 2 * nw p) := ⟨by omega, by omega, by omega, by omega, by omega⟩
    obtain ⟨k2, ν2, v1, v2, v3⟩ := hP p b lo hi h1 M1 Pn1 τ1 m1 _ cap1 hp hTp hhi (k.ot F1 hTp ob) s1 (Bud.nx hb2 r1 p1 (by rw [List.length_append, hzl]; omega)) ⟨(List.nodup_append.mp hf.1).1, fun t ht => hf.2 t (List.mem_append_left _ ht)⟩
    refine ⟨arr, ((u1.2.2.2.2.2 308).2.2).trans eA1, ua.1.trans eA2, (by rw [ua.2.1]; exact vp_in_nI (by omega) (by omega)), b, by rw [ua.2.2.2.2.1]; exact fb, k2, ν2, v1, v2, C.mono v3 ?_⟩
    rintro o h9 ⟨F9, q9⟩
    have F09 : FIn G Z (fun x => x ∈ pd ++ (pNm n p ++ (l2.map (pNm n)).flatten)) rc Ct.length h h9 := (F1.wk fun t ht => List.mem_append_left _ ht).tr sA (F9.wk fun t ht => List.mem_append_right _ (List.mem_append_left _ ht))
    unfold tLs
    cases hr2 : tPa N Ct Dt n p with
    | error f =>
      rw [hr2] at q9
      obtain ⟨e, rfl, q2, q3⟩ := q9
      exact KI.t ⟨F09, e, rfl, q2, by omega⟩
    | ok P2 =>
      rw [hr2] at q9
      obtain ⟨t2, us2, M2, Pn2, τ2, m2, cap2, rfl, hl2, r2, s2, p2⟩ := q9
      have r12 := r1.seq0 r2
      obtain ⟨-, -, -, ⟨bd1, bd2, bd3⟩, -⟩ := id r12
      have w9 := s2.1
      have c1 : cln M2 τ2 c := r12.2.2.1 c (List.mem_append_left _ (List.mem_cons_self ..))
      have c2 : cln M2 τ2 t2 := r12.2.2.1 t2 (List.mem_append_right _ (List.mem_cons_self ..))
      have uq9 := F09.2.1 q (k.2.2.2.1 q hWq)
      have ua9 := F09.2.1 arr (k.2.2.2.1 arr eA3)
      obtain ⟨hF, hT302⟩ := pt_tok hp (k.ot F09 hTp ob)
      have htk := TR.tk hTp (OTG_0 ob)
      have hpot : un h9 ≤ pot h9 cap2 := by unfold pot; omega
      refine KI.i ⟨arr, ((uq9.2.2.2.2.2 308).2.2).trans eA1, ua9.1.trans eA2, (by rw [ua9.2.1]; exact vp_in_nI (by omega) (by omega)), b, by rw [ua9.2.2.2.2.1]; exact fb, hF, ?_⟩
      rw [hT302]
      refine C.mono (c_ysm (d := d + 1) (nC := Ct.length) s2.1 s2.2.1 (by omega) (by omega) c2 c1 (by omega) (by omega)) ?_
      have hE : ∀ ρ : Nat → Tr, Sl M2 τ2 ρ → (ρ t2 = ρ c ↔ (fun u : List Tr => u[us.length + 1]? = u[0]?) ((c :: us ++ t2 :: us2).map ρ)) := fun ρ _ => by
        have i1 : (c :: us ++ t2 :: us2)[us.length + 1]? = some t2 := by
          rw [List.getElem?_append_right (by rw [List.length_cons]; omega), List.length_cons, Nat.sub_self]
          rfl
        show _ ↔ ((c :: us ++ t2 :: us2).map ρ)[us.length + 1]? = ((c :: us ++ t2 :: us2).map ρ)[0]?
        rw [List.getElem?_map, i1]
        show _ ↔ some (ρ t2) = some (ρ c)
        exact ⟨fun e => by rw [e], fun e => Option.some.inj e⟩
      have can := r12.can (a := t2) (c := c) (E := fun u => u[us.length + 1]? = u[0]?) hE
      have ix : ∀ (v1 v2 : Tr) (l1 l2 : List Tr), l1.length = us.length → (v1 :: l1 ++ v2 :: l2)[us.length + 1]? = some v2 := fun v1 v2 l1 l2 hl => by
        rw [List.getElem?_append_right (by rw [List.length_cons]; omega), List.length_cons, hl, Nat.sub_self]
        rfl
      have ln : ∀ (ν : Nu), ν.map (·.1) = pd → (ν.map (·.2)).length = us.length := fun ν hν => by
        rw [List.length_map, hus, ← hν, List.length_map]
      have law : (∃ ρ, Sl M2 τ2 ρ ∧ ρ t2 = ρ c) ↔ ∃ τ ν1 ν2, R τ ν1 ∧ P2 τ ν2 := by
        rw [can]
        constructor
        · rintro ⟨ρ, u, -, ⟨w1, w2, rfl, ⟨v1, ν1, rfl, g1, g2⟩, ⟨v2, ν2, rfl, g3, g4⟩⟩, he⟩
          have he' : (v1 :: ν1.map (·.2) ++ v2 :: ν2.map (·.2))[us.length + 1]? = some v1 := he
          rw [ix _ _ _ _ (ln ν1 g1)] at he'
          have e3 : v2 = v1 := Option.some.inj he'
          rw [e3] at g4
          exact ⟨v1, ν1, ν2, g2, g4⟩
        · rintro ⟨α, ν1, ν2, g2, g4⟩
          obtain ⟨ρ, hρ⟩ := k.2.1.sol
          have g1 := hR _ _ g2
          have g3 := tPa_nm n p hp P2 hr2 _ _ g4
          refine ⟨ρ, _, hρ, ⟨_, _, rfl, ⟨α, ν1, rfl, g1, g2⟩, ⟨α, ν2, rfl, g3, g4⟩⟩, ?_⟩
          show (α :: ν1.map (·.2) ++ α :: ν2.map (·.2))[us.length + 1]? = some α
          rw [ix _ _ _ _ (ln ν1 g1)]
      rintro o h18 ⟨F18, q18⟩
      have F018 : FIn G Z (fun x => x ∈ pd ++ (pNm n p ++ (l2.map (pNm n)).flatten)) rc Ct.length h h18 := F09.tr sA (F18.wk fun _ w => w.elim)
      rcases q18 with ⟨ex, rfl, T18, τ4, k4, ev4, hs4⟩ | ⟨no, e, rfl, ft, hu⟩
      · have hlaw := law.mp ex
        have r4 := r12.eqn k4 ev4 hs4 (E := fun u => u[us.length + 1]? = u[0]?) hE
        have s4 := s2.mt T18 F18.1 k4 ev4
        have prE : ∀ (v1 v2 : Tr) (l1 l2 : List Tr), l1.length = us.length → (fun u : List Tr => u.take (us.length + 1) ++ u.drop (us.length + 2)) (v1 :: l1 ++ v2 :: l2) = v1 :: (l1 ++ l2) := fun v1 v2 l1 l2 hl => by
          show v1 :: (l1 ++ v2 :: l2).take us.length ++ (l1 ++ v2 :: l2).drop (us.length + 1) = _
          rw [← hl, List.take_append_of_le_length (Nat.le_refl _), List.take_of_length_le (Nat.le_refl _), List.drop_append, List.drop_of_length_le (Nat.le_succ _), show l1.length + 1 - l1.length = 1 by omega]
          rfl
        have r5 := r4.prj (ts' := c :: (us ++ us2)) (fun u => u.take (us.length + 1) ++ u.drop (us.length + 2)) (fun x hx => r4.2.2.1 x (by
          simp only [List.mem_cons, List.mem_append, List.cons_append] at hx ⊢
          rcases hx with e | e | e
          · exact Or.inl e
          · exact Or.inr (Or.inl e)
          · exact Or.inr (Or.inr (Or.inr e)))) (fun ρ _ => by
          rw [List.map_cons, List.map_append, List.map_append, List.map_cons, List.map_cons]
          exact (prE _ _ _ _ (by rw [List.length_map])).symm)
        refine KV.i ?_
        rintro _ rfl
        rw [nI_1]
        have F18' : FIn G Z (fun x => x ∈ pd ++ pNm n p) rc Ct.length h h18 := ((F1.wk fun t ht => List.mem_append_left _ ht).tr sA (F9.wk fun t ht => List.mem_append_right _ ht)).tr sA (F18.wk fun _ w => w.elim)
        have eg : Γ ++ (pd ++ pNm n p).zip ((us ++ us2).map fun x => Int.Internal.Linear.Expr.var x) = Γ ++ pd.zip (us.map fun x => Int.Internal.Linear.Expr.var x) ++ (pNm n p).zip (us2.map fun x => Int.Internal.Linear.Expr.var x) := by
          rw [List.map_append, List.zip_append (by rw [List.length_map, hus]), List.append_assoc]
        have hpot2 : pot h18 cap2 = pot h9 cap2 := by unfold pot; rw [T18.2.1]
        have ih := IH (i + 1) c M2 Pn2 (m2 + 2) cap2 (b1 + 2 * nw p) h18 τ4 (fun τ ν => ∃ ν1 ν2, ν = ν1 ++ ν2 ∧ R τ ν1 ∧ P2 τ ν2) (pd ++ pNm n p) (us ++ us2) (fun j x hx => by
            obtain ⟨y1, y2, b', y3, y4⟩ := hl (j + 1) x (by rw [List.getElem?_cons_succ]; exact hx)
            exact ⟨y1, y2, b', by rw [← y3]; congr 1; omega, y4⟩) (by omega) (by omega) F18' ((r5.wk (by omega)).imp fun ρ hρ u => ⟨?_, ?_⟩) (fun v ν => ?_) (by rw [List.length_append, List.length_append, hus, hl2]) (by rw [eg]; exact s4) (by omega) ⟨by omega, by omega, by omega, by omega, by omega⟩ (by rw [List.length_append]; omega) (by rw [eg]; exact hf.nx (F9.tr w1.1.1 (F18.wk fun _ w => w.elim)) s1.2.2.2.2.1)
        · have e2 : bE (eqE (tkN p) (∃ τ ν1 ν2, R τ ν1 ∧ P2 τ ν2) fun τ ν => ∃ ν1 ν2, ν = ν1 ++ ν2 ∧ R τ ν1 ∧ P2 τ ν2) (fun R' => tLs N Ct Dt n l2 R') = tLs N Ct Dt n l2 fun τ ν => ∃ ν1 ν2, ν = ν1 ++ ν2 ∧ R τ ν1 ∧ P2 τ ν2 := by
            unfold eqE
            rw [tIf_pos hlaw]
            rfl
          show X G mX24_infer _ _ _ _ _ _ _ (PtQ G W ts O Z D N Ct Dt kn rc h M Pn τ m Γ cap _ _ _ (bE (bE (eqE (tkN p) (∃ τ ν1 ν2, R τ ν1 ∧ P2 τ ν2) fun τ ν => ∃ ν1 ν2, ν = ν1 ++ ν2 ∧ R τ ν1 ∧ P2 τ ν2) (fun R' => tLs N Ct Dt n l2 R')) _))
          rw [e2, ← List.append_assoc, show b1 + 2 * (nw p + nw (ls l2)) + 1 = b1 + 2 * nw p + 2 * nw (ls l2) + 1 by omega]
          exact ih
        · rintro ⟨v, ⟨⟨w1, w2, rfl, ⟨v1, ν1, rfl, g1, g2⟩, ⟨v2, ν2, rfl, g3, g4⟩⟩, he⟩, rfl⟩
          have he' : (v1 :: ν1.map (·.2) ++ v2 :: ν2.map (·.2))[us.length + 1]? = some v1 := he
          rw [ix _ _ _ _ (ln ν1 g1)] at he'
          have e3 : v2 = v1 := Option.some.inj he'
          rw [e3] at g4
          refine ⟨v1, ν1 ++ ν2, ?_, by rw [List.map_append, g1, g3], ν1, ν2, rfl, g2, g4⟩
          rw [List.map_append]
          exact prE _ _ _ _ (ln ν1 g1)
        · rintro ⟨v, ν, rfl, -, ν1, ν2, rfl, g2, g4⟩
          have g1 := hR _ _ g2
          have g3 := tPa_nm n p hp P2 hr2 _ _ g4
          refine ⟨_, ⟨⟨_, _, rfl, ⟨v, ν1, rfl, g1, g2⟩, ⟨v, ν2, rfl, g3, g4⟩⟩, ?_⟩, ?_⟩
          · show (v :: ν1.map (·.2) ++ v :: ν2.map (·.2))[us.length + 1]? = some v
            rw [ix _ _ _ _ (ln ν1 g1)]
          · rw [List.map_append]
            exact prE _ _ _ _ (ln ν1 g1)
        · rintro ⟨ν1, ν2, rfl, g2, g4⟩
          rw [List.map_append, hR _ _ g2, tPa_nm n p hp P2 hr2 _ _ g4]
      · have e2 : bE (eqE (tkN p) (∃ τ ν1 ν2, R τ ν1 ∧ P2 τ ν2) fun τ ν => ∃ ν1 ν2, ν = ν1 ++ ν2 ∧ R τ ν1 ∧ P2 τ ν2) (fun R' => tLs N Ct Dt n l2 R') = .error (5, tkN p) := by
          unfold eqE
          rw [tIf_neg fun w => (law.mpr w).elim fun ρ hρ => no ρ hρ.1 hρ.2]
          rfl
        show KV (PtQ G W ts O Z D N Ct Dt kn rc h M Pn τ m Γ cap _ _ _ (bE (bE (eqE (tkN p) (∃ τ ν1 ν2, R τ ν1 ∧ P2 τ ν2) fun τ ν => ∃ ν1 ν2, ν = ν1 ++ ν2 ∧ R τ ν1 ∧ P2 τ ν2) (fun R' => tLs N Ct Dt n l2 R')) _)) _ _ _
        rw [e2]
        exact KV.t ⟨F018, e, rfl, ft, by rw [hu]; omega⟩
theorem nw_ls (hl : ∀ y, y ∈ l → sPt N Ct rc n y) : l.length ≤ nw (ls l) := by
  induction l with
  | nil => exact Nat.le_refl _
  | cons a l ih =>
    have h1 := sPt_nw n a (hl a (List.mem_cons_self ..))
    have h2 := ih fun y hy => hl y (List.mem_cons_of_mem _ hy)
    show l.length + 1 ≤ nw a + nw (ls l)
    omega
theorem RsV.mb {M1 Pn1 m1 b b' : Nat} {h1 : AH} {τ1 : Tb} {us : List Nat} {S : (Nat → Tr) → List Tr → Prop} (k : RsV G h M Pn τ m h1 M1 Pn1 τ1 m1 us b S) (h1' : M1 ≤ M + 8 * b') (h2 : Pn1 ≤ Pn + 8 * b') (h3 : m1 ≤ m + 10 * b') : RsV G h M Pn τ m h1 M1 Pn1 τ1 m1 us b' S := ⟨k.1, k.2.1, k.2.2.1, ⟨h1', h2, h3⟩, k.2.2.2.2⟩
theorem PtQ.wk {B : Nat → Prop} {b b' : Nat} {toks : List Nat} {r : Except Fa (Tr → Nu → Prop)} {o : Outcome} {h1 : AH} (k : PtQ G W ts O Z D N Ct Dt kn rc h M Pn τ m Γ cap B b toks r o h1) (hb : b ≤ b') : PtQ G W ts O Z D N Ct Dt kn rc h M Pn τ m Γ cap B b' toks r o h1 := by
  obtain ⟨F, k⟩ := k
  refine ⟨F, ?_⟩
  cases r with
  | error f =>
    obtain ⟨e, h1, h2, h3⟩ := k
    exact ⟨e, h1, h2, by omega⟩
  | ok P =>
    obtain ⟨t, us, M', Pn', τ', m', cap', q1, q2, q3, q4, q5⟩ := k
    exact ⟨t, us, M', Pn', τ', m', cap', q1, q2, q3.wk hb, q4, by omega⟩
/-- a list -/
theorem pt_lst (hP : PtI G W ts O Z D N Ct Dt kn rc n (d + 7)) (hl : ∀ y, y ∈ l → sPt N Ct rc n y) (hT : TR lo hi (n1 38 t (ls l))) (hhi : hi ≤ ts.length) (ot : OTG (XA ts W O Z D h) W h (n1 38 t (ls l)) 0 0 q) (k : ISt G W ts O Z D N Ct Dt kn rc h M Pn τ m Γ cap) (hb : Bud M Pn m h cap Γ.length (2 * nw (n1 38 t (ls l)))) (hf : Frs h Z D Γ (pNm (n + 1) (n1 38 t (ls l)))) : C G mX24_infer (d + 8) [.ref q, .ref (gW G 6)] h (PtQ G W ts O Z D N Ct Dt kn rc h M Pn τ m Γ cap (fun x => x ∈ pNm (n + 1) (n1 38 t (ls l))) (2 * nw (n1 38 t (ls l)) - 1) (pNm (n + 1) (n1 38 t (ls l))) (tPa N Ct Dt (n + 1) (n1 38 t (ls l)))) ∧ hK h q = 23 := by
  obtain ⟨hWq, hkq, -, oy⟩ := (OTG_nd (k := 38) (by decide)).mp ot
  have hk : hK h q = 23 := by simpa [kc] using hkq
  obtain ⟨arr, eA, hlen, tg⟩ := OTG_arr.mp ((OTG_ef (m' := 21) (i' := 308) (by decide) (by decide)).mp oy)
  refine ⟨?_, hk⟩
  have sA := k.1.1.1
  have hD := k.1.1.2
  have ew : nw (n1 38 t (ls l)) = nw (ls l) + 1 := by show 0 + nw (ls l) + 1 = _; omega
  have nl := nw_ls hl
  have ep : pNm (n + 1) (n1 38 t (ls l)) = (l.map (pNm n)).flatten := by
    have : pNm (n + 1) (n1 38 t (ls l)) = ((unl (ls l)).map (pNm n)).flatten := rfl
    rw [this, unl_ls]
  rw [ep] at hf ⊢
  rw [ew] at hb ⊢
  obtain ⟨u1, u2, u3, u4, u5⟩ := id hb
  have hTl : TR lo hi (ls l) := hT.2.2.2
  refine bX24_infer G (d + 7) h _ _ (sA.at (by decide)) (sA.at (by decide)) ⟨hk, arr, eA.1, eA.2.1, ?_⟩
  rw [hlen]
  cases l with
  | nil =>
    refine ⟨fun _ => ?_, fun z => absurd rfl z⟩
    refine C.use (o_var hD k.2.1 (by omega)) (by decide) ?_
    rintro _ h1 ⟨rfl, τ1, g, hN, hPp⟩ l1 -
    have lm : Lm (gW G) MI h h1 none := l1.weak (by decide +kernel)
    have s1 := k.mt g.1 lm g.2.1 (TGr.ev k.2.1 g)
    have F1 : FIn G Z (fun x => x ∈ (([] : List Tr).map (pNm n)).flatten) rc Ct.length h h1 := g.1.fin sA lm
    have r1 := RsV.var (ps := []) k.2.1 g hN (by decide)
    have w1 := s1.1
    have c1 : cln (M + 1) τ1 M := g.2.2.1.new (Nat.le_refl _) (by omega)
    refine KI.i (C.use (o_b1 (d := d + 6) (v := 10) hD s1.2.1 (by omega) (by omega) c1 w1.2.1.2.2.1) (by decide) ?_)
    rintro _ h6 ⟨rfl, τ3, g2, hN2, hP2⟩ l2 -
    have lm2 : Lm (gW G) MI h1 h6 none := l2.weak (by decide +kernel)
    have s3 := s1.mt g2.1 lm2 g2.2.1 (TGr.ev s1.2.1 g2)
    have r3 := r1.nd0 g2 hN2 hP2 (by decide) (by show 1 ≤ 6; omega) (fun w => [w.headD tUnit]) (fun ρ => rfl)
    have r5 := r3.prj (ts' := [M + 1]) (fun u => u.take 1) (fun x hx => r3.2.2.1 x (by
      rw [(List.mem_cons.mp hx).resolve_right fun w => by cases w]; exact List.mem_cons_self ..)) (fun ρ _ => rfl)
    have ro := r5.mb (b' := 1) (by omega) (by show Pn + 0 + 1 ≤ _; omega) (by omega)
    refine KI.i ⟨F1.tr sA (g2.1.fin w1.1.1 lm2), M + 1, [], M + 1 + 1, _, τ3, m, cap, rfl, rfl, (ro.wk (by omega)).imp fun ρ hρ u => ⟨?_, ?_⟩, by show ISt G W ts O Z D N Ct Dt kn rc h6 _ _ τ3 m (Γ ++ []) cap; rw [List.append_nil]; exact s3, by unfold pot; rw [g2.1.2.1, g.1.2.1]; omega⟩
    · rintro ⟨v, ⟨w, ⟨v1, rfl⟩, rfl⟩, rfl⟩
      exact ⟨gt 10 [v1], [], rfl, rfl, rfl, v1, rfl⟩
    · rintro ⟨v, ν, rfl, g1, rfl, α, rfl⟩
      exact ⟨_, ⟨_, ⟨α, rfl⟩, rfl⟩, rfl⟩
  | cons p l =>
    have ewl : nw (ls (p :: l)) = nw p + nw (ls l) := rfl
    rw [ewl] at hb u1 u2 u3 u4 nl ⊢
    rw [List.length_cons] at nl hlen ⊢
    refine ⟨fun z => ?_, fun _ => ?_⟩
    · have z' : nI (l.length + 1) = nI 0 := z
      have := (nI_eq (by omega) (by omega)).mp z'
      omega
    obtain ⟨b, fb, ob⟩ := tg 0 p rfl
    have hp := hl p (List.mem_cons_self ..)
    have hTp := TR.ls_at hTl p (List.mem_cons_self ..)
    have np := sPt_nw n p hp
    have pl := pNm_len n p
    have el : tPa N Ct Dt (n + 1) (n1 38 t (ls (p :: l))) = bE (tPa N Ct Dt n p) fun P => bE (tLs N Ct Dt n l P) fun R => .ok fun τ ν => ∃ α, τ = tList α ∧ R α ν := by
      have : tPa N Ct Dt (n + 1) (n1 38 t (ls (p :: l))) = match unl (ls (p :: l)) with
        | [] => .ok fun τ ν => ν = [] ∧ ∃ α, τ = tList α
        | p :: ps => bE (tPa N Ct Dt n p) fun P => bE (ps.foldl (fun r p => bE r fun (R : Tr → Nu → Prop) => bE (tPa N Ct Dt n p) fun Q => eqE (tkN p) (∃ τ ν1 ν2, R τ ν1 ∧ Q τ ν2) fun τ ν => ∃ ν1 ν2, ν = ν1 ++ ν2 ∧ R τ ν1 ∧ Q τ ν2) (.ok P)) fun R => .ok fun τ ν => ∃ α, τ = tList α ∧ R α ν := rfl
      rw [this, unl_ls]
      show bE _ _ = bE _ _
      congr 1
      funext P
      rw [tLs_eq]
    rw [el]
    have en : ((p :: l).map (pNm n)).flatten = pNm n p ++ (l.map (pNm n)).flatten := rfl
    rw [en] at hf ⊢
    obtain ⟨k2, ν2, v1, v2, v3⟩ := hP p b lo hi h M Pn τ m Γ cap hp hTp hhi ob k ⟨by omega, by omega, by omega, by omega, by omega⟩ ⟨(List.nodup_append.mp hf.1).1, fun t ht => hf.2 t (List.mem_append_left _ ht)⟩
    refine ⟨arr, eA.1, eA.2.1, (by rw [hlen]; exact vp_in_nI (n := 0) (by omega) (by omega)), b, fb, k2, ν2, v1, v2, C.mono v3 ?_⟩
    rintro o h12 ⟨F, q1⟩
    cases hr : tPa N Ct Dt n p with
    | error f =>
      rw [hr] at q1
      obtain ⟨e, rfl, q2, q3⟩ := q1
      exact KI.t ⟨F.wk fun t ht => List.mem_append_left _ ht, e, rfl, q2, by omega⟩
    | ok P =>
      rw [hr] at q1
      obtain ⟨t', us, M1, Pn1, τ1, m1, cap1, rfl, q2, q3, q4, q5⟩ := q1
      refine KI.i ?_
      have := pt_lst_38 (d := d) hP k hhi hWq hk eA l 1 t' M1 Pn1 m1 cap1 (2 * nw p - 1) h12 τ1 P (pNm n p) us (fun j x hx => by
        obtain ⟨b', y1, y2⟩ := tg (j + 1) x (by rw [List.getElem?_cons_succ]; exact hx)
        have hm : x ∈ p :: l := List.mem_cons_of_mem _ (List.mem_of_getElem? hx)
        exact ⟨hl x hm, TR.ls_at hTl x hm, b', by rw [← y1]; congr 1; omega, y2⟩) (by omega) (by omega) F q3 (tPa_nm n p hp P hr) q2 q4 q5 ⟨by omega, by omega, by omega, by omega, by omega⟩ (by omega) (hf.nx F k.2.2.2.2.1)
      rw [show 2 * (nw p + nw (ls l) + 1) - 1 = (2 * nw p - 1 + 2 * nw (ls l) + 1) + 1 by omega]
      exact X.mono this fun o h' z => PtQ.wk z (by omega)
end
