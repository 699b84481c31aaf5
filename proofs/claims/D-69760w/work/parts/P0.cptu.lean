/-! THE COMPONENT'S TYPER: patterns of tuples, their walk -/
section
variable (N : Nat) (Ct : Ctb) (Dt : Dtb)
noncomputable def tTu (n : Nat) : List Tr → Except Fa (List Tr → Nu → Prop)
  | [] => .ok fun τs ν => τs = [] ∧ ν = []
  | p :: ps => bE (tPa N Ct Dt n p) fun P => bE (tTu n ps) fun (Q : List Tr → Nu → Prop) => .ok fun τs ν => ∃ τ τs' ν1 ν2, τs = τ :: τs' ∧ ν = ν1 ++ ν2 ∧ P τ ν1 ∧ Q τs' ν2
theorem tTu_eq (n : Nat) : ∀ l : List Tr, l.foldr (fun p r => bE (tPa N Ct Dt n p) fun P => bE r fun (Q : List Tr → Nu → Prop) => .ok fun τs ν => ∃ τ τs' ν1 ν2, τs = τ :: τs' ∧ ν = ν1 ++ ν2 ∧ P τ ν1 ∧ Q τs' ν2) (.ok fun τs ν => τs = [] ∧ ν = []) = tTu N Ct Dt n l := by
  intro l
  induction l with
  | nil => rfl
  | cons p l ih =>
    rw [List.foldr_cons, ih]
    rfl
end
section
variable {G : Gh} {W : Nat → Prop} {ts : List (Nat × Nat × Nat)} {O : List (Nat × Nat) × List (Nat × Nat)} {Z : Zt} {D : Dm} {d n N rc M Pn m t cap q q5 lo hi arr L : Nat} {Ct : Ctb} {Dt : Dtb} {kn : Nat → TS} {h : AH} {τ : Tb} {Γ : List (Nat × Tr)} {l : List Tr}
theorem pt_tup_10 (hP : PtI G W ts O Z D N Ct Dt kn rc n (d + 1)) (k : ISt G W ts O Z D N Ct Dt kn rc h M Pn τ m Γ cap) (hhi : hi ≤ ts.length) (hWq : W q) (hk : hK h q = 26) (eA : ArF W h q 310 arr) (hq5 : hK h q5 = 0) (hlen : hL h arr = L) (hL6 : 2 ≤ L ∧ L ≤ 6) : ∀ (l2 : List Tr) (i M1 Pn1 m1 cap1 b1 : Nat) (h1 : AH) (τ1 : Tb) (S : List Tr → Nu → Prop) (pd us tys : List Nat),
    (∀ (j : Nat) (x : Tr), l2[j]? = some x → sPt N Ct rc n x ∧ TR lo hi x ∧ ∃ b, aR h arr (i + j) = some b ∧ OTG (XA ts W O Z D h) W h x 0 0 b) → L = i + l2.length →
    FIn G Z (fun x => x ∈ pd) rc Ct.length h h1 → (hK h1 q5 = 1000 ∧ hL h1 q5 = L ∧ tys.length = i ∧ ∀ (j p : Nat), tys[j]? = some p → aI h1 q5 j = nI p) → RsV G h M Pn τ m h1 M1 Pn1 τ1 m1 (tys ++ us) b1 (fun _ u => ∃ τs ν, u = τs ++ ν.map (·.2) ∧ τs.length = i ∧ ν.map (·.1) = pd ∧ S τs ν) → us.length = pd.length → ISt G W ts O Z D N Ct Dt kn rc h1 M1 Pn1 τ1 m1 (Γ ++ pd.zip (us.map fun x => Int.Internal.Linear.Expr.var x)) cap1 → pot h1 cap1 ≤ pot h cap + 4 * b1 → Bud M Pn m h cap Γ.length (b1 + 2 * nw (ls l2) + 1) → pd.length ≤ b1 → Frs h1 Z D (Γ ++ pd.zip (us.map fun x => Int.Internal.Linear.Expr.var x)) (l2.map (pNm n)).flatten →
    X G mX27_infer (d + 2) none [] 10 [(0, .ref q), (1, .ref (gW G 6)), (2, .ref q5), (3, .int (nI i))] [] h1 (PtQ G W ts O Z D N Ct Dt kn rc h M Pn τ m Γ cap (fun x => x ∈ pd ++ (l2.map (pNm n)).flatten) (b1 + 2 * nw (ls l2) - l2.length + 1) (pd ++ (l2.map (pNm n)).flatten) (bE (tTu N Ct Dt n l2) fun Q => .ok fun τ ν => ∃ τs1 τs2 ν1 ν2, τ = gt L (τs1 ++ τs2) ∧ ν = ν1 ++ ν2 ∧ τs1.length = i ∧ ν1.map (·.1) = pd ∧ S τs1 ν1 ∧ Q τs2 ν2)) := by
  obtain ⟨eA1, eA2, eA3⟩ := eA
  have sA := k.1.1.1
  have hD := k.1.1.2
  have k6 : hK h (gW G 6) = 10 := (sA.at (i := 6) (by decide)).1
  have hns : Ns (gW G) q5 := sA.ns hq5
  have nty : ∀ i, i ∈ TyC → q5 ≠ gW G i := fun i hi e => (tyc_k2 sA i hi).1 (by rw [← e]; exact hq5)
  intro l2
  induction l2 with
  | nil =>
    intro i M1 Pn1 m1 cap1 b1 h1 τ1 S pd us tys hl hLi F1 hy r1 hus s1 p1 hb hpd hf
    have u1 := F1.2.1 q (k.2.2.2.1 q hWq)
    have ua := F1.2.1 arr (k.2.2.2.1 arr eA3)
    have w1 := s1.1
    obtain ⟨y1, y2, y3, y4⟩ := hy
    obtain ⟨b1', b2', b3', b4', b5'⟩ := id hb
    obtain ⟨-, -, -, ⟨d1, d2, d3⟩, -⟩ := id r1
    change L = i at hLi
    have l0 : ([] : List Tr).length = 0 := rfl
    refine bX27_infer_10 G (d + 1) h1 _ _ _ _ (w1.1.1.at (by decide)) (w1.1.1.at (by decide)) ⟨u1.1.trans hk, arr, ((u1.2.2.2.2.2 310).2.2).trans eA1, ua.1.trans eA2, ?_⟩
    rw [ua.2.1, hlen, show Int32.ofNat L = nI L from rfl, nI_leI (by omega) (by omega)]
    refine ⟨fun _ => ⟨arr, ((u1.2.2.2.2.2 310).2.2).trans eA1, ua.1.trans eA2, y1, ?_⟩, fun z => absurd (by omega) z⟩
    rw [ua.2.1, hlen, y2, show Int32.ofNat L = nI L from rfl]
    have nmL : NmT G h1 (nI L).toInt tys.length := by
      rw [nI_toInt (by omega), y3, ← hLi]
      exact w1.2.1.2.1 L hL6.1 hL6.2
    have ob := o_b2 (d := d) (f := 0) (ps := tys) (arr := q5) hD s1.2.1 (by omega) (by omega) y1 (by omega) (by omega) nty (fun j p hp => ⟨by rw [Nat.zero_add]; exact y4 j p hp, r1.2.2.1 p (List.mem_append_left _ (List.mem_of_getElem? hp))⟩) nmL
    rw [y3, ← hLi] at ob
    refine C.use ob (by decide) ?_
    rintro _ h6 ⟨rfl, τ3, g, hN, hPp⟩ l -
    have lm : Lm (gW G) MI h1 h6 none := l.weak (by decide +kernel)
    have s3 := s1.mt g.1 lm g.2.1 (TGr.ev s1.2.1 g)
    have F6 : FIn G Z (fun x => x ∈ pd) rc Ct.length h h6 := F1.tr sA (g.1.fin w1.1.1 lm)
    have r3 := r1.nd0 g hN hPp (by rw [nI_toInt (by omega)]; omega) (by omega) (fun w => w.take i) (fun ρ => by
      rw [List.map_append, List.take_append_of_le_length (by rw [List.length_map]; omega), List.take_of_length_le (by rw [List.length_map]; omega)])
    have r5 := r3.prj (ts' := M1 :: us) (fun u => u.take 1 ++ u.drop (i + 1)) (fun x hx => r3.2.2.1 x (by
      rcases List.mem_cons.mp hx with e | e
      · rw [e]; exact List.mem_cons_self ..
      · exact List.mem_cons_of_mem _ (List.mem_append_right _ e))) (fun ρ _ => by
      show _ = [ρ M1] ++ ((tys ++ us).map ρ).drop i
      rw [List.map_append, List.drop_append_of_le_length (by rw [List.length_map]; omega), List.drop_of_length_le (by rw [List.length_map]; omega)]
      rfl)
    rw [show ((([] : List Tr).map (pNm n)).flatten) = [] from rfl, List.append_nil]
    refine KI.i ⟨F6, M1, us, M1 + 1, Pn1 + tys.length, τ3, m1, cap1, rfl, hus, ?_, s3, ?_⟩
    · have tk : ∀ (τs v : List Tr), τs.length = i → (τs ++ v).take i = τs := fun τs v e => by rw [← e, List.take_append_of_le_length (Nat.le_refl _), List.take_of_length_le (Nat.le_refl _)]
      have dk : ∀ (x : Tr) (τs v : List Tr), τs.length = i → (fun u : List Tr => u.take 1 ++ u.drop (i + 1)) (x :: (τs ++ v)) = x :: v := fun x τs v e => by
        show [x] ++ (τs ++ v).drop i = _
        rw [← e, List.drop_append_of_le_length (Nat.le_refl _), List.drop_of_length_le (Nat.le_refl _)]
        rfl
      refine (r5.wk (by omega)).imp fun ρ hρ u => ⟨?_, ?_⟩
      · rintro ⟨v, ⟨w, ⟨τs, ν1, rfl, g0, g1, g2⟩, rfl⟩, rfl⟩
        refine ⟨gt L τs, ν1, ?_, g1, τs, [], ν1, [], by rw [List.append_nil], (List.append_nil _).symm, g0, g1, g2, rfl, rfl⟩
        refine (dk _ _ _ g0).trans ?_
        rw [tk _ _ g0, nI_toInt (by omega)]
      · rintro ⟨v, ν, rfl, g1, τs1, τs2, ν1, ν2, rfl, rfl, g3, g4, g5, rfl, rfl⟩
        rw [List.append_nil] at g1 ⊢
        refine ⟨_, ⟨_, ⟨τs1, ν1, rfl, g3, g4, g5⟩, rfl⟩, ?_⟩
        refine (dk _ _ _ g3).trans ?_
        rw [tk _ _ g3, nI_toInt (by omega), List.append_nil]
    · have : pot h6 cap1 = pot h1 cap1 := by unfold pot; rw [g.1.2.1]
      omega
  | cons p l2 IH =>
    intro i M1 Pn1 m1 cap1 b1 h1 τ1 S pd us tys hl hLi F1 hy r1 hus s1 p1 hb hpd hf
    have u1 := F1.2.1 q (k.2.2.2.1 q hWq)
    have ua := F1.2.1 arr (k.2.2.2.1 arr eA3)
    have w1 := s1.1
    obtain ⟨y1, y2, y3, y4⟩ := hy
    have ewl : nw (ls (p :: l2)) = nw p + nw (ls l2) := rfl
    rw [ewl] at hb ⊢
    rw [List.length_cons] at hLi
    rw [List.length_cons]
    have nl := nw_ls (l := l2) (N := N) (Ct := Ct) (rc := rc) (n := n) (fun y hy => by obtain ⟨j, hj⟩ := List.getElem?_of_mem hy; exact (hl (j + 1) y (by rw [List.getElem?_cons_succ]; exact hj)).1)
    obtain ⟨b1', b2', b3', b4', b5'⟩ := id hb
    obtain ⟨-, -, -, ⟨d1, d2, d3⟩, -⟩ := id r1
    obtain ⟨hp, hTp, b, fb, ob⟩ := hl 0 p rfl
    rw [Nat.add_zero] at fb
    have np := sPt_nw n p hp
    have pl := pNm_len n p
    refine bX27_infer_10 G (d + 1) h1 _ _ _ _ (w1.1.1.at (by decide)) (w1.1.1.at (by decide)) ⟨u1.1.trans hk, arr, ((u1.2.2.2.2.2 310).2.2).trans eA1, ua.1.trans eA2, ?_⟩
    rw [ua.2.1, hlen, show Int32.ofNat L = nI L from rfl, nI_leI (by omega) (by omega)]
    refine ⟨fun z => by omega, fun _ => ?_⟩
    rw [nI_cn (by omega)]
    have en : ((p :: l2).map (pNm n)).flatten = pNm n p ++ (l2.map (pNm n)).flatten := rfl
    rw [en] at hf ⊢
    have hzl : (pd.zip (us.map fun x => Int.Internal.Linear.Expr.var x)).length = pd.length := by rw [List.length_zip, List.length_map]; omega
    have hb2 : Bud M Pn m h cap Γ.length (b1 + 2 * nw p) := ⟨by omega, by omega, by omega, by omega, by omega⟩
    obtain ⟨k2, ν2, v1, v2, v3⟩ := hP p b lo hi h1 M1 Pn1 τ1 m1 _ cap1 hp hTp hhi (k.ot F1 hTp ob) s1 (Bud.nx hb2 r1 p1 (by rw [List.length_append, hzl]; omega)) ⟨(List.nodup_append.mp hf.1).1, fun t ht => hf.2 t (List.mem_append_left _ ht)⟩
    refine ⟨arr, ((u1.2.2.2.2.2 310).2.2).trans eA1, ua.1.trans eA2, (by rw [ua.2.1]; exact vp_in_nI (by omega) (by omega)), b, by rw [ua.2.2.2.2.1]; exact fb, k2, ν2, v1, v2, C.mono v3 ?_⟩
    rintro o h9 ⟨F9, q9⟩
    have F09 : FIn G Z (fun x => x ∈ pd ++ (pNm n p ++ (l2.map (pNm n)).flatten)) rc Ct.length h h9 := (F1.wk fun t ht => List.mem_append_left _ ht).tr sA (F9.wk fun t ht => List.mem_append_right _ (List.mem_append_left _ ht))
    unfold tTu
    cases hr2 : tPa N Ct Dt n p with
    | error f =>
      rw [hr2] at q9
      obtain ⟨e, rfl, q2, q3⟩ := q9
      exact KI.t ⟨F09, e, rfl, q2, by omega⟩
    | ok P2 =>
      rw [hr2] at q9
      obtain ⟨t2, us2, M2, Pn2, τ2, m2, cap2, rfl, hl2, r2, s2, p2⟩ := q9
      have r12 := r1.seq0 r2
      obtain ⟨-, -, -, ⟨bd1, bd2, bd3⟩, -⟩ := id r12
      have hpile : fR h1 (gW G 5) 103 ≠ some q5 := fun e => by
        rw [F1.1.fr (sA.at (i := 5) (by decide)).1 (by decide) (by decide +kernel)] at e
        exact k.2.2.2.2.2.2.1 q5 e hq5
      have u5 := F9.2.1 q5 (FIx.row y1 hns hpile w1.1.1)
      have k9 : hK h9 q5 = 1000 := u5.1.trans y1
      refine KI.i ⟨k9, hns, (by rw [u5.2.1, y2]; exact vp_in_nI (by omega) (by omega)), ?_⟩
      rintro h24 e24 _ rfl
      rw [nI_1]
      have F18' : FIn G Z (fun x => x ∈ pd ++ pNm n p) rc Ct.length h h24 := by
        rw [e24]
        exact FIn.sI0 ((F1.wk fun t ht => List.mem_append_left _ ht).tr sA (F9.wk fun t ht => List.mem_append_right _ ht)) hq5 k6
      have U : ∀ a, hK h9 a ≠ 0 → a ≠ q5 → Uf h9 h24 a := fun a _ ha => by
        rw [e24]
        exact ⟨rfl, rfl, by funext j; rw [aI_sI, if_neg fun z => ha z.1], rfl, rfl, fun g => ⟨rfl, rfl, rfl⟩⟩
      obtain ⟨s4, ev4⟩ := k.unq s2 F18' U (by rw [e24]; exact sI_le) hq5 (Or.inr k9)
      have r4 := r12.mv s4.2.1 ev4
      have prE : ∀ (l1 v1 l2 : List Tr) (x : Tr), l1.length = i → v1.length = us.length → (fun u : List Tr => u.take i ++ ((u.drop (i + us.length)).take 1) ++ ((u.drop i).take us.length ++ u.drop (i + us.length + 1))) (l1 ++ v1 ++ x :: l2) = (l1 ++ [x]) ++ (v1 ++ l2) := fun l1 v1 l2 x e1 e2 => by
        have a1 : (l1 ++ v1 ++ x :: l2).take i = l1 := by rw [List.append_assoc, ← e1, List.take_append_of_le_length (Nat.le_refl _), List.take_of_length_le (Nat.le_refl _)]
        have a2 : (l1 ++ v1 ++ x :: l2).drop (i + us.length) = x :: l2 := by rw [← e1, ← e2, ← List.length_append, List.drop_append_of_le_length (Nat.le_refl _), List.drop_of_length_le (Nat.le_refl _)]; rfl
        have a3 : (l1 ++ v1 ++ x :: l2).drop i = v1 ++ x :: l2 := by rw [List.append_assoc, ← e1, List.drop_append_of_le_length (Nat.le_refl _), List.drop_of_length_le (Nat.le_refl _)]; rfl
        have a4 : (l1 ++ v1 ++ x :: l2).drop (i + us.length + 1) = l2 := by rw [← List.drop_drop, a2]; rfl
        show (l1 ++ v1 ++ x :: l2).take i ++ (((l1 ++ v1 ++ x :: l2).drop (i + us.length)).take 1) ++ (((l1 ++ v1 ++ x :: l2).drop i).take us.length ++ (l1 ++ v1 ++ x :: l2).drop (i + us.length + 1)) = _
        rw [a1, a2, a3, a4, ← e2, List.take_append_of_le_length (Nat.le_refl _), List.take_of_length_le (Nat.le_refl _)]
        rfl
      have r5 := r4.prj (ts' := (tys ++ [t2]) ++ (us ++ us2)) (fun u => u.take i ++ ((u.drop (i + us.length)).take 1) ++ ((u.drop i).take us.length ++ u.drop (i + us.length + 1))) (fun x hx => r4.2.2.1 x (by
        simp only [List.mem_cons, List.mem_append, List.not_mem_nil, or_false] at hx ⊢
        rcases hx with (e | e) | e | e
        · exact Or.inl (Or.inl e)
        · exact Or.inr (Or.inl e)
        · exact Or.inl (Or.inr e)
        · exact Or.inr (Or.inr e))) (fun ρ _ => by
        have := prE (tys.map ρ) (us.map ρ) (us2.map ρ) (ρ t2) (by rw [List.length_map]; exact y3) (by rw [List.length_map])
        rw [show (tys ++ us ++ t2 :: us2).map ρ = tys.map ρ ++ us.map ρ ++ ρ t2 :: us2.map ρ by rw [List.map_append, List.map_append, List.map_cons]]
        refine Eq.trans ?_ this.symm
        rw [List.map_append, List.map_append, List.map_append]
        rfl)
      have eg : Γ ++ (pd ++ pNm n p).zip ((us ++ us2).map fun x => Int.Internal.Linear.Expr.var x) = Γ ++ pd.zip (us.map fun x => Int.Internal.Linear.Expr.var x) ++ (pNm n p).zip (us2.map fun x => Int.Internal.Linear.Expr.var x) := by
        rw [List.map_append, List.zip_append (by rw [List.length_map, hus]), List.append_assoc]
      have hpot2 : pot h24 cap2 = pot h9 cap2 := by unfold pot; rw [e24, un_sI]
      have ln : ∀ (ν : Nu), ν.map (·.1) = pd → (ν.map (·.2)).length = us.length := fun ν hν => by
        rw [List.length_map, hus, ← hν, List.length_map]
      have hfr : Frs h24 Z D (Γ ++ pd.zip (us.map fun x => Int.Internal.Linear.Expr.var x) ++ (pNm n p).zip (us2.map fun x => Int.Internal.Linear.Expr.var x)) (l2.map (pNm n)).flatten := by
        have f9 : Frs h9 Z D _ _ := hf.nx (us := us2.map fun x => Int.Internal.Linear.Expr.var x) F9 s1.2.2.2.2.1
        refine ⟨f9.1, fun t' ht' => ?_⟩
        obtain ⟨z1, z2, z3⟩ := f9.2 t' ht'
        exact ⟨z1, by rw [e24, fI_sI]; exact z2, z3⟩
      have ih := IH (i + 1) M2 Pn2 m2 cap2 (b1 + (2 * nw p - 1)) h24 τ2 (fun τs ν => ∃ τs1 τ ν1 ν2, τs = τs1 ++ [τ] ∧ ν = ν1 ++ ν2 ∧ τs1.length = i ∧ ν1.map (·.1) = pd ∧ S τs1 ν1 ∧ P2 τ ν2) (pd ++ pNm n p) (us ++ us2) (tys ++ [t2]) (fun j x hx => by
          obtain ⟨y1, y2, b', y3, y4⟩ := hl (j + 1) x (by rw [List.getElem?_cons_succ]; exact hx)
          exact ⟨y1, y2, b', by rw [← y3]; congr 1; omega, y4⟩) (by omega) F18' ⟨by rw [e24, hK_sI]; exact k9, by rw [e24, hL_sI, u5.2.1]; exact y2, by rw [List.length_append, y3]; rfl, fun j p' hj => ?_⟩ ((r5.wk (by omega)).imp fun ρ hρ u => ⟨?_, ?_⟩) (by rw [List.length_append, List.length_append, hus, hl2]) (by rw [eg]; exact s4) (by omega) ⟨by omega, by omega, by omega, by omega, by omega⟩ (by rw [List.length_append]; omega) (by rw [eg]; exact hfr)
      · rw [← List.append_assoc, show b1 + 2 * (nw p + nw (ls l2)) - (l2.length + 1) + 1 = b1 + (2 * nw p - 1) + 2 * nw (ls l2) - l2.length + 1 by omega]
        refine X.mono ih fun o hh z => ?_
        obtain ⟨z1, z2⟩ := z
        refine ⟨z1, ?_⟩
        show match (bE (bE (tTu N Ct Dt n l2) fun Q => .ok fun τs ν => ∃ τ τs' ν1 ν2, τs = τ :: τs' ∧ ν = ν1 ++ ν2 ∧ P2 τ ν1 ∧ Q τs' ν2) _ : Except Fa (Tr → Nu → Prop)) with | .error _ => _ | .ok _ => _
        cases hr3 : tTu N Ct Dt n l2 with
        | error f => rw [hr3] at z2; exact z2
        | ok Q =>
          rw [hr3] at z2
          obtain ⟨t', us', M', Pn', τ', m', cap', z3, z4, z5, z6, z7⟩ := z2
          refine ⟨t', us', M', Pn', τ', m', cap', z3, z4, z5.imp fun ρ hρ u => ⟨?_, ?_⟩, z6, z7⟩
          · rintro ⟨v, ν, rfl, g1, τs1, τs2, ν1, ν2, rfl, rfl, g3, g4, ⟨τs3, τ3, ν3, ν4, rfl, rfl, g5, g6, g7, g8⟩, g9⟩
            exact ⟨_, _, rfl, g1, τs3, τ3 :: τs2, ν3, ν4 ++ ν2, by rw [List.append_assoc]; rfl, by rw [List.append_assoc], g5, g6, g7, τ3, τs2, ν4, ν2, rfl, rfl, g8, g9⟩
          · rintro ⟨v, ν, rfl, g1, τs1, τs2, ν1, ν2, rfl, rfl, g3, g4, g5, τ3, τs3, ν3, ν4, rfl, rfl, g8, g9⟩
            exact ⟨_, _, rfl, g1, τs1 ++ [τ3], τs3, ν1 ++ ν3, ν4, by rw [List.append_assoc]; rfl, by rw [List.append_assoc], by rw [List.length_append, g3]; rfl, by rw [List.map_append, g4, tPa_nm n p hp P2 hr2 _ _ g8], ⟨τs1, τ3, ν1, ν3, rfl, rfl, g3, g4, g5, g8⟩, g9⟩
      · rw [e24, aI_sI]
        by_cases c : j < i
        · rw [if_neg fun z => by omega, u5.2.2.1]
          rw [List.getElem?_append_left (by omega)] at hj
          exact y4 j p' hj
        · have hi := (List.getElem?_eq_some_iff.mp hj).1
          rw [List.length_append, y3, List.length_singleton] at hi
          have ei : j = i := by omega
          rw [if_pos ⟨rfl, ei⟩]
          rw [ei, ← y3, List.getElem?_append_right (Nat.le_refl _), Nat.sub_self] at hj
          cases hj
          rfl
      · rintro ⟨v, ⟨w1, w2, rfl, ⟨τs, ν1, rfl, g0, g1, g2⟩, ⟨v2, ν2, rfl, g3, g4⟩⟩, rfl⟩
        refine ⟨τs ++ [v2], ν1 ++ ν2, ?_, by rw [List.length_append, g0]; rfl, by rw [List.map_append, g1, g3], τs, v2, ν1, ν2, rfl, rfl, g0, g1, g2, g4⟩
        rw [List.map_append]
        exact prE _ _ _ _ g0 (ln ν1 g1)
      · rintro ⟨τs, ν, rfl, -, -, τs1, v, ν1, ν2, rfl, rfl, g0, g1, g2, g4⟩
        refine ⟨_, ⟨_, _, rfl, ⟨τs1, ν1, rfl, g0, g1, g2⟩, ⟨v, ν2, rfl, tPa_nm n p hp P2 hr2 _ _ g4, g4⟩⟩, ?_⟩
        rw [List.map_append]
        exact prE _ _ _ _ g0 (ln ν1 g1)
/-- a tuple -/
theorem pt_tup (hP : PtI G W ts O Z D N Ct Dt kn rc n (d + 1)) (hl : ∀ y, y ∈ l → sPt N Ct rc n y) (hl6 : 2 ≤ l.length ∧ l.length ≤ 6) (hT : TR lo hi (n1 37 t (ls l))) (hhi : hi ≤ ts.length) (ot : OTG (XA ts W O Z D h) W h (n1 37 t (ls l)) 0 0 q) (k : ISt G W ts O Z D N Ct Dt kn rc h M Pn τ m Γ cap) (hb : Bud M Pn m h cap Γ.length (2 * nw (n1 37 t (ls l)))) (hf : Frs h Z D Γ (pNm (n + 1) (n1 37 t (ls l)))) : C G mX27_infer (d + 2) [.ref q, .ref (gW G 6)] h (PtQ G W ts O Z D N Ct Dt kn rc h M Pn τ m Γ cap (fun x => x ∈ pNm (n + 1) (n1 37 t (ls l))) (2 * nw (n1 37 t (ls l)) - 1) (pNm (n + 1) (n1 37 t (ls l))) (tPa N Ct Dt (n + 1) (n1 37 t (ls l)))) ∧ hK h q = 26 := by
  obtain ⟨hWq, hkq, -, oy⟩ := (OTG_nd (k := 37) (by decide)).mp ot
  have hk : hK h q = 26 := by simpa [kc] using hkq
  obtain ⟨arr, eA, hlen, tg⟩ := OTG_arr.mp ((OTG_ef (m' := 21) (i' := 310) (by decide) (by decide)).mp oy)
  refine ⟨?_, hk⟩
  have sA := k.1.1.1
  have hD := k.1.1.2
  have ew : nw (n1 37 t (ls l)) = nw (ls l) + 4 := by show 0 + nw (ls l) + 4 = _; omega
  have nl := nw_ls hl
  have ep : pNm (n + 1) (n1 37 t (ls l)) = (l.map (pNm n)).flatten := by
    have : pNm (n + 1) (n1 37 t (ls l)) = ((unl (ls l)).map (pNm n)).flatten := rfl
    rw [this, unl_ls]
  have el : tPa N Ct Dt (n + 1) (n1 37 t (ls l)) = bE (tTu N Ct Dt n l) fun Q => .ok fun τ ν => ∃ τs, τ = gt l.length τs ∧ Q τs ν := by
    have : tPa N Ct Dt (n + 1) (n1 37 t (ls l)) = bE ((unl (ls l)).foldr (fun p r => bE (tPa N Ct Dt n p) fun P => bE r fun (Q : List Tr → Nu → Prop) => .ok fun τs ν => ∃ τ τs' ν1 ν2, τs = τ :: τs' ∧ ν = ν1 ++ ν2 ∧ P τ ν1 ∧ Q τs' ν2) (.ok fun τs ν => τs = [] ∧ ν = [])) fun Q => .ok fun τ ν => ∃ τs, τ = gt (unl (ls l)).length τs ∧ Q τs ν := rfl
    rw [this, unl_ls, tTu_eq]
  rw [ep] at hf ⊢
  rw [ew] at hb ⊢
  rw [el]
  obtain ⟨u1, u2, u3, u4, u5⟩ := id hb
  have hTl : TR lo hi (ls l) := hT.2.2.2
  refine bX27_infer G (d + 1) h _ _ ⟨hk, arr, eA.1, eA.2.1, ?_⟩
  rw [hlen, show Int32.ofNat l.length = nI l.length from rfl, nI_cn (by omega)]
  have hun : un h ≤ pot h cap := by unfold pot; omega
  obtain ⟨m1, m2⟩ := un_rm (h := h) (n := l.length) (by omega)
  refine ⟨nI_pos (by omega), m1, m2, fun q5 hq5 h7 e7 => ?_⟩
  have U : ∀ a, hK h a ≠ 0 → a ≠ q5 → Uf h h7 a := fun a _ ha => by
    rw [e7]
    exact ⟨by rw [hK_nA, if_neg ha], by rw [hL_nA, if_neg ha], by funext j; rw [aI_nA, if_neg ha], by funext j; rw [aJ_nA, if_neg ha], by funext j; rw [aR_nA, if_neg ha], fun g => ⟨by rw [fI_nA], by rw [fJ_nA], by rw [fR_nA]⟩⟩
  have ne : ∀ a, hK h a ≠ 0 → a ≠ q5 := fun a ha e => ha (by rw [e]; exact hq5)
  have lm : Lm (gW G) MI h h7 none := by rw [e7]; exact nA_lm (by decide +kernel) hq5
  have F7 : FIn G Z (fun x => x ∈ ([] : List Nat)) rc Ct.length h h7 := by
    have u : ∀ a, hK h a ≠ 0 → Uf h h7 a := fun a ha => U a ha (ne a ha)
    have k6 : hK h (gW G 6) = 10 := (sA.at (i := 6) (by decide)).1
    refine ⟨lm, fun a ha => u a ha.1, fun a ha _ _ => (u a (by rw [ha]; decide)).2.2.2.2.1, fun b hb' _ => ?_, fun c hc _ => ?_, Or.inl ((u (gW G 6) (by rw [k6]; decide)).2.2.2.2.2 111).2.2⟩
    · have v := (u b (by rw [hb']; decide)).2.2.2.2.2
      exact ⟨(v 127).1, (v 128).1⟩
    · have v := (u c (by rw [hc]; decide)).2.2.2.2.2
      exact ⟨(v 372).2.2, (v 373).2.2⟩
  obtain ⟨s7, ev7⟩ := k.unq k F7 U (by rw [e7]; exact nA_le hq5) hq5 (Or.inl hq5)
  have r7 := (RsV.rf k.2.1).mv s7.2.1 ev7
  have hp7 : pot h7 cap = pot h cap + 16 + l.length := by unfold pot; rw [e7, un_nA]; omega
  have := pt_tup_10 (d := d) (L := l.length) hP k hhi hWq hk eA hq5 hlen hl6 l 0 M Pn m cap 6 h7 τ (fun τs ν => τs = [] ∧ ν = []) [] [] [] (fun j x hx => by
      obtain ⟨b', y1, y2⟩ := tg j x hx
      exact ⟨hl x (List.mem_of_getElem? hx), TR.ls_at hTl x (List.mem_of_getElem? hx), b', by rw [Nat.zero_add]; exact y1, y2⟩) (by omega) F7 ⟨by rw [e7, hK_nA, if_pos rfl], by rw [e7, hL_nA, if_pos rfl], rfl, fun j p hj => (by cases hj)⟩ ((r7.wk (Nat.zero_le 6)).imp fun ρ hρ u => ⟨fun w => ⟨[], [], w, rfl, rfl, rfl, rfl⟩, fun ⟨τs, ν, w1, _, _, w2, w3⟩ => by rw [w1, w2, w3]; rfl⟩) rfl (by rw [List.zip_nil_left, List.append_nil]; exact s7) (by omega) ⟨by omega, by omega, by omega, by omega, by omega⟩ (Nat.zero_le _) (by
      rw [List.zip_nil_left, List.append_nil]
      refine ⟨hf.1, fun t' ht' => ?_⟩
      obtain ⟨z1, z2, z3⟩ := hf.2 t' ht'
      exact ⟨z1, by rw [e7, fI_nA]; exact z2, z3⟩)
  rw [List.nil_append] at this
  refine X.mono this fun o hh z => ?_
  refine PtQ.wk (b := 6 + 2 * nw (ls l) - l.length + 1) ?_ (by omega)
  obtain ⟨z1, z2⟩ := z
  refine ⟨z1, ?_⟩
  cases hr3 : tTu N Ct Dt n l with
  | error f => rw [hr3] at z2; exact z2
  | ok Q =>
    rw [hr3] at z2
    obtain ⟨t', us', M', Pn', τ', m', cap', z3, z4, z5, z6, z7⟩ := z2
    refine ⟨t', us', M', Pn', τ', m', cap', z3, z4, z5.imp fun ρ hρ u => ⟨?_, ?_⟩, z6, z7⟩
    · rintro ⟨v, ν, rfl, g1, τs1, τs2, ν1, ν2, rfl, rfl, g3, g4, ⟨rfl, rfl⟩, g9⟩
      exact ⟨_, _, rfl, g1, _, rfl, g9⟩
    · rintro ⟨v, ν, rfl, g1, τs, rfl, g9⟩
      exact ⟨_, _, rfl, g1, [], τs, [], ν, rfl, rfl, rfl, rfl, ⟨rfl, rfl⟩, g9⟩
end
