/-! THE COMPONENT'S TYPES: new nodes, over the whole state -/
/-- a type's name in the table, with k arguments -/
def NmT (G : Gh) (h : AH) (n : Int) (k : Nat) : Prop := (0 ≤ n ∧ n < 212 ∧ k ≤ 6) ∧ ∃ b, aR h (gW G 1040) n.toNat = some b ∧ hK h b = 4 ∧ fI h b 51 = nI k
/-- the table grew -/
def TGr (G : Gh) (h h' : AH) (M : Nat) (τ : Tb) (M' Pn' : Nat) (τ' : Tb) (m' : Nat) : Prop := FTy G h h' ∧ TT G h' M' Pn' τ' m' ∧ Gw M τ M' τ' ∧ ∀ z, z < M → aI h' (gW G 1032) z = aI h (gW G 1032) z
section
variable {G : Gh} {d M M' Pn Pn' m m' a b : Nat} {h h1 h' : AH} {τ τ' : Tb} {fs' : Nat → Nat} {n : Int} {ps : List Nat}
theorem pS_cg {f g : Nat → List Nat} : ∀ M, (∀ x, x < M → f x = g x) → pS f M = pS g M := by
  intro M
  induction M with
  | zero => intro _; rfl
  | succ M ih =>
    intro h
    show pS f M + (f M).length = pS g M + (g M).length
    rw [ih fun x hx => h x (by omega), h M (by omega)]
theorem NmT.mv (k : NmT G h n a) (T : FTy G h h') (sA : SoA G h) (hD : DW (gW G)) : NmT G h' n a := by
  obtain ⟨k1, b, k2, k3, k4⟩ := k
  have := NmS.mv (M := 1) (τ := ((fun _ => n), (fun _ => List.replicate a 0), fun _ => none)) (h := h) (h' := h') (fun x hx hn => ⟨⟨k1.2.1, by show (List.replicate a 0).length ≤ 6; rw [List.length_replicate]; exact k1.2.2⟩, b, k2, k3, by show _ = nI (List.replicate a 0).length; rw [List.length_replicate]; exact k4⟩) T sA hD 0 (by omega) k1.1
  obtain ⟨-, b', c1, c2, c3⟩ := this
  change _ = nI (List.replicate a 0).length at c3
  rw [List.length_replicate] at c3
  exact ⟨k1, b', c1, c2, c3⟩
theorem TT.add (k0 : TT G h M Pn τ m) (k : TyS G h' M' Pn' τ' fs') (nm : NmS G h' M' τ') (T : FTy G h h') (g : Gw M τ M' τ') (f1 : ∀ z, z < M → aI h' (gW G 1032) z = aI h (gW G 1032) z) (f2 : ∀ z, M ≤ z → z < M' → aI h' (gW G 1032) z = -1) (mk : MK G h' M' m') (hp : pS (uP τ') M' ≤ Pn') : TGr G h h' M τ M' Pn' τ' m' := by
  obtain ⟨fs, rt, dp, k1, nm1, sf, mk1, hp1, fl, b3⟩ := k0
  have kc := k1.kc
  refine ⟨T, ⟨fs', rtC M rt, dp, k, nm, g.sf sf kc, mk, hp, ⟨fun x hx hn e => ?_, fun x hx hn => ?_⟩, ?_⟩, g, f1⟩
  · by_cases c : x < M
    · rw [f1 x c] at e
      rw [(g.2.1 x c).2.2] at hn
      exact fun w => fl.1 x c hn e (g.cl' kc c w)
    · rw [f2 x (by omega) hx] at e
      exact absurd e (by decide)
  · by_cases c : x < M
    · rw [(g.2.1 x c).1] at hn
      rw [(g.2.1 x c).2.2]
      exact fl.2 x c hn
    · exact (g.2.2.1 x (by omega) hx).1
  · obtain ⟨c1, c2, c3, c4, c5⟩ := b3
    have := g.1
    unfold B3
    rw [(g.2.1 0 (by omega)).1, (g.2.1 1 (by omega)).1, (g.2.1 2 (by omega)).1, (g.2.1 0 (by omega)).2.1, (g.2.1 1 (by omega)).2.1, (g.2.1 2 (by omega)).2.1]
    exact ⟨by omega, c2, c3, c4, c5⟩
theorem Gw.one (ha : ∀ x, x < M → uN τ' x = uN τ x ∧ uP τ' x = uP τ x ∧ uS τ' x = uS τ x) (hs : uS τ' M = none) (hn : uN τ' M ≠ -2) (hp : ∀ p, p ∈ uP τ' M → cln M τ p) : Gw M τ (M + 1) τ' := by
  refine ⟨by omega, ha, fun w h1 h2 => ?_, fun _ => 0, fun w h1 h2 hn p hp' hpM => ?_⟩
  · have e : w = M := by omega
    rw [e]
    exact ⟨hs, hn, fun p hpp => ⟨by have := (hp p hpp).lt; omega, fun _ => hp p hpp⟩⟩
  · have e : w = M := by omega
    rw [e] at hp'
    have := (hp p hp').lt
    omega
/-- one new node -/
theorem TT.one {Ps : Nat} (k0 : TT G h M Pn τ m) (k : TyS G h' (M + 1) Ps τ' fs') (ePs : Ps = Pn + (uP τ' M).length) (T : FTy G h h') (hD : DW (gW G)) (nd : NdA G h h' M) (e38 : fI h' (gW G 2) 38 = fI h (gW G 2) 38) (ha : ∀ x, x < M → uN τ' x = uN τ x ∧ uP τ' x = uP τ x ∧ uS τ' x = uS τ x) (hs : uS τ' M = none) (hn : uN τ' M = -1 ∨ NmT G h (uN τ' M) (uP τ' M).length) (hp : ∀ p, p ∈ uP τ' M → cln M τ p) : TGr G h h' M τ (M + 1) Ps τ' m := by
  obtain ⟨fs, rt, dp, k1, nm1, sf, mk1, hp1, fl, b3⟩ := id k0
  have nm2 := nm1.mv T k1.1 hD
  refine k0.add k (fun x hx hnx => ?_) T (Gw.one ha hs ?_ hp) (fun z hz => ?_) (fun z h1 h2 => ?_) ⟨e38.trans mk1.1, fun z hz => ?_⟩ ?_
  · by_cases c : x = M
    · rw [c] at hnx ⊢
      rcases hn with e | e
      · rw [e] at hnx; exact absurd hnx (by decide)
      · obtain ⟨e1, e2⟩ := e.mv T k1.1 hD
        exact ⟨⟨e1.2.1, e1.2.2⟩, e2⟩
    · obtain ⟨e1, e2, -⟩ := ha x (by omega)
      rw [e1] at hnx ⊢
      rw [e2]
      exact nm2 x (by omega) hnx
  · rcases hn with e | e
    · rw [e]; decide
    · have := e.1.1; omega
  · rw [nd.2.1, if_neg (by omega)]
  · rw [nd.2.1, if_pos (by omega)]
  · rw [nd.1]
    by_cases c : z = M
    · rw [if_pos c]; exact ⟨0, by omega, rfl⟩
    · rw [if_neg c]; exact mk1.2 z (by omega)
  · show pS (uP τ') M + (uP τ' M).length ≤ Ps
    rw [pS_cg M fun x hx => (ha x hx).2.1]
    omega
/-- the contract of a new node -/
def ndQ (G : Gh) (h : AH) (M Pn : Nat) (τ : Tb) (m : Nat) (n : Int) (ps : List Nat) : Outcome → AH → Prop := fun o h' => o = .returned (some (.int (nI M))) ∧ ∃ τ', TGr G h h' M τ (M + 1) (Pn + ps.length) τ' m ∧ uN τ' M = n ∧ uP τ' M = ps
theorem o_var (hD : DW (gW G)) (k0 : TT G h M Pn τ m) (hM : M < 150000) : C G mX3_variable (d + 1) [.ref (gW G 2)] h (ndQ G h M Pn τ m (-1) []) := by
  obtain ⟨fs, rt, dp, k1, nm1, sf, mk1, hp1, fl, b3⟩ := id k0
  refine C.use (c_var k1 hD hM) (by decide) ?_
  rintro _ h1 ⟨rfl, k2, T, nd⟩ lm -
  have e : ∀ {α : Type} (u v : α), (if M = M then u else v) = u := fun u v => if_pos rfl
  refine ⟨rfl, _, k0.one k2 (by rw [show uP (tNew τ M (-1)) M = [] from e _ _]) T hD nd (lm.fi (k1.1.at (i := 2) (by decide)).1 (by decide) (by decide)) (fun x hx => ?_) (e _ _) (Or.inl (e _ _)) (fun p hp => ?_), e _ _, e _ _⟩
  · show (if x = M then _ else _) = _ ∧ (if x = M then _ else _) = _ ∧ (if x = M then _ else _) = _
    rw [if_neg (by omega), if_neg (by omega), if_neg (by omega)]
    exact ⟨rfl, rfl, rfl⟩
  · rw [show uP (tNew τ M (-1)) M = [] from e _ _] at hp
    cases hp
theorem o_b0 {v : Int32} (hD : DW (gW G)) (k0 : TT G h M Pn τ m) (hM : M < 150000) (hn : NmT G h v.toInt 0) : C G mX3_built (d + 1) [.ref (gW G 2), .int v] h (ndQ G h M Pn τ m v.toInt []) := by
  obtain ⟨fs, rt, dp, k1, nm1, sf, mk1, hp1, fl, b3⟩ := id k0
  refine C.use (Q := fun o h' => o = .returned (some (.int (nI M))) ∧ TyS G h' (M + 1) Pn (tNew τ M v.toInt) (updF fs M Pn) ∧ FTy G h h' ∧ NdA G h h' M) (bX3_built G d h _ _ (k1.1.at (by decide)) (C.mono (c_nd k1 hD hM) ?_)) (by decide) ?_
  · rintro _ h1 ⟨rfl, k2, T, nd⟩
    exact KI.i ⟨rfl, k2, T, nd⟩
  rintro _ h1 ⟨rfl, k2, T, nd⟩ lm -
  have e : ∀ {α : Type} (u v : α), (if M = M then u else v) = u := fun u v => if_pos rfl
  have eP : uP (tNew τ M v.toInt) M = [] := e _ _
  have eN : uN (tNew τ M v.toInt) M = v.toInt := e _ _
  refine ⟨rfl, _, k0.one k2 (by rw [eP]) T hD nd (lm.fi (k1.1.at (i := 2) (by decide)).1 (by decide) (by decide)) (fun x hx => ?_) (e _ _) (Or.inr (by rw [eN, eP]; exact hn)) (fun p hp => ?_), eN, eP⟩
  · show (if x = M then _ else _) = _ ∧ (if x = M then _ else _) = _ ∧ (if x = M then _ else _) = _
    rw [if_neg (by omega), if_neg (by omega), if_neg (by omega)]
    exact ⟨rfl, rfl, rfl⟩
  · rw [eP] at hp
    cases hp
theorem o_b1 {v : Int32} (hD : DW (gW G)) (k0 : TT G h M Pn τ m) (hM : M < 150000) (hP : Pn < 150000) (ca : cln M τ a) (hn : NmT G h v.toInt 1) : C G mX3_built_3 (d + 1) [.ref (gW G 2), .int v, .int (nI a)] h (ndQ G h M Pn τ m v.toInt [a]) := by
  obtain ⟨fs, rt, dp, k1, nm1, sf, mk1, hp1, fl, b3⟩ := id k0
  refine C.use (c_b3 k1 hD hM hP ca.lt) (by decide) ?_
  rintro _ h1 ⟨rfl, k2, T, nd⟩ lm -
  have eP : uP (tApp (tNew τ M v.toInt) M a) M = [a] := by
    show (if M = M then (if M = M then [] else uP τ M) ++ [a] else _) = [a]
    rw [if_pos rfl, if_pos rfl]; rfl
  have eN : uN (tApp (tNew τ M v.toInt) M a) M = v.toInt := by
    show (if M = M then v.toInt else _) = _
    rw [if_pos rfl]
  refine ⟨rfl, _, k0.one k2 (by rw [eP]) T hD nd (lm.fi (k1.1.at (i := 2) (by decide)).1 (by decide) (by decide)) (fun x hx => ?_) ?_ (Or.inr (by rw [eN, eP]; exact hn)) (fun p hp => ?_), eN, eP⟩
  · show (if x = M then _ else _) = _ ∧ (if x = M then (if x = M then _ else _) ++ [a] else (if x = M then _ else _)) = _ ∧ (if x = M then _ else _) = _
    rw [if_neg (by omega), if_neg (by omega), if_neg (by omega), if_neg (by omega)]
    exact ⟨rfl, rfl, rfl⟩
  · show (if M = M then none else _) = _
    rw [if_pos rfl]
  · rw [eP] at hp
    rw [(List.mem_cons.mp hp).resolve_right fun w => by cases w]
    exact ca
theorem o_fun (hD : DW (gW G)) (k0 : TT G h M Pn τ m) (hM : M < 150000) (hP : Pn + 1 < 150000) (ca : cln M τ a) (cb : cln M τ b) (hn : NmT G h 0 2) : C G mX3_fun (d + 2) [.ref (gW G 2), .int (nI a), .int (nI b)] h (ndQ G h M Pn τ m 0 [a, b]) := by
  obtain ⟨fs, rt, dp, k1, nm1, sf, mk1, hp1, fl, b3⟩ := id k0
  refine C.use (c_fn k1 hD hM hP ca.lt cb.lt) (by decide) ?_
  rintro _ h1 ⟨rfl, k2, T, nd⟩ lm -
  have eP : uP (tApp (tApp (tNew τ M 0) M a) M b) M = [a, b] := by
    show (if M = M then (if M = M then (if M = M then [] else uP τ M) ++ [a] else _) ++ [b] else _) = [a, b]
    rw [if_pos rfl, if_pos rfl, if_pos rfl]; rfl
  have eN : uN (tApp (tApp (tNew τ M 0) M a) M b) M = 0 := by
    show (if M = M then (0 : Int) else _) = _
    rw [if_pos rfl]
  refine ⟨rfl, _, k0.one k2 (by rw [eP]) T hD nd (lm.fi (k1.1.at (i := 2) (by decide)).1 (by decide) (by decide)) (fun x hx => ?_) ?_ (Or.inr (by rw [eN, eP]; exact hn)) (fun p hp => ?_), eN, eP⟩
  · show (if x = M then _ else _) = _ ∧ (if x = M then (if x = M then (if x = M then _ else _) ++ [a] else (if x = M then _ else _)) ++ [b] else (if x = M then (if x = M then _ else _) ++ [a] else (if x = M then _ else _))) = _ ∧ (if x = M then _ else _) = _
    rw [if_neg (by omega), if_neg (by omega), if_neg (by omega), if_neg (by omega), if_neg (by omega)]
    exact ⟨rfl, rfl, rfl⟩
  · show (if M = M then none else _) = _
    rw [if_pos rfl]
  · rw [eP] at hp
    rcases List.mem_cons.mp hp with e | hp
    · rw [e]; exact ca
    · rw [(List.mem_cons.mp hp).resolve_right fun w => by cases w]
      exact cb
/-- a node of parts that lie in an array -/
theorem o_b2 {v : Int32} {arr f : Nat} (hD : DW (gW G)) (k0 : TT G h M Pn τ m) (hM : M < 150000) (hP : Pn + ps.length < 150000) (hk : hK h arr = 1000) (hl : f + ps.length ≤ hL h arr) (hl2 : hL h arr < 2147483648) (har : ∀ i, i ∈ TyC → arr ≠ gW G i) (ha : ∀ (i p : Nat), ps[i]? = some p → aI h arr (f + i) = nI p ∧ cln M τ p) (hn : NmT G h v.toInt ps.length) : C G mX3_built_2 (d + 1) [.ref (gW G 2), .int v, .ref arr, .int (nI f), .int (nI ps.length)] h (ndQ G h M Pn τ m v.toInt ps) := by
  obtain ⟨fs, rt, dp, k1, nm1, sf, mk1, hp1, fl, b3⟩ := id k0
  have h6 := hn.1.2.2
  refine C.use (Q := fun o h' => o = .returned (some (.int (nI M))) ∧ ∃ τ' fs', TyS G h' (M + 1) (Pn + ps.length) τ' fs' ∧ FTy G h h' ∧ NdA G h h' M ∧ (∀ x, x < M → uN τ' x = uN τ x ∧ uP τ' x = uP τ x ∧ uS τ' x = uS τ x) ∧ uS τ' M = none ∧ uN τ' M = v.toInt ∧ uP τ' M = ps) (bX3_built_2 G d h _ _ _ _ _ (k1.1.at (by decide)) (C.mono (c_nd k1 hD hM) ?_)) (by decide) ?_
  · rintro _ h1 ⟨rfl, k2, T, nd⟩
    refine KI.i ?_
    have lp : ∀ g i h2 τ2, ps.length - i < g → i ≤ ps.length → TyS G h2 (M + 1) (Pn + i) τ2 (updF fs M Pn) → FTy G h h2 → NdA G h h2 M → (∀ x, x < M → uN τ2 x = uN τ x ∧ uP τ2 x = uP τ x ∧ uS τ2 x = uS τ x) → uS τ2 M = none → uN τ2 M = v.toInt → uP τ2 M = ps.take i →
        X G mX3_built_2 (d + 1) none [] 10 [(0, .ref (gW G 2)), (2, .ref arr), (3, .int (nI f)), (4, .int (nI ps.length)), (5, .int (nI M)), (6, .int (nI i))] [] h2 (fun o h' => o = .returned (some (.int (nI M))) ∧ ∃ τ' fs', TyS G h' (M + 1) (Pn + ps.length) τ' fs' ∧ FTy G h h' ∧ NdA G h h' M ∧ (∀ x, x < M → uN τ' x = uN τ x ∧ uP τ' x = uP τ x ∧ uS τ' x = uS τ x) ∧ uS τ' M = none ∧ uN τ' M = v.toInt ∧ uP τ' M = ps) := by
      intro g
      induction g with
      | zero => intro i h2 τ2 hg; omega
      | succ g IH =>
        intro i h2 τ2 hg hi k3 T3 nd3 ho hs hN hPP
        refine bX3_built_2_10 G d h2 _ _ _ _ _ _ (k3.1.at (by decide)) ?_
        rw [nI_leI (by omega) (by omega)]
        refine ⟨fun hle => ?_, fun hle => ?_⟩
        · have ei : i = ps.length := by omega
          rw [ei] at k3 hPP
          rw [List.take_length] at hPP
          exact ⟨rfl, τ2, _, k3, T3, nd3, ho, hs, hN, hPP⟩
        · obtain ⟨p, hpi⟩ : ∃ p, ps[i]? = some p := ⟨_, List.getElem?_eq_getElem (by omega)⟩
          obtain ⟨c1, c2⟩ := ha i p hpi
          have u := T3.1 arr har
          rw [nI_add, u.1, u.2.1, u.2.2.1, nI_cn (by omega), k3.2.2.1, nI_cn (by omega), c1]
          refine ⟨hk, vp_in_nI (by omega) hl2, vp_in_nI (by omega) (by decide), fun h5 e5 => ?_⟩
          have f5 : fI h5 = fI h2 := by rw [e5]; rfl
          rw [f5, k3.2.2.1, nI_1]
          intro h7 e7
          rintro _ rfl
          rw [nI_1]
          have uf : updF fs M Pn M = Pn := by unfold updF; rw [if_pos rfl]
          have hlen : (uP τ2 M).length = i := by rw [hPP, List.length_take]; omega
          obtain ⟨k7, T7⟩ := k3.app (x := M) (a := p) hD (by omega) (by rw [uf, hlen]) (by have := c2.lt; omega) (by omega) e5 e7
          have na : ∀ i, (i = 1032 ∨ i = 1033 ∨ i = 1034) → ∀ z, aI h7 (gW G i) z = aI h2 (gW G i) z := fun i hi z => by
            rw [e7, aI_pI, e5, aI_sI, if_neg (fun w => by
              have := hD i 1035 (by rcases hi with rfl | rfl | rfl <;> decide) (by decide) w.1
              omega)]
          refine IH (i + 1) h7 _ (by omega) (by omega) k7 (T3.tr T7) ⟨fun z => by rw [na 1033 (by decide)]; exact nd3.1 z, fun z => by rw [na 1032 (by decide)]; exact nd3.2.1 z, fun z => by rw [na 1034 (by decide)]; exact nd3.2.2 z⟩ (fun x hx => ?_) hs hN ?_
          · have ep : uP (tApp τ2 M p) x = if x = M then uP τ2 x ++ [p] else uP τ2 x := rfl
            rw [ep, if_neg (by omega)]
            exact ho x hx
          · have ep : uP (tApp τ2 M p) M = if M = M then uP τ2 M ++ [p] else uP τ2 M := rfl
            rw [ep, if_pos rfl, hPP, List.take_add_one, hpi]
            rfl
    refine lp (ps.length + 1) 0 h1 _ (by omega) (by omega) k2 T nd (fun x hx => ?_) ?_ ?_ ?_
    · show (if x = M then _ else _) = _ ∧ (if x = M then _ else _) = _ ∧ (if x = M then _ else _) = _
      rw [if_neg (by omega), if_neg (by omega), if_neg (by omega)]
      exact ⟨rfl, rfl, rfl⟩
    · show (if M = M then _ else _) = _
      rw [if_pos rfl]
    · show (if M = M then _ else _) = _
      rw [if_pos rfl]
    · show (if M = M then _ else _) = _
      rw [if_pos rfl]
      rfl
  rintro _ h1 ⟨rfl, τ', fs', k2, T, nd, ho, hs, hN, hPP⟩ lm -
  refine ⟨rfl, τ', k0.one k2 (by rw [hPP]) T hD nd (lm.fi (k1.1.at (i := 2) (by decide)).1 (by decide) (by decide)) ho hs (Or.inr (by rw [hN, hPP]; exact hn)) (fun p hp => ?_), hN, hPP⟩
  rw [hPP] at hp
  obtain ⟨i, hi⟩ := List.getElem?_of_mem hp
  exact (ha i p hi).2
end
