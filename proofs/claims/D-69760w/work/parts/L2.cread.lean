/-! THE COMPONENT'S TYPES: a type that was written down -/
/-- a scheme as it is written: names before their parts, variables below 0 -/
def enc : Tr → List Int
  | .neg (.num k) => [-1 - k]
  | .mulL n a => n :: enc a
  | .add a b => enc a ++ enc b
  | _ => []
theorem enc_ls : ∀ l : List Tr, enc (ls l) = (l.map enc).flatten := by
  intro l
  induction l with
  | nil => rfl
  | cons a l ih =>
    show enc a ++ enc (ls l) = _
    rw [ih, List.map_cons, List.flatten_cons]
theorem enc_gt {n : Int} {l : List Tr} : enc (gt n l) = n :: (l.map enc).flatten := by
  show n :: enc (ls l) = _
  rw [enc_ls]
/-- a scheme with names of the table, without nodes -/
def sOK (G : Gh) (h : AH) : Nat → Tr → Prop
  | 0, _ => False
  | f + 1, s => (∃ k : Nat, s = .neg (.num k) ∧ k < 200) ∨ ∃ (n : Nat) (l : List Tr), s = gt n l ∧ NmT G h n l.length ∧ ∀ x, x ∈ l → sOK G h f x
/-- the row holds l from i on -/
def RwA (h : AH) (arr i : Nat) (l : List Int) : Prop := ∀ (j : Nat) (v : Int), l[j]? = some v → (aI h arr (i + j)).toInt = v
/-- variables that have been made -/
def MDm (G : Gh) (h : AH) (mv : Nat → Option Nat) : Prop := ∀ k, k < 200 → (∀ x, mv k = some x → aI h (gW G 1046) k = nI x) ∧ (mv k = none → (aI h (gW G 1046) k).toInt < 0)
/-- nodes that were read -/
def RdN (M : Nat) (τ : Tb) (M' : Nat) (τ' : Tb) (mv mv' : Nat → Option Nat) : Prop :=
  M ≤ M' ∧ (∀ x, x < M → uN τ' x = uN τ x ∧ uP τ' x = uP τ x ∧ uS τ' x = uS τ x) ∧
  (∀ w, M ≤ w → w < M' → uS τ' w = none ∧ ((uN τ' w = -1 ∧ uP τ' w = []) ∨ (0 ≤ uN τ' w ∧ ∀ p, p ∈ uP τ' w → p < M' ∧ (p < M → p < 3 ∨ ∃ k, mv k = some p) ∧ (M ≤ p → 0 ≤ uN τ' p → w < p)))) ∧
  ((∀ k x, mv k = some x → mv' k = some x) ∧ (∀ k x, mv k = none → mv' k = some x → M ≤ x ∧ x < M' ∧ uN τ' x = -1) ∧ ∀ k k' x, mv k = none → mv k' = none → mv' k = some x → mv' k' = some x → k = k')
section
variable {M M1 M2 : Nat} {τ τ1 τ2 : Tb} {mv mv1 mv2 : Nat → Option Nat}
theorem RdN.rf : RdN M τ M τ mv mv := ⟨Nat.le_refl _, fun _ _ => ⟨rfl, rfl, rfl⟩, fun w h1 h2 => (by omega), fun _ _ h => h, fun k x h1 h2 => (by rw [h1] at h2; cases h2), fun k k' x h1 h2 h3 => (by rw [h1] at h3; cases h3)⟩
theorem RdN.tr (a : RdN M τ M1 τ1 mv mv1) (h3 : 3 ≤ M) (hmv : ∀ k x, mv k = some x → x < M) (b : RdN M1 τ1 M2 τ2 mv1 mv2) : RdN M τ M2 τ2 mv mv2 := by
  obtain ⟨a1, a2, a3, a4, a5, a6⟩ := a
  obtain ⟨b1, b2, b3, b4, b5, b6⟩ := b
  have old : ∀ k p, mv1 k = some p → p < M → mv k = some p := fun k p hk hp => by
    cases e : mv k with
    | none => have := a5 k p e hk; omega
    | some x => have := a4 k x e; rw [hk] at this; exact this.symm
  refine ⟨by omega, fun x hx => ?_, fun w h1 h2 => ?_, fun k x h => b4 k x (a4 k x h), fun k x h1 h2 => ?_, fun k k' x h1 h2 h3 h4 => ?_⟩
  · obtain ⟨c1, c2, c3⟩ := a2 x hx
    obtain ⟨d1, d2, d3⟩ := b2 x (by omega)
    exact ⟨d1.trans c1, d2.trans c2, d3.trans c3⟩
  · by_cases c : w < M1
    · obtain ⟨d1, d2, d3⟩ := b2 w c
      obtain ⟨e1, e2⟩ := a3 w h1 c
      rw [d1, d2, d3]
      refine ⟨e1, e2.imp id fun ⟨f1, f2⟩ => ⟨f1, fun p hp => ?_⟩⟩
      obtain ⟨g1, g2, g3⟩ := f2 p hp
      exact ⟨by omega, g2, fun h4 h5 => g3 h4 (by rw [← (b2 p g1).1]; exact h5)⟩
    · obtain ⟨e1, e2⟩ := b3 w (by omega) h2
      refine ⟨e1, e2.imp id fun ⟨f1, f2⟩ => ⟨f1, fun p hp => ?_⟩⟩
      obtain ⟨g1, g2, g3⟩ := f2 p hp
      refine ⟨g1, fun hpM => (g2 (by omega)).imp id fun ⟨k, hk⟩ => ⟨k, old k p hk hpM⟩, fun h4 h5 => ?_⟩
      by_cases c2 : M1 ≤ p
      · exact g3 c2 h5
      · rcases g2 (by omega) with q | ⟨k, hk⟩
        · omega
        · cases e : mv k with
          | none =>
            have := (a5 k p e hk).2.2
            rw [(b2 p (by omega)).1, this] at h5
            exact absurd h5 (by decide)
          | some x =>
            have := a4 k x e
            rw [hk] at this
            cases this
            have := hmv k p e
            omega
  · cases e : mv1 k with
    | none => obtain ⟨c1, c2, c3⟩ := b5 k x e h2; exact ⟨by omega, c2, c3⟩
    | some y =>
      have := b4 k y e
      rw [h2] at this
      cases this
      obtain ⟨c1, c2, c3⟩ := a5 k x h1 e
      exact ⟨c1, by omega, by rw [(b2 x c2).1]; exact c3⟩
  · cases e : mv1 k with
    | none =>
      cases e' : mv1 k' with
      | none => exact b6 k k' x e e' h3 h4
      | some y =>
        have := b4 k' y e'
        rw [h4] at this
        cases this
        have c1 := b5 k x e h3
        have c2 := a5 k' x h2 e'
        omega
    | some y =>
      have := b4 k y e
      rw [h3] at this
      cases this
      cases e' : mv1 k' with
      | none =>
        have c1 := b5 k' x e' h4
        have c2 := a5 k x h1 e
        omega
      | some y =>
        have := b4 k' y e'
        rw [h4] at this
        cases this
        exact a6 k k' x h1 h2 e e'
end
/-- general variables of a scheme -/
def gV : Tr → Int → Prop
  | .neg (.num k), j => k = j
  | .add a b, j => gV a j ∨ gV b j
  | .mulL _ a, j => gV a j
  | _, _ => False
theorem gV_ls : ∀ (l : List Tr) (j : Int), gV (ls l) j ↔ ∃ x, x ∈ l ∧ gV x j := by
  intro l j
  induction l with
  | nil => exact ⟨fun h => h.elim, fun ⟨x, h, _⟩ => (by cases h)⟩
  | cons a l ih =>
    show gV a j ∨ gV (ls l) j ↔ _
    rw [ih]
    constructor
    · rintro (h | ⟨x, h1, h2⟩)
      · exact ⟨a, List.mem_cons_self .., h⟩
      · exact ⟨x, List.mem_cons_of_mem _ h1, h2⟩
    · rintro ⟨x, h1, h2⟩
      rcases List.mem_cons.mp h1 with e | e
      · rw [e] at h2; exact Or.inl h2
      · exact Or.inr ⟨x, e, h2⟩
theorem ins_ck {θ θ' : Int → Tr} {ρ : Nat → Tr} : ∀ s : Tr, (∀ k, gV s k → θ k = θ' k) → ins θ ρ s = ins θ' ρ s := by
  intro s
  induction s with
  | num v => intro _; rfl
  | var x => intro _; rfl
  | add a b iha ihb =>
    intro h
    show Int.Internal.Linear.Expr.add _ _ = .add _ _
    rw [iha fun x hx => h x (Or.inl hx), ihb fun x hx => h x (Or.inr hx)]
  | mulL n a ih =>
    intro h
    show Int.Internal.Linear.Expr.mulL _ _ = .mulL _ _
    rw [ih h]
  | sub a b _ _ => intro _; rfl
  | neg a _ =>
    intro h
    cases a with
    | num k => exact h k rfl
    | _ => rfl
  | mulR a n _ => intro _; rfl
section
variable {G : Gh} {h h' : AH}
theorem NmT.bk {n : Int} {a : Nat} (k : NmT G h' n a) (T : FTy G h h') (sA : SoA G h) (hD : DW (gW G)) : NmT G h n a := by
  obtain ⟨k1, b, n3, n4, n5⟩ := k
  have s2 := (sA.le T.2.2).at (i := 2) (by decide)
  have u40 := T.1 (gW G 1040) fun i hi z => by
    have : 1040 = i := hD 1040 i (by decide) (by unfold TyC at hi; simp only [List.mem_cons, List.not_mem_nil, or_false] at hi; rcases hi with rfl | rfl | rfl | rfl | rfl | rfl | rfl | rfl | rfl <;> decide) z
    rw [← this] at hi
    exact absurd hi (by decide)
  have kinds : ∀ i, i ∈ TyC → hK h' (gW G i) ≠ 4 := fun i hi => by
    unfold TyC at hi
    simp only [List.mem_cons, List.not_mem_nil, or_false] at hi
    rcases hi with rfl | rfl | rfl | rfl | rfl | rfl | rfl | rfl | rfl
    · rw [s2.1]; decide
    · rw [kw1030 s2]; decide
    · rw [kw1031 s2]; decide
    · rw [kw1032 s2]; decide
    · rw [kw1033 s2]; decide
    · rw [kw1034 s2]; decide
    · rw [kw1035 s2]; decide
    · rw [kw1039 s2]; decide
    · rw [kw1046 s2]; decide
  have ub := T.1 b fun i hi z => kinds i hi (by rw [← z]; exact n4)
  exact ⟨k1, b, by rw [← u40.2.2.2.2.1]; exact n3, ub.1.symm.trans n4, (ub.2.2.2.2.2 51).1.symm.trans n5⟩
theorem sOK.mv (T : FTy G h h') (sA : SoA G h) (hD : DW (gW G)) : ∀ n s, sOK G h n s → sOK G h' n s := by
  intro n
  induction n with
  | zero => intro s hs; exact hs.elim
  | succ n ih =>
    rintro s (hs | ⟨m, l, e, h1, h2⟩)
    · exact Or.inl hs
    · exact Or.inr ⟨m, l, e, h1.mv T sA hD, fun x hx => ih x (h2 x hx)⟩
end
/-- what is read: the node t of the scheme s -/
def nxQ (G : Gh) (h : AH) (M Pn : Nat) (τ : Tb) (fs : Nat → Nat) (mv : Nat → Option Nat) (i : Nat) (s : Tr) : Outcome → AH → Prop := fun o h' => ∃ t M' Pn' τ' fs' mv', o = .returned (some (.int (nI t))) ∧ (TyS G h' M' Pn' τ' fs' ∧ FTy G h h' ∧ fI h' (gW G 2) 45 = nI (i + (enc s).length) ∧ MDm G h' mv' ∧ ∀ k x, mv' k = some x → x < M') ∧ RdN M τ M' τ' mv mv' ∧ (t < M' ∧ (t < M → t < 3 ∨ ∃ k, mv k = some t)) ∧
  ((∀ z, z < M → fs' z = fs z) ∧ ∀ z, M ≤ z → z < M' → Pn ≤ fs' z) ∧ ((∀ z, z < M → aI h' (gW G 1032) z = aI h (gW G 1032) z ∧ aI h' (gW G 1033) z = aI h (gW G 1033) z) ∧ ∀ z, M ≤ z → z < M' → aI h' (gW G 1032) z = -1 ∧ aI h' (gW G 1033) z = nI 0) ∧ (Pn ≤ Pn' ∧ pS (uP τ') M' + Pn ≤ pS (uP τ) M + Pn' ∧ M' ≤ M + (enc s).length ∧ Pn' + 1 ≤ Pn + (enc s).length) ∧
  (∀ w, M ≤ w → w < M' → 0 ≤ uN τ' w → NmT G h (uN τ' w) (uP τ' w).length) ∧ (∀ ρ : Nat → Tr, (ρ 0 = gt 7 [] ∧ ρ 1 = gt 8 [] ∧ ρ 2 = gt 9 []) → (∀ w, M ≤ w → w < M' → 0 ≤ uN τ' w → ρ w = gt (uN τ' w) ((uP τ' w).map ρ)) → ρ t = ins (fun k => ρ ((mv' k.toNat).getD 0)) (fun _ => gt 9 []) s) ∧ ∀ k, gV s k → mv' k.toNat ≠ none
/-- where the j-th part of a row of schemes is written -/
theorem enc_at {l : List Tr} {j : Nat} {x : Tr} (h : l[j]? = some x) (r : Nat) (v : Int) (hr : (enc x)[r]? = some v) : (l.map enc).flatten[(((l.take j).map enc).flatten).length + r]? = some v := by
  have e : l = l.take j ++ x :: l.drop (j + 1) := by
    have hj := (List.getElem?_eq_some_iff.mp h)
    obtain ⟨hj1, hj2⟩ := hj
    rw [← hj2, List.getElem_cons_drop, List.take_append_drop]
  have e2 : (l.map enc).flatten = ((l.take j).map enc).flatten ++ (enc x ++ ((l.drop (j + 1)).map enc).flatten) := by
    conv => lhs; rw [e]
    rw [List.map_append, List.flatten_append, List.map_cons, List.flatten_cons]
  have hl := (List.getElem?_eq_some_iff.mp hr).1
  rw [e2, List.getElem?_append_right (by omega), Nat.add_sub_cancel_left, List.getElem?_append_left hl]
  exact hr
theorem enc_take {l : List Tr} {j : Nat} {x : Tr} (h : l[j]? = some x) : (((l.take (j + 1)).map enc).flatten).length = (((l.take j).map enc).flatten).length + (enc x).length := by
  rw [List.take_add_one, h, List.map_append, List.flatten_append, List.length_append]
  show _ + (enc x ++ []).length = _
  rw [List.append_nil]
theorem enc_tle (l : List Tr) (j : Nat) : (((l.take j).map enc).flatten).length ≤ ((l.map enc).flatten).length := by
  conv => rhs; rw [← List.take_append_drop j l]
  rw [List.map_append, List.flatten_append, List.length_append]
  omega
section
variable {G : Gh} {arr : Nat}
theorem c_nx (hD : DW (gW G)) (har : ∀ i, i ∈ TyC → arr ≠ gW G i) : ∀ n s D h M Pn τ fs mv i, sOK G h n s → n + 3 ≤ D → TyS G h M Pn τ fs → (fI h (gW G 2) 42 = nI 0 ∧ fI h (gW G 2) 43 = nI 1 ∧ fI h (gW G 2) 44 = nI 2) → fI h (gW G 2) 45 = nI i → hK h arr = 1000 → i + (enc s).length ≤ hL h arr → hL h arr < 100000 → RwA h arr i (enc s) → MDm G h mv → (∀ k x, mv k = some x → x < M) → 3 ≤ M → M + (enc s).length ≤ 150000 → Pn + (enc s).length ≤ 150000 → C G mX3_next D [.ref (gW G 2), .ref arr] h (nxQ G h M Pn τ fs mv i s) := by
  intro n
  induction n with
  | zero => intro s D h M Pn τ fs mv i hs; exact hs.elim
  | succ n ih =>
    intro s D h M Pn τ fs mv i hs hDp k f42 f45 hka hla hla2 hrw md hmv h3 hBM hBP
    obtain ⟨D, rfl⟩ : ∃ D', D = D' + 2 := ⟨D - 2, by omega⟩
    have s2 := k.1.at (i := 2) (by decide)
    have kw : hK h (gW G 2) = 3 := s2.1
    have hlen : 1 ≤ (enc s).length := by
      rcases hs with ⟨q, e, -⟩ | ⟨q, l, e, -⟩
      · rw [e]; exact Nat.le_refl _
      · rw [e, enc_gt, List.length_cons]; omega
    have e0 : ∀ v l, enc s = v :: l → (aI h arr i).toInt = v := fun v l e => by
      have := hrw 0 v (by rw [e]; rfl)
      exact this
    refine bX3_next G (D + 1) h _ _ s2 ⟨hka, ?_⟩
    rw [f45, nI_cn (by omega), nI_1]
    refine ⟨vp_in_nI (by omega) (by omega), fun x3 e3 h4 e4 => ?_⟩
    obtain ⟨k4, T4⟩ := k.pf (Or.inr (Or.inl rfl)) e4
    have a4 : ∀ b j, aI h4 b j = aI h b j := fun b j => by rw [e4, aI_pI]
    have g45 : fI h4 (gW G 2) 45 = nI (i + 1) := by rw [e4, fI_pI, if_pos ⟨rfl, rfl⟩]
    have g42 : fI h4 (gW G 2) 42 = nI 0 ∧ fI h4 (gW G 2) 43 = nI 1 ∧ fI h4 (gW G 2) 44 = nI 2 := by
      rw [e4, fI_pI, fI_pI, fI_pI, if_neg (fun z => absurd z.2 (by decide)), if_neg (fun z => absurd z.2 (by decide)), if_neg (fun z => absurd z.2 (by decide))]
      exact f42
    have md4 : MDm G h4 mv := fun q hq => by rw [a4]; exact md q hq
    -- nothing new
    have same : ∀ t, (t < 3 ∨ ∃ q, mv q = some t) → (enc s).length = 1 → (∀ ρ : Nat → Tr, (ρ 0 = gt 7 [] ∧ ρ 1 = gt 8 [] ∧ ρ 2 = gt 9 []) → ρ t = ins (fun k => ρ ((mv k.toNat).getD 0)) (fun _ => gt 9 []) s) → (∀ k, gV s k → mv k.toNat ≠ none) → nxQ G h M Pn τ fs mv i s (.returned (some (.int (nI t)))) h4 := by
      intro t ht hl hv hg
      have htM : t < M := by
        rcases ht with q | ⟨q, hq⟩
        · omega
        · exact hmv q t hq
      exact ⟨t, M, Pn, τ, fs, mv, rfl, ⟨k4, T4, by rw [hl]; exact g45, md4, hmv⟩, RdN.rf, ⟨htM, fun _ => ht⟩, ⟨fun _ _ => rfl, fun z h1 h2 => by omega⟩, ⟨fun z _ => ⟨a4 _ _, a4 _ _⟩, fun z h1 h2 => by omega⟩, ⟨Nat.le_refl _, Nat.le_refl _, by omega, by omega⟩, fun w h1 h2 => by omega, fun ρ h1 _ => hv ρ h1, hg⟩
    rcases hs with ⟨q, es, hq⟩ | ⟨nn, l, es, hnm, hch⟩
    · -- a variable
      have ev : enc s = [-1 - (q : Int)] := by rw [es]; rfl
      have hx3 : x3.toInt = -1 - (q : Int) := by rw [e3]; exact e0 _ _ ev
      have hneg : ¬ (0 : Int32) ≤ x3 := by
        rw [Int32.le_iff_toInt_le, hx3]
        show ¬ (0 : Int) ≤ _
        omega
      have e1 : -1 - x3 = nI q := by
        rw [i_eq, i_sub, hx3, nI_toInt (by omega)]
        · show -1 - (-1 - (q : Int)) = q; omega
        · rw [hx3]; show _ ≤ -1 - (-1 - (q : Int)); omega
        · rw [hx3]; show -1 - (-1 - (q : Int)) ≤ _; omega
      refine ⟨fun z => absurd z hneg, fun _ => ?_⟩
      rw [e1, nI_cn (by omega), a4]
      have hl1 : (enc s).length = 1 := by rw [ev]; rfl
      refine ⟨vp_in_nI (by omega) (by decide), fun z => ⟨vp_in_nI (by omega) (by decide), ?_⟩, fun z => ?_⟩
      · cases em : mv q with
        | none =>
          have := (md q hq).2 em
          rw [Int32.le_iff_toInt_le] at z
          change (0 : Int) ≤ _ at z
          omega
        | some x =>
          rw [(md q hq).1 x em]
          refine same x (Or.inr ⟨q, em⟩) hl1 (fun ρ _ => ?_) fun j hj => ?_
          · rw [es]
            show ρ x = ρ ((mv (q : Int).toNat).getD 0)
            rw [Int.toNat_natCast, em]
            rfl
          · rw [es] at hj
            change (q : Int) = j at hj
            rw [← hj, Int.toNat_natCast, em]
            exact fun w => by cases w
      · have em : mv q = none := by
          cases em : mv q with
          | none => rfl
          | some x =>
            rw [(md q hq).1 x em] at z
            exact absurd (nI_pos' (by have := hmv q x em; omega)) z
        refine C.use (c_var (d := D) k4 hD (by omega)) (by decide) ?_
        rintro _ h26 ⟨rfl, k26, T26, nd⟩ lm -
        refine KI.i ⟨vp_in_nI (by omega) (by decide), fun h30 e30 => ⟨vp_in_nI (by omega) (by decide), ?_⟩⟩
        obtain ⟨k30, T30⟩ := k26.ot hD (Or.inr (Or.inr (Or.inr rfl))) e30
        have e46 : aI h30 (gW G 1046) q = nI M := by rw [e30, aI_sI, if_pos ⟨rfl, rfl⟩]
        rw [e46]
        have l46 := (lm.a hD (kw1046 (k4.1.at (i := 2) (by decide))) (by decide) (by decide) (by decide) (by decide) (by decide)).1
        have n30 : ∀ i, (i = 1032 ∨ i = 1033) → ∀ z, aI h30 (gW G i) z = aI h26 (gW G i) z := fun i hi z => by
          rw [e30, aI_sI, if_neg (fun w => by
            have := hD i 1046 (by rcases hi with rfl | rfl <;> decide) (by decide) w.1
            omega)]
        have tw : ∀ {α : Type} (x : Nat) (u v : α), x < M → (if x = M then u else v) = v := fun x u v hx => if_neg (by omega)
        have tM : ∀ {α : Type} (u v : α), (if M = M then u else v) = u := fun u v => if_pos rfl
        refine ⟨M, M + 1, Pn, tNew τ M (-1), updF fs M Pn, fun j => if j = q then some M else mv j, rfl, ⟨k30, (T4.tr T26).tr T30, ?_, fun j hj => ?_, fun j x hx => ?_⟩, ⟨by omega, fun x hx => ⟨tw x _ _ hx, tw x _ _ hx, tw x _ _ hx⟩, fun w h1 h2 => ?_, fun j x hx => ?_, fun j x h1 h2 => ?_, fun j j' x h1 h2 h3 h4 => ?_⟩, ⟨by omega, fun w => by omega⟩, ⟨fun z hz => tw z _ _ hz, fun z h1 h2 => ?_⟩, ⟨fun z hz => ?_, fun z h1 h2 => ?_⟩, ⟨Nat.le_refl _, ?_, by omega, by omega⟩, fun w h1 h2 h4 => ?_, fun ρ h1 _ => ?_, fun j hj => ?_⟩
        · rw [e30]
          show fI h26 (gW G 2) 45 = _
          rw [lm.fi (k4.1.at (i := 2) (by decide)).1 (by decide) (by decide), hl1]
          exact g45
        · rw [e30, aI_sI, l46, a4]
          by_cases c : j = q
          · have hm : (fun j => if j = q then some M else mv j) j = some M := if_pos c
            rw [if_pos ⟨rfl, c⟩, hm]
            exact ⟨fun x hx => (by cases hx; rfl), fun w => (by cases w)⟩
          · have hm : (fun j => if j = q then some M else mv j) j = mv j := if_neg c
            rw [if_neg (fun w => c w.2), hm]
            exact md j hj
        · dsimp only at hx
          by_cases c : j = q
          · rw [if_pos c] at hx; cases hx; omega
          · rw [if_neg c] at hx
            have := hmv j x hx
            omega
        · have e : w = M := by omega
          rw [e]
          exact ⟨tM _ _, Or.inl ⟨tM _ _, tM _ _⟩⟩
        · dsimp only
          rw [if_neg (fun c => (by rw [c, em] at hx; cases hx))]
          exact hx
        · dsimp only at h2
          by_cases c : j = q
          · rw [if_pos c] at h2
            cases h2
            exact ⟨Nat.le_refl _, by omega, tM _ _⟩
          · rw [if_neg c, h1] at h2; cases h2
        · dsimp only at h3 h4
          by_cases c : j = q
          · by_cases c' : j' = q
            · rw [c, c']
            · rw [if_neg c', h2] at h4; cases h4
          · rw [if_neg c, h1] at h3; cases h3
        · rw [show z = M by omega]
          exact Nat.le_of_eq (tM _ _).symm
        · rw [n30 1032 (Or.inl rfl), n30 1033 (Or.inr rfl), nd.1, nd.2.1, if_neg (by omega), if_neg (by omega), a4, a4]
          exact ⟨rfl, rfl⟩
        · rw [n30 1032 (Or.inl rfl), n30 1033 (Or.inr rfl), nd.1, nd.2.1, if_pos (by omega), if_pos (by omega)]
          exact ⟨rfl, rfl⟩
        · show pS (uP (tNew τ M (-1))) M + (uP (tNew τ M (-1)) M).length + Pn ≤ _
          rw [show uP (tNew τ M (-1)) M = [] from tM _ _, pS_cg M fun x hx => (show uP (tNew τ M (-1)) x = uP τ x from tw x _ _ hx)]
          exact Nat.le_refl _
        · rw [show w = M by omega, show uN (tNew τ M (-1)) M = -1 from tM _ _] at h4
          exact absurd h4 (by decide)
        · rw [es]
          show ρ M = ρ ((if (q : Int).toNat = q then some M else mv (q : Int).toNat).getD 0)
          rw [Int.toNat_natCast, if_pos rfl]
          rfl
        · rw [es] at hj
          change (q : Int) = j at hj
          dsimp only
          rw [← hj, Int.toNat_natCast, if_pos rfl]
          exact fun w => by cases w
    · have ev : enc s = (nn : Int) :: (l.map enc).flatten := by rw [es, enc_gt]
      have hx3 : x3.toInt = (nn : Int) := by rw [e3]; exact e0 _ _ ev
      have hn212 := hnm.1.2.1
      have ex3 : x3 = nI nn := by rw [i_eq, hx3, nI_toInt (by omega)]
      have hnm4 := hnm.mv T4 k.1 hD
      obtain ⟨⟨-, -, hl6⟩, b, b1, b2, b3⟩ := id hnm4
      rw [Int.toNat_natCast] at b1
      rw [ex3]
      have hel : (enc s).length = 1 + ((l.map enc).flatten).length := by rw [ev, List.length_cons]; omega
      refine ⟨fun _ => ?_, fun z => absurd (nI_pos' (by omega)) z⟩
      rw [nI_cn (by omega)]
      refine ⟨vp_in_nI (by omega) (by decide), b, b1, b2, ?_⟩
      rintro _ rfl
      rw [b3]
      have tw : ∀ {α : Type} (x : Nat) (u v : α), x < M → (if x = M then u else v) = v := fun x u v hx => if_neg (by omega)
      have tM : ∀ {α : Type} (u v : α), (if M = M then u else v) = u := fun u v => if_pos rfl
      refine ⟨fun z0 => ?_, fun z0 => ?_⟩
      · have hl0 : l = [] := by
          have := (nI_lit (m := l.length) (k := 0) (by omega) (by decide)).mp z0
          exact List.eq_nil_of_length_eq_zero this
        have hl1 : (enc s).length = 1 := by rw [hel, hl0]; rfl
        have hv : ∀ θ ρ, ins θ ρ s = gt nn [] := fun θ ρ => by rw [es, hl0, ins_gt]; rfl
        have hg : ∀ k, gV s k → mv k.toNat ≠ none := fun j hj => by
          rw [es, hl0] at hj
          exact hj.elim
        have lit : ∀ q : Nat, q < 100 → (nI nn = OfNat.ofNat q) = (nn = q) := fun q hq => nI_lit (by omega) (by omega)
        refine ⟨fun c => ?_, fun c7 => ⟨fun c => ?_, fun c8 => ⟨fun c => ?_, fun c9 => ?_⟩⟩⟩
        · have c' : nn = 7 := (lit 7 (by decide)).mp c
          rw [g42.1]
          exact same 0 (Or.inl (by decide)) hl1 (fun ρ h => by rw [hv, c']; exact h.1) hg
        · have c' : nn = 8 := (lit 8 (by decide)).mp c
          rw [g42.2.1]
          exact same 1 (Or.inl (by decide)) hl1 (fun ρ h => by rw [hv, c']; exact h.2.1) hg
        · have c' : nn = 9 := (lit 9 (by decide)).mp c
          rw [g42.2.2]
          exact same 2 (Or.inl (by decide)) hl1 (fun ρ h => by rw [hv, c']; exact h.2.2) hg
        · refine C.use (Q := fun o h' => o = .returned (some (.int (nI M))) ∧ TyS G h' (M + 1) Pn (tNew τ M nn) (updF fs M Pn) ∧ FTy G h4 h' ∧ NdA G h4 h' M) (bX3_built G D h4 _ _ (k4.1.at (by decide)) (C.mono (c_nd k4 hD (by omega)) ?_)) (by decide) ?_
          · rintro _ h20 ⟨rfl, k20, T20, nd⟩
            rw [nI_toInt (by omega)] at k20
            exact KI.i ⟨rfl, k20, T20, nd⟩
          rintro _ h20 ⟨rfl, k20, T20, nd⟩ lm -
          have l46 := (lm.a hD (kw1046 (k4.1.at (i := 2) (by decide))) (by decide) (by decide) (by decide) (by decide) (by decide)).1
          have eN : uN (tNew τ M nn) M = nn := tM _ _
          have eP : uP (tNew τ M nn) M = [] := tM _ _
          refine KI.i ⟨M, M + 1, Pn, tNew τ M nn, updF fs M Pn, mv, rfl, ⟨k20, T4.tr T20, ?_, fun j hj => by rw [l46, a4]; exact md j hj, fun j x hx => by have := hmv j x hx; omega⟩, ⟨by omega, fun x hx => ⟨tw x _ _ hx, tw x _ _ hx, tw x _ _ hx⟩, fun w h1 h2 => ?_, fun j x hx => hx, fun j x h1 h2 => (by rw [h1] at h2; cases h2), fun j j' x h1 h2 h3 => (by rw [h1] at h3; cases h3)⟩, ⟨by omega, fun w => by omega⟩, ⟨fun z hz => tw z _ _ hz, fun z h1 h2 => ?_⟩, ⟨fun z hz => ?_, fun z h1 h2 => ?_⟩, ⟨Nat.le_refl _, ?_, by omega, by omega⟩, fun w h1 h2 h4 => ?_, fun ρ h1 h2 => ?_, hg⟩
          · rw [lm.fi (k4.1.at (i := 2) (by decide)).1 (by decide) (by decide), hl1]
            exact g45
          · rw [show w = M by omega, eN, eP]
            exact ⟨tM _ _, Or.inr ⟨by omega, fun p hp => (by cases hp)⟩⟩
          · rw [show z = M by omega]
            exact Nat.le_of_eq (tM _ _).symm
          · rw [nd.1, nd.2.1, if_neg (by omega), if_neg (by omega), a4, a4]
            exact ⟨rfl, rfl⟩
          · rw [nd.1, nd.2.1, if_pos (by omega), if_pos (by omega)]
            exact ⟨rfl, rfl⟩
          · show pS (uP (tNew τ M nn)) M + (uP (tNew τ M nn) M).length + Pn ≤ _
            rw [eP, pS_cg M fun x hx => (show uP (tNew τ M nn) x = uP τ x from tw x _ _ hx)]
            exact Nat.le_refl _
          · rw [show w = M by omega, eN, eP]
            rw [hl0] at hnm
            exact hnm
          · rw [hv, h2 M (Nat.le_refl _) (by omega) (by rw [eN]; omega), eN, eP]
            rfl
      · refine C.use (c_nd k4 hD (by omega)) (by decide) ?_
        rintro _ h12 ⟨rfl, k12, T12, nd⟩ lm -
        rw [nI_toInt (by omega)] at k12
        refine KI.i fun h15 e15 => ?_
        rw [k12.2.2.1, nI_add] at e15
        have hlg : ∀ l : List Tr, (∀ x, x ∈ l → sOK G h n x) → l.length ≤ ((l.map enc).flatten).length := by
          intro l
          induction l with
          | nil => intro _; exact Nat.zero_le _
          | cons a l ih2 =>
            intro hl
            have h1 := ih2 fun x hx => hl x (List.mem_cons_of_mem _ hx)
            have h2 : 1 ≤ (enc a).length := by
              have := hl a (List.mem_cons_self ..)
              cases n with
              | zero => exact this.elim
              | succ n =>
                rcases this with ⟨q, e, -⟩ | ⟨q, l, e, -⟩
                · rw [e]; exact Nat.le_refl _
                · rw [e, enc_gt, List.length_cons]; omega
            rw [List.map_cons, List.flatten_cons, List.length_cons, List.length_append]
            omega
        have hll := hlg l hch
        obtain ⟨k15, T15⟩ := k12.room (n := l.length) (by omega) e15
        have l46 := (lm.a hD (kw1046 (k4.1.at (i := 2) (by decide))) (by decide) (by decide) (by decide) (by decide) (by decide)).1
        have a15 : ∀ b j, aI h15 b j = aI h12 b j := fun b j => by rw [e15, aI_pI]
        have lp : ∀ f j hj Mj Pj τj fj mj ts, l.length - j < f → j ≤ l.length → ts.length = j → (TyS G hj Mj Pj τj fj ∧ FTy G h hj ∧ fI hj (gW G 2) 45 = nI (i + 1 + (((l.take j).map enc).flatten).length) ∧ MDm G hj mj ∧ ∀ k x, mj k = some x → x < Mj) → RdN M τ Mj τj mv mj → (M < Mj ∧ uN τj M = nn ∧ uP τj M = ts) → ((∀ z, z < M → fj z = fs z) ∧ fj M = Pn ∧ ∀ z, M < z → z < Mj → Pn + l.length ≤ fj z) → ((∀ z, z < M → aI hj (gW G 1032) z = aI h (gW G 1032) z ∧ aI hj (gW G 1033) z = aI h (gW G 1033) z) ∧ ∀ z, M ≤ z → z < Mj → aI hj (gW G 1032) z = -1 ∧ aI hj (gW G 1033) z = nI 0) → (Pn + l.length ≤ Pj ∧ pS (uP τj) Mj + Pn + l.length ≤ pS (uP τ) M + Pj + j ∧ Mj ≤ M + 1 + (((l.take j).map enc).flatten).length ∧ Pj + j ≤ Pn + l.length + (((l.take j).map enc).flatten).length) → (∀ w, M < w → w < Mj → 0 ≤ uN τj w → NmT G h (uN τj w) (uP τj w).length) → (∀ ρ : Nat → Tr, (ρ 0 = gt 7 [] ∧ ρ 1 = gt 8 [] ∧ ρ 2 = gt 9 []) → (∀ w, M < w → w < Mj → 0 ≤ uN τj w → ρ w = gt (uN τj w) ((uP τj w).map ρ)) → ts.map ρ = (l.take j).map (ins (fun k => ρ ((mj k.toNat).getD 0)) (fun _ => gt 9 []))) → (∀ x, x ∈ l.take j → ∀ k, gV x k → mj k.toNat ≠ none) → (fI hj (gW G 2) 42 = nI 0 ∧ fI hj (gW G 2) 43 = nI 1 ∧ fI hj (gW G 2) 44 = nI 2) →
            X G mX3_next (D + 2) none [] 132 [(0, .ref (gW G 2)), (1, .ref arr), (3, .int (nI l.length)), (4, .int (nI M)), (5, .int (nI j))] [] hj (nxQ G h M Pn τ fs mv i s) := by
          intro f
          induction f with
          | zero => intro j hj Mj Pj τj fj mj ts hf; omega
          | succ f IH =>
            intro j hj Mj Pj τj fj mj ts hf hjl htl ⟨kj, Tj, f45j, mdj, hmj⟩ rd ⟨hMj, eNj, ePj⟩ ⟨fs1, fs2, fs3⟩ ⟨ar1, ar2⟩ ⟨p1, p2, p3, p4⟩ nmj val hgv f42j
            have hM' := kj.2.2.2.1
            have hPj := kj.2.2.2.2.1
            refine bX3_next_132 G (D + 1) hj _ _ _ _ _ (kj.1.at (by decide)) ?_
            rw [nI_leI (by omega) (by omega)]
            have tl := enc_tle l j
            refine ⟨fun hle => ?_, fun hle => ?_⟩
            · have ej : j = l.length := by omega
              rw [ej, List.take_length] at p3 p4 val hgv f45j
              refine ⟨M, Mj, Pj, τj, fj, mj, rfl, ⟨kj, Tj, by rw [hel, f45j]; congr 1; omega, mdj, hmj⟩, rd, ⟨hMj, fun w => by omega⟩, ⟨fs1, fun z h1 h2 => ?_⟩, ⟨ar1, ar2⟩, ⟨by omega, by omega, by omega, by omega⟩, fun w h1 h2 h4 => ?_, fun ρ h1 h2 => ?_, fun q hq => ?_⟩
              · by_cases c : z = M
                · rw [c, fs2]; exact Nat.le_refl _
                · have := fs3 z (by omega) h2
                  omega
              · by_cases c : w = M
                · rw [c, eNj, ePj, htl, ej]; exact hnm
                · exact nmj w (by omega) h2 h4
              · rw [h2 M (Nat.le_refl _) hMj (by rw [eNj]; omega), eNj, ePj, val ρ h1 fun w h3 h4 => h2 w (by omega) h4, es, ins_gt]
              · rw [es] at hq
                obtain ⟨x, hx, hxq⟩ := (gV_ls l q).mp hq
                exact hgv x hx q hxq
            · have hjl2 : j < l.length := by omega
              obtain ⟨x, hx⟩ : ∃ x, l[j]? = some x := ⟨_, List.getElem?_eq_getElem hjl2⟩
              have hxl := List.mem_of_getElem? hx
              have tk := enc_take hx
              have tl2 : (((l.take (j + 1)).map enc).flatten).length + (l.length - (j + 1)) ≤ ((l.map enc).flatten).length := by
                have h1 := hlg (l.drop (j + 1)) fun x hx => hch x (List.mem_of_mem_drop hx)
                rw [List.length_drop] at h1
                conv => rhs; rw [← List.take_append_drop (j + 1) l]
                rw [List.map_append, List.flatten_append, List.length_append]
                omega
              have u := Tj.1 arr har
              refine C.use (ih x (D + 1) hj Mj Pj τj fj mj (i + 1 + (((l.take j).map enc).flatten).length) (sOK.mv Tj k.1 hD n x (hch x hxl)) (by omega) kj f42j f45j (by rw [u.1]; exact hka) (by rw [u.2.1]; omega) (by rw [u.2.1]; exact hla2) (fun r v hr => ?_) mdj hmj (by omega) (by omega) (by omega)) (by decide) ?_
              · rw [u.2.2.1]
                have := hrw (1 + ((((l.take j).map enc).flatten).length + r)) v (by
                  rw [ev, Nat.add_comm 1, List.getElem?_cons_succ]
                  exact enc_at hx r v hr)
                rw [show i + 1 + (((l.take j).map enc).flatten).length + r = i + (1 + ((((l.take j).map enc).flatten).length + r)) by omega]
                exact this
              · rintro _ h2 ⟨t, M2, P2, τ2, f2, m2, rfl, ⟨k2, T2, f452, md2, hm2⟩, rd2, ⟨ht1, ht2⟩, ⟨fs4, fs5⟩, ⟨ar3, ar4⟩, ⟨p5, p6, p7, p8⟩, nm2, val2, hgv2⟩ lm2 -
                obtain ⟨rd2a, rd2b, rd2c, rd2d, rd2e, rd2f⟩ := id rd2
                obtain ⟨rda, rdb, rdc, rdd, rde, rdf⟩ := id rd
                have hM2' := k2.2.2.2.1
                have hP2' := k2.2.2.2.2.1
                obtain ⟨-, -, -, g4, -, -⟩ := k2.2.2.2.2.2 M (by omega)
                have efM : f2 M = Pn := by rw [fs4 M hMj]; exact fs2
                have ePM : uP τ2 M = ts := by rw [(rd2b M hMj).2.1]; exact ePj
                have eNM : uN τ2 M = nn := by rw [(rd2b M hMj).1]; exact eNj
                refine KI.i ⟨vp_in_nI (by omega) (by decide), ?_⟩
                rw [nI_cn (by omega), g4, efM, nI_add, nI_cn (by omega)]
                refine ⟨vp_in_nI (by omega) (by decide), fun h7 e7 => ?_⟩
                rintro _ rfl
                rw [nI_1]
                obtain ⟨k7, T7⟩ := k2.fill (x := M) (a := t) hD (by omega) ht1 (by rw [efM, ePM, htl]) (by omega) (fun z hz hne => (by
                  by_cases c : z < M
                  · left
                    have h1 := (k.2.2.2.2.2 z c).2.2.2.2.1
                    rw [fs4 z (by omega), fs1 z c, (rd2b z (by omega)).2.1, (rdb z c).2.1]
                    omega
                  · right
                    by_cases c2 : z < Mj
                    · have := fs3 z (by omega) c2
                      rw [fs4 z c2]
                      omega
                    · have := fs5 z (by omega) hz
                      omega)) e7
                have na : ∀ i, (i = 1032 ∨ i = 1033 ∨ i = 1046) → ∀ z, aI h7 (gW G i) z = aI h2 (gW G i) z := fun i hi z => by
                  rw [e7, aI_sI, if_neg (fun w => by
                    have := hD i 1035 (by rcases hi with rfl | rfl | rfl <;> decide) (by decide) w.1
                    omega)]
                have ap : ∀ w, uP (tApp τ2 M t) w = if w = M then uP τ2 w ++ [t] else uP τ2 w := fun _ => rfl
                have rdt := rd.tr h3 hmv rd2
                obtain ⟨rta, rtb, rtc, rtd, rte, rtf⟩ := id rdt
                have tcond : t < M2 ∧ (t < M → t < 3 ∨ ∃ k, mv k = some t) ∧ (M ≤ t → 0 ≤ uN τ2 t → M < t) := by
                  refine ⟨ht1, fun hq => ?_, fun h4 h5 => ?_⟩
                  · rcases ht2 (by omega) with c | ⟨q, c⟩
                    · exact Or.inl c
                    · cases e : mv q with
                      | none => have := rde q t e c; omega
                      | some y =>
                        have := rdd q y e
                        rw [c] at this
                        cases this
                        exact Or.inr ⟨q, e⟩
                  · by_cases c : t < Mj
                    · rcases ht2 c with c2 | ⟨q, c2⟩
                      · omega
                      · cases e : mv q with
                        | none =>
                          have := (rde q t e c2).2.2
                          rw [(rd2b t c).1, this] at h5
                          exact absurd h5 (by decide)
                        | some y =>
                          have := rdd q y e
                          rw [c2] at this
                          cases this
                          have := hmv q t e
                          omega
                    · omega
                refine IH (j + 1) h7 M2 P2 (tApp τ2 M t) f2 m2 (ts ++ [t]) (by omega) (by omega) (by rw [List.length_append, List.length_singleton, htl]) ⟨k7, (Tj.tr T2).tr T7, ?_, fun q hq => by rw [na 1046 (by decide)]; exact md2 q hq, hm2⟩ ⟨rta, fun w hw => ?_, fun w h1 h2' => ?_, rtd, rte, rtf⟩ ⟨by omega, eNM, by rw [ap, if_pos rfl, ePM]⟩ ⟨fun z hz => by rw [fs4 z (by omega)]; exact fs1 z hz, efM, fun z h1 h2' => ?_⟩ ⟨fun z hz => ?_, fun z h1 h2' => ?_⟩ ⟨by omega, ?_, by omega, by omega⟩ (fun w h1 h2' h4 => ?_) (fun ρ h1 h2' => ?_) (fun y hy q hq => ?_) ?_
                · rw [e7]
                  show fI h2 (gW G 2) 45 = _
                  rw [f452, tk]
                  congr 1
                  omega
                · rw [ap, if_neg (by omega)]
                  exact rtb w hw
                · obtain ⟨c1, c2⟩ := rtc w h1 h2'
                  refine ⟨c1, ?_⟩
                  rw [ap]
                  by_cases c : w = M
                  · rw [if_pos c, c]
                    refine Or.inr ⟨by show 0 ≤ uN τ2 M; rw [eNM]; omega, fun p hp => ?_⟩
                    rcases List.mem_append.mp hp with hp | hp
                    · rw [c] at c2
                      rcases c2 with ⟨c2, -⟩ | ⟨-, c2⟩
                      · rw [eNM] at c2; omega
                      · exact c2 p hp
                    · rw [(List.mem_cons.mp hp).resolve_right fun w => by cases w]
                      exact tcond
                  · rw [if_neg c]
                    exact c2
                · by_cases c : z < Mj
                  · rw [fs4 z c]; exact fs3 z h1 c
                  · have := fs5 z (by omega) h2'
                    omega
                · rw [na 1032 (by decide), na 1033 (by decide), (ar3 z (by omega)).1, (ar3 z (by omega)).2]
                  exact ar1 z hz
                · rw [na 1032 (by decide), na 1033 (by decide)]
                  by_cases c : z < Mj
                  · rw [(ar3 z c).1, (ar3 z c).2]
                    exact ar2 z h1 c
                  · exact ar4 z (by omega) h2'
                · have pa : ∀ K, M < K → pS (uP (tApp τ2 M t)) K = pS (uP τ2) K + 1 := by
                    intro K
                    induction K with
                    | zero => intro h; omega
                    | succ K ihK =>
                      intro hK
                      show pS (uP (tApp τ2 M t)) K + (uP (tApp τ2 M t) K).length = pS (uP τ2) K + (uP τ2 K).length + 1
                      rw [ap]
                      by_cases c : K = M
                      · rw [if_pos c, List.length_append, List.length_singleton, pS_cg K fun x hx => by rw [ap, if_neg (by omega)]]
                        omega
                      · rw [if_neg c, ihK (by omega)]
                        omega
                  rw [pa M2 (by omega)]
                  omega
                · rw [ap, if_neg (by omega)]
                  by_cases c : w < Mj
                  · change 0 ≤ uN τ2 w at h4
                    rw [show uN (tApp τ2 M t) w = uN τ2 w from rfl, (rd2b w c).1, (rd2b w c).2.1]
                    rw [(rd2b w c).1] at h4
                    exact nmj w h1 c h4
                  · exact (nm2 w (by omega) h2' h4).bk Tj k.1 hD
                · have v1 := val ρ h1 fun w h3 h4 h5 => (by
                    have := h2' w h3 (by omega) (by show 0 ≤ uN τ2 w; rw [(rd2b w h4).1]; exact h5)
                    rw [ap, if_neg (by omega), show uN (tApp τ2 M t) w = uN τ2 w from rfl, (rd2b w h4).1, (rd2b w h4).2.1] at this
                    exact this)
                  have v2 := val2 ρ h1 fun w h3 h4 h5 => (by
                    have := h2' w (by omega) h4 h5
                    rw [ap, if_neg (by omega)] at this
                    exact this)
                  rw [List.map_append, v1, List.take_add_one, hx, List.map_append]
                  show _ ++ [ρ t] = _ ++ [ins _ _ x]
                  rw [v2]
                  congr 1
                  refine List.map_congr_left fun y hy => ins_ck y fun q hq => ?_
                  have := hgv y hy q hq
                  cases e : mj q.toNat with
                  | none => exact absurd e this
                  | some z => rw [rd2d _ z e]
                · rw [List.take_add_one, hx] at hy
                  rcases List.mem_append.mp hy with hy | hy
                  · have := hgv y hy q hq
                    cases e : mj q.toNat with
                    | none => exact absurd e this
                    | some z => rw [rd2d _ z e]; exact fun w => by cases w
                  · rw [(List.mem_cons.mp hy).resolve_right fun w => by cases w] at hq
                    exact hgv2 q hq
                · have sj := kj.1.at (i := 2) (by decide)
                  rw [e7]
                  show fI h2 (gW G 2) 42 = _ ∧ fI h2 (gW G 2) 43 = _ ∧ fI h2 (gW G 2) 44 = _
                  rw [(lm2.ff sj.1 (by decide) (by decide)).1, (lm2.ff sj.1 (by decide) (by decide)).1, (lm2.ff sj.1 (by decide) (by decide)).1]
                  exact f42j
        have s4 := k4.1.at (i := 2) (by decide)
        refine lp (l.length + 1) 0 h15 (M + 1) (Pn + l.length) (tNew τ M nn) (updF fs M Pn) mv [] (by omega) (by omega) rfl ⟨k15, (T4.tr T12).tr T15, ?_, fun q hq => by rw [a15, l46, a4]; exact md q hq, fun q x hx => by have := hmv q x hx; omega⟩ ⟨by omega, fun x hx => ⟨tw x _ _ hx, tw x _ _ hx, tw x _ _ hx⟩, fun w h1 h2 => ?_, fun j x hx => hx, fun j x h1 h2 => (by rw [h1] at h2; cases h2), fun j j' x h1 h2 h3 => (by rw [h1] at h3; cases h3)⟩ ⟨by omega, tM _ _, tM _ _⟩ ⟨fun z hz => tw z _ _ hz, tM _ _, fun z h1 h2 => by omega⟩ ⟨fun z hz => ?_, fun z h1 h2 => ?_⟩ ⟨Nat.le_refl _, ?_, by show M + 1 ≤ M + 1 + 0; omega, by show Pn + l.length + 0 ≤ Pn + l.length + 0; omega⟩ (fun w h1 h2 => by omega) (fun ρ _ _ => rfl) (fun x hx => (by cases hx)) ?_
        · rw [e15, fI_pI, if_neg (fun z => absurd z.2 (by decide)), lm.fi s4.1 (by decide) (by decide)]
          exact g45
        · rw [show w = M by omega, show uN (tNew τ M nn) M = nn from tM _ _, show uP (tNew τ M nn) M = [] from tM _ _]
          exact ⟨tM _ _, Or.inr ⟨by omega, fun p hp => (by cases hp)⟩⟩
        · rw [a15, a15, nd.1, nd.2.1, if_neg (by omega), if_neg (by omega), a4, a4]
          exact ⟨rfl, rfl⟩
        · rw [a15, a15, nd.1, nd.2.1, if_pos (by omega), if_pos (by omega)]
          exact ⟨rfl, rfl⟩
        · show pS (uP (tNew τ M nn)) M + (uP (tNew τ M nn) M).length + Pn + l.length ≤ _
          rw [show uP (tNew τ M nn) M = [] from tM _ _, pS_cg M fun x hx => (show uP (tNew τ M nn) x = uP τ x from tw x _ _ hx)]
          show _ + 0 + Pn + l.length ≤ _
          omega
        · rw [e15, fI_pI, fI_pI, fI_pI, if_neg (fun z => absurd z.2 (by decide)), if_neg (fun z => absurd z.2 (by decide)), if_neg (fun z => absurd z.2 (by decide)), (lm.ff s4.1 (by decide) (by decide)).1, (lm.ff s4.1 (by decide) (by decide)).1, (lm.ff s4.1 (by decide) (by decide)).1]
          exact g42
end
