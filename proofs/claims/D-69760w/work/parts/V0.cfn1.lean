/-! THE COMPONENT'S TYPER: a function's type -/
theorem nI_m1 (j : Nat) : nI (j + 1) + (-1) = nI j := by
  rw [← nI_1, Int32.add_assoc, show (1 : Int32) + (-1) = 0 from rfl, Int32.add_zero]
section
variable {G : Gh} {c : Cx} {P P0 : Nat → Prop} {s s1 : Sx} {B : Nat → Prop} {b D q b0 qa cols l2 l3 : Nat} {Q : Outcome → AH → Prop} {Qm : Mq} {ins : List Nat}
/-- the row's types before the answer's, from the last one on -/
theorem fn_140 (k : XS G c P0 s) (hb : BdX c s b) (hil : ins.length = cols) (hc24 : cols ≤ 24) (hD5 : 10 ≤ D)
    (hQ : ∀ s2 x, Rn G c (fun a => P a ∨ a = qa) s B s2 (ins ++ [x]) b (fun γ u => ∃ τs o, u = τs ++ [τs.foldr tFun o] ∧ τs.length = ins.length ∧ Qm γ τs o) → s2.ws = s1.ws → s2.rc = s1.rc → un s2.h = un s1.h → s2.cap = s1.cap → s2.m = s1.m → X G mX49_infer (D + 1) none [] 140 [(0, .ref q), (1, .ref (gW G 6)), (2, .int (nI l2)), (3, .int (nI l3)), (4, .ref b0), (6, .ref qa), (7, .int (nI x)), (8, .int (-1))] [] s2.h Q) :
    ∀ (j : Nat) (s2 : Sx) (x : Nat), j ≤ cols → Rn G c (fun a => P a ∨ a = qa) s B s2 (ins ++ [x]) b (fun γ u => ∃ τs o, u = τs ++ [(τs.drop j).foldr tFun o] ∧ τs.length = ins.length ∧ Qm γ τs o) → Rw1 s2.h qa cols ins → s2.ws = s1.ws → s2.rc = s1.rc → un s2.h = un s1.h → s2.cap = s1.cap → s2.m = s1.m → s2.M + j ≤ s.M + 8 * b → s2.Pn + 2 * j ≤ s.Pn + 8 * b → X G mX49_infer (D + 1) none [] 140 [(0, .ref q), (1, .ref (gW G 6)), (2, .int (nI l2)), (3, .int (nI l3)), (4, .ref b0), (6, .ref qa), (7, .int (nI x)), (8, .int (nI j + (-1)))] [] s2.h Q := by
  intro j
  induction j with
  | zero =>
    intro s2 x _ r _ h1 h2 h3 h4 h5 _ _
    exact hQ s2 x r h1 h2 h3 h4 h5
  | succ j IH =>
    intro s2 x hj r hrw h1 h2 h3 h4 h5 hM hP
    have x2 := r.xs
    rw [nI_m1]
    have hneg : ¬ nI j < 0 := nI_pos (by omega)
    obtain ⟨pv1, pv2, pv3⟩ := x2.2.2.2.2.2.2.1 qa (Or.inr rfl)
    obtain ⟨a, ha⟩ : ∃ a, ins[j]? = some a := ⟨_, List.getElem?_eq_getElem (by omega)⟩
    have hja : (ins ++ [x])[j]? = some a := by rw [List.getElem?_append_left (by omega)]; exact ha
    have hlx : (ins ++ [x])[ins.length]? = some x := by rw [List.getElem?_append_right (Nat.le_refl _), Nat.sub_self]; rfl
    refine bX49_infer_140 G D s2.h _ _ _ _ _ _ _ _ (x2.sA.at (by decide)) (x2.sA.at (by decide)) (x2.sA.at (by decide)) ⟨fun z => absurd z hneg, fun _ => ⟨pv2, by rw [hrw.1]; exact vp_i (by omega) (by omega), ?_⟩⟩
    rw [nI_cn (by omega), hrw.2.1 j a ha]
    have hun : un s2.h ≤ pot s2.h s2.cap := by unfold pot; omega
    refine C.use ((r.cfK (d := 0) k hja hlx hb (by omega) (by omega)).up (by omega)) (by decide) ?_
    rintro _ h15 ⟨τ2, rfl, hu, r3⟩ l -
    refine KI.i ?_
    rintro _ rfl
    have ea := (Lm.an (t := 0) pv3 l pv2 (by decide +kernel)).1
    have el := (l.1.2 qa (by rw [pv2]; decide)).2.1
    have hrw3 : Rw1 h15 qa cols ins := ⟨el.trans hrw.1, fun i p hp => by rw [ea]; exact hrw.2.1 i p hp, fun i z1 z2 => by rw [ea]; exact hrw.2.2 i z1 z2⟩
    have r4 := (r3.prj (us' := ins ++ [s2.M]) (fun u => u.take ins.length ++ u.drop (ins.length + 1)) (fun y hy => by
      rcases List.mem_append.mp hy with w | w
      · exact Or.inl (List.mem_append_left _ (List.mem_append_left _ w))
      · exact Or.inl (List.mem_append_right _ w)) (fun ρ _ => by
      show (ins ++ [s2.M]).map ρ = ((ins ++ [x] ++ [s2.M]).map ρ).take ins.length ++ ((ins ++ [x] ++ [s2.M]).map ρ).drop (ins.length + 1)
      have e1 : ((ins ++ [x] ++ [s2.M]).map ρ) = ins.map ρ ++ ([ρ x] ++ [ρ s2.M]) := by rw [List.map_append, List.map_append, List.append_assoc]; rfl
      rw [e1, List.take_append_of_le_length (by rw [List.length_map]; exact Nat.le_refl _), List.take_of_length_le (by rw [List.length_map]; exact Nat.le_refl _), List.map_append]
      congr 1
      rw [← List.append_assoc, List.drop_append_of_le_length (by rw [List.length_append, List.length_map]; exact Nat.le_refl _), List.drop_of_length_le (by rw [List.length_append, List.length_map]; exact Nat.le_refl _)]
      rfl)).imp (S' := fun γ u => ∃ τs o, u = τs ++ [(τs.drop j).foldr tFun o] ∧ τs.length = ins.length ∧ Qm γ τs o) fun γ u => by
      have key : ∀ (τs : List Tr) (o : Tr), τs.length = ins.length → ((τs ++ [(τs.drop (j + 1)).foldr tFun o]) ++ [tFun ((τs ++ [(τs.drop (j + 1)).foldr tFun o]).getD j (.num 0)) ((τs ++ [(τs.drop (j + 1)).foldr tFun o]).getD ins.length (.num 0))]).take ins.length ++ ((τs ++ [(τs.drop (j + 1)).foldr tFun o]) ++ [tFun ((τs ++ [(τs.drop (j + 1)).foldr tFun o]).getD j (.num 0)) ((τs ++ [(τs.drop (j + 1)).foldr tFun o]).getD ins.length (.num 0))]).drop (ins.length + 1) = τs ++ [(τs.drop j).foldr tFun o] := fun τs o hl => by
        have g1 : (τs ++ [(τs.drop (j + 1)).foldr tFun o]).getD j (.num 0) = τs[j]'(by omega) := by rw [List.getD, List.getElem?_append_left (by omega), List.getElem?_eq_getElem (by omega)]; rfl
        have g2 : (τs ++ [(τs.drop (j + 1)).foldr tFun o]).getD ins.length (.num 0) = (τs.drop (j + 1)).foldr tFun o := by rw [List.getD, ← hl, List.getElem?_append_right (Nat.le_refl _), Nat.sub_self]; rfl
        rw [g1, g2, List.append_assoc, List.take_append_of_le_length (by omega), List.take_of_length_le (by omega), ← List.append_assoc, List.drop_append_of_le_length (by rw [List.length_append, hl]; exact Nat.le_refl _), List.drop_of_length_le (by rw [List.length_append, hl]; exact Nat.le_refl _)]
        rw [List.drop_eq_getElem_cons (i := j) (by omega)]
        rfl
      constructor
      · rintro ⟨_, ⟨_, rfl, τs, o, rfl, hl, h6⟩, rfl⟩
        exact ⟨τs, o, key τs o hl, hl, h6⟩
      · rintro ⟨τs, o, rfl, hl, h6⟩
        exact ⟨_, ⟨_, rfl, τs, o, rfl, hl, h6⟩, key τs o hl⟩
    exact IH _ s2.M (by omega) r4 hrw3 h1 h2 (hu.trans h3) h4 h5 (by show s2.M + 1 + j ≤ _; omega) (by show s2.Pn + 2 + 2 * j ≤ _; omega)
end
