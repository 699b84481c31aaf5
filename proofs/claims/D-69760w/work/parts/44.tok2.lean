/-! TOKENS of the component: words, signs, all of them -/
/-- what a token's method leaves -/
def tokP (G : Gh) (ts : List (Nat × Nat × Nat)) (p : Nat) (t : Nat × Nat × Nat) : Outcome → AH → Prop := fun o h' => o = .returned (some (.int (b2 (decide (t.1 ≠ 292))))) ∧ fI h' (gW G 1) 29 = nI t.2.2 ∧ Tks G h' (ts ++ [(t.1, p, t.2.1)])
/-- the words that are kept for signs -/
def WdsOK (G : Gh) (h : AH) : Prop := ∀ k, k < 19 → aR h (gW G 1021) k = some (G.2.2.2.1 (5 + k))
theorem kwl_len : ∀ k, k < 19 → (kwl.getD k []).length = slen.getD (5 + k) 0 ∧ 5 + k < slen.length := by decide +kernel
theorem kwl_chr : ∀ k, k < 19 → ∀ j, j < (kwl.getD k []).length → chr (5 + k) j = nI ((kwl.getD k []).getD j 0) ∧ (kwl.getD k []).getD j 0 < 128 := by decide +kernel
theorem kwG_step {l : List Nat} {k : Nat} (hk : k < 19) : kwG l (kwl.drop k) k = if kwl.getD k [] = l then 256 + k else kwG l (kwl.drop (k + 1)) (k + 1) := by
  have hl : k < kwl.length := hk
  rw [List.drop_eq_getElem_cons hl, kwG, List.getD, List.getElem?_eq_getElem hl]
  rfl
theorem getD_some {l : List Nat} {j : Nat} (h : j < l.length) : l[j]? = some (l.getD j 0) := by simp [List.getD, h]
theorem byte_eq {x : Int32} {c e : Nat} (hc : c < 128) (hx : x.toInt = sbv e) (he : e < 256) : nI c = x ↔ c = e := by
  rw [i_eq, nI_toInt (by omega), hx]
  unfold sbv
  split <;> omega
section
variable {G : Gh} {d : Nat} {h : AH} {u : Nat → Nat} {n p : Nat} {ts : List (Nat × Nat × Nat)}
theorem kindOf_in {st len k : Nat} (s1 : So 1 (gW G) h) (hT : Txt G h u n) (hw : WdsOK G h) (hk : k < 19) (hb : st + len ≤ n) {Q : Outcome → AH → Prop}
    (h1 : kwl.getD k [] = bs u st len → Q (.returned (some (.int (256 + nI k)))) h)
    (h2 : kwl.getD k [] ≠ bs u st len → X G mX2_kindOf (d + 5) none [] 2 [(0, .ref (gW G 1)), (1, .int (nI st)), (2, .int (nI len)), (3, .int (nI (k + 1)))] [] h Q)
    (hlen : (kwl.getD k []).length = len) : ∀ m i, m = len - i → i ≤ len → (∀ j, j < i → (kwl.getD k []).getD j 0 = u (st + j)) →
    X G mX2_kindOf (d + 5) none [] 34 [(0, .ref (gW G 1)), (1, .int (nI st)), (2, .int (nI len)), (3, .int (nI k)), (4, .int 1), (5, .int (nI i))] [] h Q := by
  have hn := hT.2.1
  intro m
  induction m with
  | zero =>
    intro i hm hi hp
    refine bX2_kindOf_34 G (d + 4) h Q _ _ _ _ _ s1 ⟨fun z => absurd z (by decide), fun _ => ⟨fun _ => h1 ?_, fun z => absurd ?_ z⟩⟩
    · apply List.ext_getElem?
      intro j
      by_cases hj : j < len
      · rw [bs_at hj, getD_some (by omega), hp j (by omega)]
      · rw [List.getElem?_eq_none (by omega), List.getElem?_eq_none (by rw [bs_len]; omega)]
    · rw [nI_leI (by omega) (by omega)]
      omega
  | succ m ih =>
    intro i hm hi hp
    refine bX2_kindOf_34 G (d + 4) h Q _ _ _ _ _ s1 ⟨fun z => absurd z (by decide), fun _ => ⟨fun z => ?_, fun _ => ⟨vp_in_nI hk (by decide), ?_⟩⟩⟩
    · rw [nI_leI (by omega) (by omega)] at z
      omega
    · obtain ⟨q1, q2⟩ := kwl_len k hk
      obtain ⟨q3, q4⟩ := kwl_chr k hk i (by omega)
      rw [nI_cn (by omega)]
      refine ⟨_, hw k hk, 5 + k, q2, rfl, C.ri (c_charAt q2 (by omega)) ⟨by rw [nI_add]; exact vp_in_nI (by omega) (by omega), ?_⟩⟩
      rw [q3, nI_add, nI_cn (by omega), byte_eq q4 (hT.2.2.2 _ (by omega)) (hT.2.2.1 _)]
      refine ⟨fun z => ?_, fun z => ?_⟩
      · rintro _ rfl
        rw [nI_1]
        refine ih (i + 1) (by omega) (by omega) fun j hj => ?_
        by_cases e : j = i
        · subst e; exact z
        · exact hp j (by omega)
      · rintro _ rfl
        refine bX2_kindOf_34 G (d + 4) h Q _ _ _ _ _ s1 ⟨fun _ => ?_, fun z => absurd rfl z⟩
        rintro _ rfl
        rw [nI_1]
        refine h2 fun e => z ?_
        rw [e, List.getD, bs_at (by omega)]
        rfl
theorem c_kindOf {st len : Nat} (s1 : So 1 (gW G) h) (hT : Txt G h u n) (hw : WdsOK G h) (hb : st + len ≤ n) : C G mX2_kindOf (d + 5) [.ref (gW G 1), .int (nI st), .int (nI len)] h (Ret (.int (nI (kw (bs u st len)))) h) := by
  have hn := hT.2.1
  have hL : hL h (gW G 1021) = 19 := (s1.2 0 _ rfl rfl).2.2.2 (by decide)
  refine bX2_kindOf G (d + 4) h _ _ _ ?_
  have key : ∀ j k, j = 19 - k → k ≤ 19 → kw (bs u st len) = kwG (bs u st len) (kwl.drop k) k → X G mX2_kindOf (d + 5) none [] 2 [(0, .ref (gW G 1)), (1, .int (nI st)), (2, .int (nI len)), (3, .int (nI k))] [] h (Ret (.int (nI (kw (bs u st len)))) h) := by
    intro j
    induction j with
    | zero =>
      intro k hj hk he
      have e : k = 19 := by omega
      subst e
      refine bX2_kindOf_2 G (d + 4) h _ _ _ _ s1 ?_
      rw [hL]
      exact ⟨fun _ => ⟨by rw [he]; rfl, rfl⟩, fun z => absurd (by decide) z⟩
    | succ j ih =>
      intro k hj hk he
      have hk' : k < 19 := by omega
      obtain ⟨q1, q2⟩ := kwl_len k hk'
      refine bX2_kindOf_2 G (d + 4) h _ _ _ _ s1 ?_
      rw [hL]
      refine ⟨fun z => ?_, fun _ => ⟨vp_in_nI hk' (by decide), _, by rw [nI_cn (by omega)]; exact hw k hk', 5 + k, q2, rfl, C.ri (c_length q2) ⟨fun z => ?_, fun z => ?_⟩⟩⟩
      · rw [show Int32.ofNat 19 = nI 19 from rfl, nI_leI (by omega) (by omega)] at z
        omega
      · have hl : (kwl.getD k []).length = len := by
          rw [q1]
          exact (nI_eq (by have := slen_le (5 + k); omega) (by omega)).mp z
        have h1 : kwl.getD k [] = bs u st len → Ret (.int (nI (kw (bs u st len)))) h (.returned (some (.int (256 + nI k)))) h := fun e => ⟨by rw [he, kwG_step hk', if_pos e, ← nI_add]; rfl, rfl⟩
        exact kindOf_in s1 hT hw hk' hb h1 (fun e => ih (k + 1) (by omega) (by omega) (by rw [he, kwG_step hk', if_neg e])) hl len 0 rfl (by omega) (fun j hj => by omega)
      · refine bX2_kindOf_34 G (d + 4) h _ _ _ _ _ _ s1 ⟨fun _ => ?_, fun z => absurd rfl z⟩
        rintro _ rfl
        rw [nI_1]
        have hne : ¬ kwl.getD k [] = bs u st len := by
          intro e
          apply z
          have : (kwl.getD k []).length = len := by rw [e, bs_len]
          rw [← q1, this]
          rfl
        exact ih (k + 1) (by omega) (by omega) (by rw [he, kwG_step hk', if_neg hne])
  exact key 19 0 rfl (by omega) rfl
end
