/-! THE LAW OF THE READERS: helps without a program in sight -/
/-- the kinds there are -/
def VL : List Nat := sgl ++ [256, 257, 258, 259, 260, 261, 262, 263, 264, 265, 266, 267, 268, 269, 270, 271, 272, 273, 274, 280, 281, 282, 283, 284, 285, 286, 287, 288, 289, 290, 291, 292]
theorem kap_inj : ∀ a ∈ VL, ∀ b ∈ VL, kap a = kap b → a = b := by decide +kernel
theorem kap_lt : ∀ a ∈ VL, kap a < 200 ∧ a < 300 := by decide +kernel
def Kd (ts : List (Nat × Nat × Nat)) (i : Nat) : Nat := (ts.getD i (291, 0, 0)).1
def Vl (ts : List (Nat × Nat × Nat)) (i : Nat) : Nat := (ts.getD i (291, 0, 0)).2.2
def Pl (ts : List (Nat × Nat × Nat)) (i : Nat) : Nat := (ts.getD i (291, 0, 0)).2.1
/-- the law's list of tokens: kinds as they are, its end -/
def TsOK (ts : List (Nat × Nat × Nat)) : Prop := (∀ t ∈ ts, t.1 ∈ VL ∧ t.2.1 ≤ 4096 ∧ (t.1 = 283 → t.2.2 < 2147483648)) ∧ ts.length ≤ 1300 ∧ ∀ i, i < ts.length → Kd ts i ≠ 291 → Kd ts i ≠ 292 → i + 1 < ts.length
def len : Tr → Nat
  | .add _ b => len b + 1
  | _ => 0
section
variable {ts : List (Nat × Nat × Nat)} {s : St} {D k i m : Nat}
theorem Kd_mem (hT : TsOK ts) (hi : i < ts.length) : Kd ts i ∈ VL := by
  unfold Kd
  rw [List.getD, List.getElem?_eq_getElem hi]
  exact (hT.1 _ (List.getElem_mem hi)).1
theorem pTake_ok {K : Nat → Nat} {t : Nat} {s' : St} (e : pTake K D s = .ok (t, s')) : t = s.1 ∧ s' = (s.1 + 1, s.2) ∧ K s.1 ≠ 291 ∧ K s.1 ≠ 292 := by
  unfold pTake at e
  split at e
  · cases e
  · next c => cases e; exact ⟨rfl, rfl, fun q => c (Or.inr (Or.inl q)), fun q => c (Or.inr (Or.inr q))⟩
theorem pTake_le {K : Nat → Nat} {r : Nat × St} (e : pTake K D s = .ok r) : D ≤ 30 := by
  unfold pTake at e
  split at e
  · cases e
  · next c => exact Nat.le_of_not_lt fun q => c (Or.inl q)
theorem pTakeP_le {K : Nat → Nat} {r : Nat × St} (e : pTakeP K D s = .ok r) : D ≤ 30 := by
  unfold pTakeP at e
  split at e
  · cases e
  · exact pTake_le e
theorem pTakeP_ok {K : Nat → Nat} {t : Nat} {s' : St} (e : pTakeP K D s = .ok (t, s')) : t = s.1 ∧ s' = (s.1 + 1, s.2.1, s.2.2 + 1) ∧ K s.1 ≠ 291 ∧ K s.1 ≠ 292 := by
  unfold pTakeP at e
  split at e
  · cases e
  · exact pTake_ok (s := (s.1, s.2.1, s.2.2 + 1)) e
theorem len_ls : ∀ l : List Tr, len (ls l) = l.length := by
  intro l
  induction l with
  | nil => rfl
  | cons a r ih => unfold ls len; rw [ih]; rfl
theorem pSkip_ge {K : Nat → Nat} {c : Nat} {b : Bool} {s' : St} (e : pSkip K c D s = .ok (b, s')) : (b = false → s' = s) ∧ (b = true → s'.1 = s.1 + 1 ∧ D ≤ 30) := by
  unfold pSkip at e
  by_cases q : K s.1 = c
  · rw [if_pos q] at e
    cases hr : pTake K D s with
    | error x => rw [hr] at e; cases e
    | ok r =>
      rw [hr] at e
      cases e
      exact ⟨fun z => (by cases z), fun _ => ⟨by rw [(pTake_ok hr).2.1], pTake_le hr⟩⟩
  · rw [if_neg q] at e
    cases e
    exact ⟨fun _ => rfl, fun z => (by cases z)⟩
def aEnd (ts : List (Nat × Nat × Nat)) (D : Nat) (l : List Tr) (s : St) : Except Nat (Tr × St) := bd (pExpect (Kd ts) 41 D s) fun _ s => bd (match l with
    | [a] => .ok (a, s)
    | l => bd (pExpect (Kd ts) 280 D s) fun t s => .ok (n2 58 t (.num (Vl ts t)) (ls l), s)) fun x s => pNames (Kd ts) (Vl ts) 22 0 D x s
theorem pExpect_ok {K : Nat → Nat} {c t : Nat} {s' : St} (e : pExpect K c D s = .ok (t, s')) : t = s.1 ∧ s'.1 = s.1 + 1 := by
  unfold pExpect at e
  by_cases q : K s.1 = c
  · rw [if_pos q] at e
    obtain ⟨a, b, -⟩ := pTake_ok e
    exact ⟨a, by rw [b]⟩
  · rw [if_neg q] at e
    cases e
theorem bd_assoc {α β γ : Type} (x : Except Nat (α × St)) (f : α → St → Except Nat (β × St)) (g : β → St → Except Nat (γ × St)) : bd (bd x f) g = bd x fun a s => bd (f a s) g := by
  cases x with
  | error e => rfl
  | ok r => rfl
theorem pTake_er {K : Nat → Nat} {s : St} {e : Nat} (hr : pTake K D s = .error e) : e = s.1 := by
  unfold pTake at hr
  split at hr
  · cases hr; rfl
  · cases hr
end
section
variable {β : Type} {sk : St → Except Nat (Bool × St)} {it : St → Except Nat (Tr × St)} {go : St → Bool} {mx f n : Nat} {s : St} {g : List Tr → St → Except Nat (β × St)}
theorem pMore_b : bd (pMore sk it mx (f + 1) n s) g = bd (sk s) fun b s => if b = true then (if n = mx then .error (s.1 - 1) else bd (it s) fun a s => bd (pMore sk it mx f (n + 1) s) fun r s => g (a :: r) s) else g [] s := by
  rw [pMore]
  cases sk s with
  | error e => rfl
  | ok x =>
    obtain ⟨b, s1⟩ := x
    cases b with
    | false => rfl
    | true =>
      dsimp only [bd]
      rw [if_pos rfl]
      by_cases q : n = mx
      · rw [if_pos q, if_pos q]
      · rw [if_neg q, if_neg q]
        cases it s1 with
        | error e => rfl
        | ok y =>
          dsimp only
          cases pMore sk it mx f (n + 1) y.2 with
          | error e => rfl
          | ok z => rfl
theorem pWhile_b : bd (pWhile go it (f + 1) s) g = if go s = true then bd (it s) fun a s => bd (pWhile go it f s) fun r s => g (a :: r) s else g [] s := by
  rw [pWhile]
  split
  · cases it s with
    | error e => rfl
    | ok y =>
      dsimp only [bd]
      cases pWhile go it f y.2 with
      | error e => rfl
      | ok z => rfl
  · rfl
theorem bd_tt {A B : St → Except Nat (β × St)} : bd (.ok (true, s)) (fun b s => if b = true then A s else B s) = A s := rfl
theorem bd_ff {A B : St → Except Nat (β × St)} : bd (.ok (false, s)) (fun b s => if b = true then A s else B s) = B s := rfl
theorem pSep_b {K : Nat → Nat} {k d : Nat} : bd (pSep K k d mx it s) g = bd (it s) fun a s => bd (pMore (pSkip K k d) it mx FU 1 s) fun r s => g (a :: r) s := by
  unfold pSep
  cases it s with
  | error e => rfl
  | ok y =>
    dsimp only [bd]
    cases pMore (pSkip K k d) it mx FU 1 y.2 with
    | error e => rfl
    | ok z => rfl
end
theorem lvl_le (k : Nat) : lvl k ≤ 7 := by
  unfold lvl
  repeat' split
  all_goals omega
