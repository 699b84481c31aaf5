/-! COPIES OF SCHEMES: V are the nodes that have been copied, in the order of their copies -/
/-- the copy of a root -/
def cpn (M0 : Nat) (V : List Nat) (y : Nat) : Nat := if y ∈ V then M0 + V.idxOf y else y
/-- the table with copies -/
def cpT (M0 : Nat) (τ : Tb) (rt : Nat → Nat) (V : List Nat) : Tb :=
  (fun w => if w < M0 then uN τ w else (match V[w - M0]? with | some z => if uN τ z < 0 then -1 else uN τ z | none => -1),
   fun w => if w < M0 then uP τ w else (match V[w - M0]? with | some z => (pc τ z).map fun p => cpn M0 V (rt p) | none => []),
   fun w => if w < M0 then uS τ w else none)
section
variable {M0 : Nat} {τ : Tb} {rt dp km : Nat → Nat} {V V' : List Nat}
theorem cp_N {w : Nat} (h : w < M0) : uN (cpT M0 τ rt V) w = uN τ w := by
  show (if w < M0 then uN τ w else _) = _
  rw [if_pos h]
theorem cp_P {w : Nat} (h : w < M0) : uP (cpT M0 τ rt V) w = uP τ w := by
  show (if w < M0 then uP τ w else _) = _
  rw [if_pos h]
theorem cp_S (w : Nat) : uS (cpT M0 τ rt V) w = if w < M0 then uS τ w else none := rfl
theorem cp_N' {i z : Nat} (h : V[i]? = some z) : uN (cpT M0 τ rt V) (M0 + i) = if uN τ z < 0 then -1 else uN τ z := by
  show (if M0 + i < M0 then _ else (match V[M0 + i - M0]? with | some z => if uN τ z < 0 then -1 else uN τ z | none => -1)) = _
  rw [if_neg (by omega), Nat.add_sub_cancel_left, h]
theorem cp_P' {i z : Nat} (h : V[i]? = some z) : uP (cpT M0 τ rt V) (M0 + i) = (pc τ z).map fun p => cpn M0 V (rt p) := by
  show (if M0 + i < M0 then _ else (match V[M0 + i - M0]? with | some z => (pc τ z).map fun p => cpn M0 V (rt p) | none => [])) = _
  rw [if_neg (by omega), Nat.add_sub_cancel_left, h]
theorem cp_pc {w : Nat} (h : w < M0) : pc (cpT M0 τ rt V) w = pc τ w := by
  unfold pc
  rw [cp_N h, cp_P h]
theorem cpn_mem {y : Nat} (h : y ∈ V) : cpn M0 V y = M0 + V.idxOf y ∧ V.idxOf y < V.length ∧ V[V.idxOf y]? = some y := by
  have h1 := List.idxOf_lt_length_iff.mpr h
  refine ⟨by unfold cpn; rw [if_pos h], h1, ?_⟩
  rw [List.getElem?_eq_getElem h1, List.getElem_idxOf]
theorem cpn_app {y : Nat} (h : y ∈ V ∨ y ∉ V') : cpn M0 (V ++ V') y = cpn M0 V y := by
  unfold cpn
  by_cases c : y ∈ V
  · rw [if_pos c, if_pos (List.mem_append_left _ c), List.idxOf_append, if_pos c]
  · rw [if_neg c, if_neg (fun q => (List.mem_append.mp q).elim c (h.resolve_left c))]
/-- copies: what is copied isn't clean; what is a part of it and isn't clean was copied before -/
def CpO (M0 : Nat) (τ : Tb) (rt : Nat → Nat) (V : List Nat) : Prop := V.Nodup ∧ ∀ (i z : Nat), V[i]? = some z → z < M0 ∧ uS τ z = none ∧ ¬ cln M0 τ z ∧ ∀ p, p ∈ pc τ z → cln M0 τ (rt p) ∨ ∃ j, j < i ∧ V[j]? = some (rt p)
theorem CpO.mem (k : CpO M0 τ rt V) {z : Nat} (h : z ∈ V) : z < M0 ∧ uS τ z = none ∧ ¬ cln M0 τ z ∧ ∀ p, p ∈ pc τ z → cln M0 τ (rt p) ∨ rt p ∈ V := by
  obtain ⟨i, hi⟩ := List.getElem?_of_mem h
  obtain ⟨h1, h2, h3, h4⟩ := k.2 i z hi
  exact ⟨h1, h2, h3, fun p hp => (h4 p hp).imp id fun ⟨j, _, hj⟩ => List.mem_of_getElem? hj⟩
/-- one more copy leaves the others as they are -/
theorem cpT_app {z w : Nat} (k : CpO M0 τ rt V) (hz : ¬ cln M0 τ z) (hzV : z ∉ V) (hw : w < M0 + V.length) : uN (cpT M0 τ rt (V ++ [z])) w = uN (cpT M0 τ rt V) w ∧ uP (cpT M0 τ rt (V ++ [z])) w = uP (cpT M0 τ rt V) w ∧ uS (cpT M0 τ rt (V ++ [z])) w = uS (cpT M0 τ rt V) w := by
  refine ⟨?_, ?_, rfl⟩
  · by_cases c : w < M0
    · rw [cp_N c, cp_N c]
    · obtain ⟨i, rfl⟩ : ∃ i, w = M0 + i := ⟨w - M0, by omega⟩
      obtain ⟨y, hy⟩ : ∃ y, V[i]? = some y := ⟨_, List.getElem?_eq_getElem (by omega)⟩
      rw [cp_N' hy, cp_N' (by rw [List.getElem?_append_left (by omega)]; exact hy)]
  · by_cases c : w < M0
    · rw [cp_P c, cp_P c]
    · obtain ⟨i, rfl⟩ : ∃ i, w = M0 + i := ⟨w - M0, by omega⟩
      obtain ⟨y, hy⟩ : ∃ y, V[i]? = some y := ⟨_, List.getElem?_eq_getElem (by omega)⟩
      rw [cp_P' hy, cp_P' (by rw [List.getElem?_append_left (by omega)]; exact hy)]
      refine List.map_congr_left fun p hp => cpn_app ?_
      rcases (k.2 i y hy).2.2.2 p hp with q | ⟨j, hj, q⟩
      · exact Or.inr fun w => by
          rw [(List.mem_cons.mp w).resolve_right fun w2 => by cases w2] at q
          exact hz q
      · exact Or.inl (List.mem_of_getElem? q)
/-- the scheme of a node -/
noncomputable def scF (M0 : Nat) (τ : Tb) (rt : Nat → Nat) : Nat → Nat → Tr
  | 0, x => .var x
  | f + 1, x => @ite _ (cln M0 τ x) (Classical.propDecidable _) (.var x) (if uN τ (rt x) < 0 then .neg (.num (rt x)) else gt (uN τ (rt x)) ((uP τ (rt x)).map (scF M0 τ rt f)))
theorem sc_cln {f x : Nat} (h : cln M0 τ x) : scF M0 τ rt f x = .var x := by
  cases f with
  | zero => rfl
  | succ f => unfold scF; rw [if_pos h]
theorem sc_var {f x : Nat} (h : ¬ cln M0 τ x) (hn : uN τ (rt x) < 0) : scF M0 τ rt (f + 1) x = .neg (.num (rt x)) := by
  unfold scF
  rw [if_neg h, if_pos hn]
theorem sc_gt {f x : Nat} (h : ¬ cln M0 τ x) (hn : ¬ uN τ (rt x) < 0) : scF M0 τ rt (f + 1) x = gt (uN τ (rt x)) ((uP τ (rt x)).map (scF M0 τ rt f)) := by
  conv => lhs; unfold scF
  rw [if_neg h, if_neg hn]
/-- the scheme doesn't ask how far it is gone down -/
theorem sc_fuel (sf : SF M0 τ rt dp) (kc : KC M0 τ (· < M0)) (k1 : ∀ x, x < M0 → km x = km (rt x)) (k2 : ∀ x, x < M0 → 0 ≤ uN τ x → ∀ p, p ∈ uP τ x → km p < km x) : ∀ f f' x, x < M0 → km x < f → km x < f' → scF M0 τ rt f x = scF M0 τ rt f' x := by
  intro f
  induction f with
  | zero => intro f' x _ h; omega
  | succ f ih =>
    intro f' x hx h1 h2
    obtain ⟨f', rfl⟩ : ∃ g, f' = g + 1 := ⟨f' - 1, by omega⟩
    by_cases c : cln M0 τ x
    · rw [sc_cln c, sc_cln c]
    · by_cases hn : uN τ (rt x) < 0
      · rw [sc_var c hn, sc_var c hn]
      · rw [sc_gt c hn, sc_gt c hn]
        congr 1
        have hr := (sf.1 x hx).1
        refine List.map_congr_left fun p hp => ?_
        have := k2 _ hr (by omega) p hp
        rw [← k1 x hx] at this
        exact ih f' p ((kc _ hr).2.2 (by omega) p hp) (by omega) (by omega)
end
