/-! THE LAW OF TYPES: equations between nodes, and their solutions by ground types -/
/-- a table of nodes: their names (less than 0: a variable), their parts, what they are the same as -/
abbrev Tb : Type := (Nat → Int) × (Nat → List Nat) × (Nat → Option Nat)
def uN (τ : Tb) : Nat → Int := τ.1
def uP (τ : Tb) : Nat → List Nat := τ.2.1
def uS (τ : Tb) : Nat → Option Nat := τ.2.2
/-- a ground type -/
def gt (n : Int) (l : List Tr) : Tr := .mulL n (ls l)
theorem ls_inj : ∀ l1 l2 : List Tr, ls l1 = ls l2 → l1 = l2 := by
  intro l1
  induction l1 with
  | nil =>
    intro l2 e
    cases l2 with
    | nil => rfl
    | cons b l2 => cases e
  | cons a l1 ih =>
    intro l2 e
    cases l2 with
    | nil => cases e
    | cons b l2 =>
      have e' : Int.Internal.Linear.Expr.add a (ls l1) = .add b (ls l2) := e
      injection e' with e1 e2
      rw [e1, ih l2 e2]
theorem gt_inj {n m : Int} {l1 l2 : List Tr} (e : gt n l1 = gt m l2) : n = m ∧ l1 = l2 := by
  unfold gt at e
  injection e with e1 e2
  exact ⟨e1, ls_inj _ _ e2⟩
/-- the size of a tree -/
def tsz : Tr → Nat
  | .add a b => tsz a + tsz b + 1
  | .mulL _ a => tsz a + 1
  | _ => 1
theorem tsz_ls : ∀ (l : List Tr) (x : Tr), x ∈ l → tsz x < tsz (ls l) := by
  intro l
  induction l with
  | nil => intro x h; cases h
  | cons a l ih =>
    intro x h
    show tsz x < tsz a + tsz (ls l) + 1
    rcases List.mem_cons.mp h with rfl | h
    · omega
    · have := ih x h
      omega
theorem tsz_gt {n : Int} {l : List Tr} {x : Tr} (h : x ∈ l) : tsz x < tsz (gt n l) := by
  have := tsz_ls l x h
  show tsz x < tsz (ls l) + 1
  omega
/-- the solutions of a table of M nodes -/
def Sl (M : Nat) (τ : Tb) (ρ : Nat → Tr) : Prop := ∀ x, x < M → (∀ y, uS τ x = some y → ρ x = ρ y) ∧ (0 ≤ uN τ x → ρ x = gt (uN τ x) ((uP τ x).map ρ))
/-- and of pairs that are still to be made equal -/
def Jn (M : Nat) (τ : Tb) (L : List (Nat × Nat)) (ρ : Nat → Tr) : Prop := Sl M τ ρ ∧ ∀ p, p ∈ L → ρ p.1 = ρ p.2
def tSet (τ : Tb) (x y : Nat) : Tb := (τ.1, τ.2.1, fun z => if z = x then some y else τ.2.2 z)
section
variable {M x y a b : Nat} {τ : Tb} {ρ : Nat → Tr} {L : List (Nat × Nat)}
/-- one more equation in the table -/
theorem Sl_set (hx : x < M) (hn : uS τ x = none) : Sl M (tSet τ x y) ρ ↔ Sl M τ ρ ∧ ρ x = ρ y := by
  have e1 : uS (tSet τ x y) = fun z => if z = x then some y else uS τ z := rfl
  refine ⟨fun h => ⟨fun z hz => ⟨fun w hw => ?_, (h z hz).2⟩, ?_⟩, fun h z hz => ⟨fun w hw => ?_, (h.1 z hz).2⟩⟩
  · refine (h z hz).1 w ?_
    rw [e1]
    dsimp only
    rw [if_neg (fun e => (by rw [e, hn] at hw; cases hw))]
    exact hw
  · refine (h x hx).1 y ?_
    rw [e1]
    dsimp only
    rw [if_pos rfl]
  · rw [e1] at hw
    dsimp only at hw
    by_cases e : z = x
    · rw [if_pos e] at hw
      cases hw
      rw [e]
      exact h.2
    · rw [if_neg e] at hw
      exact (h.1 z hz).1 w hw
/-- the nodes a and b are the same as x and y -/
theorem Jn_rt (ha : Sl M τ ρ → ρ a = ρ x) (hb : Sl M τ ρ → ρ b = ρ y) : Jn M τ ((a, b) :: L) ρ ↔ Jn M τ ((x, y) :: L) ρ := by
  refine ⟨fun h => ⟨h.1, fun p hp => ?_⟩, fun h => ⟨h.1, fun p hp => ?_⟩⟩
  · rcases List.mem_cons.mp hp with rfl | hp
    · have := h.2 (a, b) (List.mem_cons_self ..)
      show ρ x = ρ y
      rw [← ha h.1, ← hb h.1]
      exact this
    · exact h.2 p (List.mem_cons_of_mem _ hp)
  · rcases List.mem_cons.mp hp with rfl | hp
    · have := h.2 (x, y) (List.mem_cons_self ..)
      show ρ a = ρ b
      rw [ha h.1, hb h.1]
      exact this
    · exact h.2 p (List.mem_cons_of_mem _ hp)
theorem Jn_same : Jn M τ ((x, x) :: L) ρ ↔ Jn M τ L ρ := by
  refine ⟨fun h => ⟨h.1, fun p hp => h.2 p (List.mem_cons_of_mem _ hp)⟩, fun h => ⟨h.1, fun p hp => ?_⟩⟩
  rcases List.mem_cons.mp hp with rfl | hp
  · rfl
  · exact h.2 p hp
/-- a pair goes into the table -/
theorem Jn_set (hx : x < M) (hn : uS τ x = none) : Jn M τ ((x, y) :: L) ρ ↔ Jn M (tSet τ x y) L ρ := by
  unfold Jn
  rw [Sl_set hx hn]
  refine ⟨fun h => ⟨⟨h.1, h.2 (x, y) (List.mem_cons_self ..)⟩, fun p hp => h.2 p (List.mem_cons_of_mem _ hp)⟩, fun h => ⟨h.1.1, fun p hp => ?_⟩⟩
  rcases List.mem_cons.mp hp with rfl | hp
  · exact h.1.2
  · exact h.2 p hp
/-- different names are never the same -/
theorem Jn_no (hx : x < M) (hy : y < M) (h1 : 0 ≤ uN τ x) (h2 : 0 ≤ uN τ y) (hne : uN τ x ≠ uN τ y) : ¬ Jn M τ ((x, y) :: L) ρ := by
  intro h
  have e := h.2 (x, y) (List.mem_cons_self ..)
  change ρ x = ρ y at e
  rw [(h.1 x hx).2 h1, (h.1 y hy).2 h2] at e
  exact hne (gt_inj e).1
/-- the parts of two nodes that are the same -/
theorem Jn_parts (hx : x < M) (hy : y < M) (h1 : 0 ≤ uN τ x) (h2 : 0 ≤ uN τ y) (he : uN τ x = uN τ y) : Jn M τ ((x, y) :: L) ρ ↔ Jn M τ ((x, y) :: ((uP τ x).zip (uP τ y) ++ L)) ρ := by
  refine ⟨fun h => ⟨h.1, fun p hp => ?_⟩, fun h => ⟨h.1, fun p hp => ?_⟩⟩
  · rcases List.mem_cons.mp hp with rfl | hp
    · exact h.2 _ (List.mem_cons_self ..)
    · rcases List.mem_append.mp hp with hp | hp
      · have e := h.2 (x, y) (List.mem_cons_self ..)
        change ρ x = ρ y at e
        rw [(h.1 x hx).2 h1, (h.1 y hy).2 h2] at e
        have e2 := (gt_inj e).2
        obtain ⟨i, hi⟩ := List.getElem?_of_mem hp
        rw [List.getElem?_zip_eq_some] at hi
        have e3 : ((uP τ x).map ρ)[i]? = ((uP τ y).map ρ)[i]? := by rw [e2]
        rw [List.getElem?_map, List.getElem?_map, hi.1, hi.2] at e3
        injection e3
      · exact h.2 p (List.mem_cons_of_mem _ hp)
  · rcases List.mem_cons.mp hp with rfl | hp
    · exact h.2 _ (List.mem_cons_self ..)
    · exact h.2 p (List.mem_cons_of_mem _ (List.mem_append_right _ hp))
/-- no node is a part of itself -/
def Fn (M : Nat) (τ : Tb) : Prop := ∃ k : Nat → Nat, ∀ x, x < M → (∀ y, uS τ x = some y → k x = k y) ∧ (0 ≤ uN τ x → ∀ p, p ∈ uP τ x → k p < k x)
theorem Sl.fn (h : Sl M τ ρ) : Fn M τ := by
  refine ⟨fun x => tsz (ρ x), fun x hx => ⟨fun y hy => by show tsz (ρ x) = tsz (ρ y); rw [(h x hx).1 y hy], fun hn p hp => ?_⟩⟩
  dsimp only
  rw [(h x hx).2 hn]
  exact tsz_gt (List.mem_map_of_mem hp)
/-- a solution, by the roots of the nodes -/
def gv (τ : Tb) (rt : Nat → Nat) : Nat → Nat → Tr
  | 0, _ => gt 9 []
  | f + 1, x => if uN τ (rt x) < 0 then gt 9 [] else gt (uN τ (rt x)) ((uP τ (rt x)).map (gv τ rt f))
theorem gv_rt {rt : Nat → Nat} (f : Nat) {x y : Nat} (e : rt x = rt y) : gv τ rt f x = gv τ rt f y := by
  cases f with
  | zero => rfl
  | succ f => unfold gv; rw [e]
theorem Fn.sl (h : Fn M τ) {rt dp : Nat → Nat} (hr : ∀ x, x < M → rt x < M ∧ (∀ y, uS τ x = some y → y < M ∧ rt x = rt y ∧ dp y < dp x) ∧ (uS τ x = none → rt x = x)) (hc : ∀ x, x < M → 0 ≤ uN τ x → uN τ (rt x) = uN τ x ∧ (uP τ x).map rt = (uP τ (rt x)).map rt) (hp : ∀ x, x < M → ∀ p, p ∈ uP τ x → p < M) : ∃ ρ, Sl M τ ρ := by
  obtain ⟨k, hk⟩ := h
  have kr : ∀ n x, dp x < n → x < M → k x = k (rt x) := by
    intro n
    induction n with
    | zero => intro x hx; omega
    | succ n ih =>
      intro x hx hM
      cases e : uS τ x with
      | none => rw [(hr x hM).2.2 e]
      | some y =>
        obtain ⟨h1, h2, h3⟩ := (hr x hM).2.1 y e
        rw [(hk x hM).1 y e, h2]
        exact ih y (by omega) h1
  have st : ∀ f f' x, x < M → k x < f → k x < f' → gv τ rt f x = gv τ rt f' x := by
    intro f
    induction f with
    | zero => intro f' x _ h1; omega
    | succ f ih =>
      intro f' x hM h1 h2
      cases f' with
      | zero => omega
      | succ f' =>
        unfold gv
        split
        · rfl
        · next hn =>
          congr 1
          refine List.map_congr_left fun p hpp => ih f' p (hp _ (hr x hM).1 p hpp) ?_ ?_
          · have := (hk _ (hr x hM).1).2 (by omega) p hpp
            rw [← kr _ x (Nat.lt_succ_self _) hM] at this
            omega
          · have := (hk _ (hr x hM).1).2 (by omega) p hpp
            rw [← kr _ x (Nat.lt_succ_self _) hM] at this
            omega
  refine ⟨fun x => gv τ rt (k x + 1) x, fun x hM => ⟨fun y hy => ?_, fun hn => ?_⟩⟩
  · dsimp only
    rw [(hk x hM).1 y hy]
    exact gv_rt _ ((hr x hM).2.1 y hy).2.1
  · dsimp only
    obtain ⟨c1, c2⟩ := hc x hM hn
    show (if uN τ (rt x) < 0 then gt 9 [] else gt (uN τ (rt x)) ((uP τ (rt x)).map (gv τ rt (k x)))) = _
    rw [if_neg (by omega), c1]
    congr 1
    have m1 : ∀ (l1 l2 : List Nat), l1.map rt = l2.map rt → l1.map (gv τ rt (k x)) = l2.map (gv τ rt (k x)) := by
      intro l1
      induction l1 with
      | nil =>
        intro l2 e
        cases l2 with
        | nil => rfl
        | cons b l2 => cases e
      | cons a l1 ih =>
        intro l2 e
        cases l2 with
        | nil => cases e
        | cons b l2 =>
          rw [List.map_cons, List.map_cons] at e
          injection e with e1 e2
          rw [List.map_cons, List.map_cons, gv_rt _ e1, ih l2 e2]
    rw [← m1 _ _ c2]
    refine List.map_congr_left fun p hpp => ?_
    have := (hk x hM).2 hn p hpp
    exact st _ _ p (hp x hM p hpp) (by omega) (by omega)
end
