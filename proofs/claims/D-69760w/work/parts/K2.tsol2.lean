/-! SOLVED TABLES: all solutions, by what the variables are; schemes -/
def gvT (τ : Tb) (rt : Nat → Nat) (θ : Nat → Tr) : Nat → Nat → Tr
  | 0, x => θ (rt x)
  | f + 1, x => if uN τ (rt x) < 0 then θ (rt x) else gt (uN τ (rt x)) ((uP τ (rt x)).map (gvT τ rt θ f))
section
variable {M a b x : Nat} {τ τ' : Tb} {rt dp : Nat → Nat} {θ : Nat → Tr} {ρ ρ' : Nat → Tr}
theorem gvT_rt (f : Nat) {x y : Nat} (e : rt x = rt y) : gvT τ rt θ f x = gvT τ rt θ f y := by
  cases f with
  | zero => show θ (rt x) = θ (rt y); rw [e]
  | succ f => unfold gvT; rw [e]
theorem SF.kmx (s : SF M τ rt dp) : ∃ km : Nat → Nat, (∀ x, x < M → km x = km (rt x)) ∧ ∀ x, x < M → 0 ≤ uN τ x → ∀ p, p ∈ uP τ x → km p < km x := by
  obtain ⟨r, -, -, km, hk⟩ := s
  exact ⟨km, fun x hx => Fn.rtt r hk _ x (Nat.lt_succ_self _) hx, fun x hx hn p hp => (hk x hx).2 hn p hp⟩
/-- whatever the variables are, there is a solution -/
theorem SF.sol (s : SF M τ rt dp) (kc : KC M τ (· < M)) (θ : Nat → Tr) : ∃ ρ, Sl M τ ρ ∧ ∀ x, x < M → uN τ (rt x) < 0 → ρ x = θ (rt x) := by
  obtain ⟨km, k1, k2⟩ := s.kmx
  obtain ⟨r, nc, cp, -⟩ := s
  have st : ∀ f f' x, x < M → km x < f → km x < f' → gvT τ rt θ f x = gvT τ rt θ f' x := by
    intro f
    induction f with
    | zero => intro f' x _ h1; omega
    | succ f ih =>
      intro f' x hM h1 h2
      cases f' with
      | zero => omega
      | succ f' =>
        unfold gvT
        split
        · rfl
        · next hn =>
          congr 1
          have hr := (r x hM).1
          refine List.map_congr_left fun p hpp => ?_
          have hp := (kc _ hr).2.2 (by omega) p hpp
          have hk := k2 _ hr (by omega) p hpp
          rw [← k1 x hM] at hk
          exact ih f' p hp (by omega) (by omega)
  refine ⟨fun x => gvT τ rt θ (km x + 1) x, fun x hM => ⟨fun y hy => ?_, fun hn => ?_⟩, fun x hM hn => ?_⟩
  · dsimp only
    obtain ⟨c1, c2, -⟩ := (r x hM).2.1 y hy
    rw [k1 x hM, c2, ← k1 y c1]
    exact gvT_rt _ c2
  · dsimp only
    have c1 := nc x hM hn
    have c2 := cp rt r.rsp x hM hn
    show (if uN τ (rt x) < 0 then θ (rt x) else gt (uN τ (rt x)) ((uP τ (rt x)).map (gvT τ rt θ (km x)))) = _
    rw [if_neg (by omega), c1]
    congr 1
    have m1 : ∀ (l1 l2 : List Nat), l1.map rt = l2.map rt → l1.map (gvT τ rt θ (km x)) = l2.map (gvT τ rt θ (km x)) := by
      intro l1
      induction l1 with
      | nil =>
        intro l2 e
        cases l2 with
        | nil => rfl
        | cons b l2 => cases e
      | cons a l1 ih =>
        intro l2 e
        cases l2 with
        | nil => cases e
        | cons b l2 =>
          rw [List.map_cons, List.map_cons] at e
          injection e with e1 e2
          rw [List.map_cons, List.map_cons, gvT_rt _ e1, ih l2 e2]
    rw [← m1 _ _ c2]
    refine List.map_congr_left fun p hpp => ?_
    have := k2 x hM hn p hpp
    exact st _ _ p ((kc x hM).2.2 hn p hpp) (by omega) (by omega)
  · dsimp only
    show (if uN τ (rt x) < 0 then θ (rt x) else _) = _
    rw [if_pos hn]
/-- solutions that agree at the variables of a closed set agree there -/
theorem SF.uniq (s : SF M τ rt dp) {K : Nat → Prop} (kc : KC M τ K) (h1 : Sl M τ ρ) (h2 : Sl M τ ρ') (hv : ∀ x, K x → uN τ (rt x) < 0 → ρ (rt x) = ρ' (rt x)) : ∀ x, K x → ρ x = ρ' x := by
  obtain ⟨km, k1, k2⟩ := s.kmx
  obtain ⟨r, nc, cp, -⟩ := s
  have key : ∀ n x, km x < n → K x → ρ x = ρ' x := by
    intro n
    induction n with
    | zero => intro x hx; omega
    | succ n ih =>
      intro x hx hK
      have hM := (kc x hK).1
      have hr := (r x hM).1
      have hKr := kc.rtt r _ x (Nat.lt_succ_self _) hM hK
      rw [h1.rtt r _ x (Nat.lt_succ_self _) hM, h2.rtt r _ x (Nat.lt_succ_self _) hM]
      by_cases hn : uN τ (rt x) < 0
      · exact hv x hK hn
      · have hn' : 0 ≤ uN τ (rt x) := by omega
        rw [(h1 _ hr).2 hn', (h2 _ hr).2 hn']
        congr 1
        refine List.map_congr_left fun p hp => ih p ?_ ((kc _ hKr).2.2 hn' p hp)
        have := k2 _ hr hn' p hp
        rw [← k1 x hM] at this
        omega
  exact fun x hK => key _ x (Nat.lt_succ_self _) hK
end
/-- schemes: general variables (.neg), nodes of the table (.var), types with names -/
def ins (θ : Int → Tr) (ρ : Nat → Tr) : Tr → Tr
  | .neg (.num k) => θ k
  | .var x => ρ x
  | .add a b => .add (ins θ ρ a) (ins θ ρ b)
  | .mulL n a => .mulL n (ins θ ρ a)
  | e => e
theorem ins_ls (θ : Int → Tr) (ρ : Nat → Tr) : ∀ l : List Tr, ins θ ρ (ls l) = ls (l.map (ins θ ρ)) := by
  intro l
  induction l with
  | nil => rfl
  | cons a l ih =>
    show Int.Internal.Linear.Expr.add (ins θ ρ a) (ins θ ρ (ls l)) = .add (ins θ ρ a) (ls (l.map (ins θ ρ)))
    rw [ih]
theorem ins_gt {θ : Int → Tr} {ρ : Nat → Tr} {n : Int} {l : List Tr} : ins θ ρ (gt n l) = gt n (l.map (ins θ ρ)) := by
  show Int.Internal.Linear.Expr.mulL n (ins θ ρ (ls l)) = .mulL n (ls (l.map (ins θ ρ)))
  rw [ins_ls]
/-- the types that a scheme has -/
def sg (s : Tr) (ρ : Nat → Tr) : Tr → Prop := fun t => ∃ θ, t = ins θ ρ s
theorem sg_var {x : Nat} {ρ : Nat → Tr} : sg (.var x) ρ = fun t => t = ρ x := by
  funext t
  exact propext ⟨fun ⟨_, e⟩ => e, fun e => ⟨fun _ => t, e⟩⟩
/-- the nodes of a scheme -/
def sNd : Tr → Nat → Prop
  | .var x, y => x = y
  | .add a b, y => sNd a y ∨ sNd b y
  | .mulL _ a, y => sNd a y
  | _, _ => False
theorem ins_cg {θ : Int → Tr} {ρ ρ' : Nat → Tr} : ∀ s : Tr, (∀ x, sNd s x → ρ x = ρ' x) → ins θ ρ s = ins θ ρ' s := by
  intro s
  induction s with
  | num v => intro _; rfl
  | var x => intro h; exact h x rfl
  | add a b iha ihb =>
    intro h
    show Int.Internal.Linear.Expr.add _ _ = .add _ _
    rw [iha fun x hx => h x (Or.inl hx), ihb fun x hx => h x (Or.inr hx)]
  | mulL n a ih =>
    intro h
    show Int.Internal.Linear.Expr.mulL _ _ = .mulL _ _
    rw [ih h]
  | sub a b _ _ => intro _; rfl
  | neg a _ =>
    intro _
    cases a <;> rfl
  | mulR a n _ => intro _; rfl
theorem sg_cg {s : Tr} {ρ ρ' : Nat → Tr} (h : ∀ x, sNd s x → ρ x = ρ' x) : sg s ρ = sg s ρ' := by
  funext t
  refine propext ⟨fun ⟨θ, e⟩ => ⟨θ, by rw [← ins_cg s h]; exact e⟩, fun ⟨θ, e⟩ => ⟨θ, by rw [ins_cg s h]; exact e⟩⟩
