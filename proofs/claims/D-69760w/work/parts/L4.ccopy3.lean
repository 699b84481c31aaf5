/-! COPIES OF SCHEMES: what they mean -/
section
variable {M : Nat} {τ τ' : Tb} {rt rt' dp dp' km : Nat → Nat} {V : List Nat} {ρ : Nat → Tr} {x : Nat} {s : Tr}
theorem RTs.eq (r : RTs M τ rt dp) (r' : RTs M τ rt' dp') : ∀ n x, dp x < n → x < M → rt x = rt' x := by
  intro n
  induction n with
  | zero => intro x hn; omega
  | succ n ih =>
    intro x hn hx
    obtain ⟨-, r2, r3⟩ := r x hx
    obtain ⟨-, q2, q3⟩ := r' x hx
    cases e : uS τ x with
    | none => rw [r3 e, q3 e]
    | some y =>
      obtain ⟨c1, c2, c3⟩ := r2 y e
      obtain ⟨-, d2, -⟩ := q2 y e
      rw [c2, d2]
      exact ih y (by omega) c1
/-- s is the scheme of the node x -/
def SE (M : Nat) (τ : Tb) (x : Nat) (s : Tr) : Prop := x < M ∧ ∃ (rt dp : Nat → Nat) (f : Nat), RTs M τ rt dp ∧ ∀ f', f ≤ f' → scF M τ rt f' x = s
theorem sc_cg (h : ∀ x, x < M → rt x = rt' x) (kc : KC M τ (· < M)) (hr : ∀ x, x < M → rt x < M) : ∀ f x, x < M → scF M τ rt f x = scF M τ rt' f x := by
  intro f
  induction f with
  | zero => intro x _; rfl
  | succ f ih =>
    intro x hx
    by_cases c : cln M τ x
    · rw [sc_cln c, sc_cln c]
    · by_cases hn : uN τ (rt x) < 0
      · rw [sc_var c hn, sc_var c (by rw [← h x hx]; exact hn), h x hx]
      · rw [sc_gt c hn, sc_gt c (by rw [← h x hx]; exact hn), ← h x hx]
        congr 1
        exact List.map_congr_left fun p hp => ih p ((kc _ (hr x hx)).2.2 (by omega) p hp)
theorem SE.use (e : SE M τ x s) (r : RTs M τ rt dp) (kc : KC M τ (· < M)) : ∃ f, ∀ f', f ≤ f' → scF M τ rt f' x = s := by
  obtain ⟨hx, rt', dp', f, r', h⟩ := e
  refine ⟨f, fun f' hf => ?_⟩
  rw [← h f' hf]
  exact sc_cg (fun x hx => r.eq r' _ x (Nat.lt_succ_self _) hx) kc (fun x hx => (r x hx).1) f' x hx
theorem SE.mk (sf : SF M τ rt dp) (kc : KC M τ (· < M)) (hx : x < M) : ∃ s, SE M τ x s := by
  obtain ⟨km, k1, k2⟩ := sf.kmx
  exact ⟨scF M τ rt (km x + 1) x, hx, rt, dp, km x + 1, sf.1, fun f' hf => sc_fuel sf kc k1 k2 _ _ x hx (by omega) (by omega)⟩
/-- the nodes of a scheme are clean, what is general in it is general -/
theorem sc_nd (r : RTs M τ rt dp) (kc : KC M τ (· < M)) : ∀ f x, x < M → (km x < f) → (∀ x, x < M → km x = km (rt x)) → (∀ x, x < M → 0 ≤ uN τ x → ∀ p, p ∈ uP τ x → km p < km x) → ∀ y, sNd (scF M τ rt f x) y → cln M τ y := by
  intro f
  induction f with
  | zero => intro x _ h; omega
  | succ f ih =>
    intro x hx hk k1 k2 y hy
    by_cases c : cln M τ x
    · rw [sc_cln c] at hy
      change x = y at hy
      rw [← hy]
      exact c
    · by_cases hn : uN τ (rt x) < 0
      · rw [sc_var c hn] at hy
        exact hy.elim
      · rw [sc_gt c hn] at hy
        have : ∀ l : List Tr, sNd (ls l) y → ∃ z, z ∈ l ∧ sNd z y := by
          intro l
          induction l with
          | nil => intro h; exact h.elim
          | cons a l ih2 =>
            rintro (h | h)
            · exact ⟨a, List.mem_cons_self .., h⟩
            · obtain ⟨z, h1, h2⟩ := ih2 h
              exact ⟨z, List.mem_cons_of_mem _ h1, h2⟩
        obtain ⟨z, h1, h2⟩ := this _ hy
        obtain ⟨p, hp, rfl⟩ := List.mem_map.mp h1
        have hr := (r x hx).1
        have := k2 _ hr (by omega) p hp
        rw [← k1 x hx] at this
        exact ih p ((kc _ hr).2.2 (by omega) p hp) (by omega) k1 k2 y h2
/-- a copy is an instance: θ says what the copies of the variables are -/
theorem cp_val (sf : SF M τ rt dp) (kc : KC M τ (· < M)) (k1 : ∀ x, x < M → km x = km (rt x)) (k2 : ∀ x, x < M → 0 ≤ uN τ x → ∀ p, p ∈ uP τ x → km p < km x) (gr : ∀ x, x < M → uN τ x = -2 → uS τ x = none) (co : CpO M τ rt V) (gw : Gw M τ (M + V.length) (cpT M τ rt V)) (h : Sl (M + V.length) (cpT M τ rt V) ρ) : ∀ f z, z < M → km z < f → (cln M τ (rt z) ∨ rt z ∈ V) → ρ (cpn M V (rt z)) = ins (fun g => ρ (cpn M V g.toNat)) ρ (scF M τ rt f z) ∧ ∀ g, gV (scF M τ rt f z) g → ∃ y : Nat, g = y ∧ y ∈ V ∧ uN τ y < 0 := by
  have r := sf.1
  have h0 := ((gw.sl kc).mp h).1
  intro f
  induction f with
  | zero => intro z _ hk; omega
  | succ f ih =>
    intro z hz hk hc
    have hr := (r z hz).1
    by_cases c : cln M τ z
    · have c' := c.rtt r
      have e : cpn M V (rt z) = rt z := by unfold cpn; rw [if_neg (fun q => (co.mem q).2.2.1 c')]
      rw [sc_cln c, e]
      exact ⟨(h0.rtt r _ z (Nat.lt_succ_self _) hz).symm, fun g hg => hg.elim⟩
    · have c' : ¬ cln M τ (rt z) := fun q => c ((cln_rt sf kc gr hz).mp q)
      have hV := hc.resolve_left c'
      obtain ⟨d1, d2, d3⟩ := cpn_mem (M0 := M) hV
      by_cases hn : uN τ (rt z) < 0
      · rw [sc_var c hn]
        refine ⟨?_, fun g hg => ⟨rt z, hg.symm, hV, hn⟩⟩
        show _ = ρ (cpn M V ((rt z : Int)).toNat)
        rw [Int.toNat_natCast]
      · have hn' : 0 ≤ uN τ (rt z) := by omega
        have hpc : pc τ (rt z) = uP τ (rt z) := by unfold pc; rw [if_pos hn']
        rw [sc_gt c hn, ins_gt, d1]
        have hw := (h (M + V.idxOf (rt z)) (by omega)).2 (by rw [cp_N' d3, if_neg hn]; exact hn')
        rw [cp_N' d3, if_neg hn, cp_P' d3, hpc] at hw
        have ch : ∀ p, p ∈ uP τ (rt z) → p < M ∧ km p < f ∧ (cln M τ (rt p) ∨ rt p ∈ V) := fun p hp => by
          have := k2 _ hr hn' p hp
          rw [← k1 z hz] at this
          exact ⟨(kc _ hr).2.2 hn' p hp, by omega, (co.mem hV).2.2.2 p (by rw [hpc]; exact hp)⟩
        refine ⟨?_, fun g hg => ?_⟩
        · rw [hw, List.map_map, List.map_map]
          congr 1
          refine List.map_congr_left fun p hp => ?_
          obtain ⟨c1, c2, c3⟩ := ch p hp
          exact (ih p c1 c2 c3).1
        · obtain ⟨y, h1, h2⟩ := (gV_ls _ g).mp hg
          obtain ⟨p, hp, rfl⟩ := List.mem_map.mp h1
          obtain ⟨c1, c2, c3⟩ := ch p hp
          exact (ih p c1 c2 c3).2 g h2
/-- sizes of schemes -/
theorem sc_sz (sf : SF M τ rt dp) (kc : KC M τ (· < M)) (gr : ∀ x, x < M → uN τ x = -2 → uS τ x = none) (k1 : ∀ x, x < M → km x = km (rt x)) (k2 : ∀ x, x < M → 0 ≤ uN τ x → ∀ p, p ∈ uP τ x → km p < km x) : SZu M τ rt (fun x => gsz (scF M τ rt (km x + 1) x)) := by
  have r := sf.1
  intro x hx
  have hr := (r x hx).1
  have rr := r.id hx
  have key : ¬ cln M τ x → gsz (scF M τ rt (km x + 1) x) = 1 + ((pc τ (rt x)).map fun p => gsz (scF M τ rt (km p + 1) p)).sum := fun c => by
    by_cases hn : uN τ (rt x) < 0
    · rw [sc_var c hn]
      unfold pc
      rw [if_neg (by omega)]
      rfl
    · rw [sc_gt c hn, gsz_gt, List.map_map]
      unfold pc
      rw [if_pos (by omega)]
      congr 1
      congr 1
      refine List.map_congr_left fun p hp => ?_
      have hp0 := (kc _ hr).2.2 (by omega) p hp
      have := k2 _ hr (by omega) p hp
      rw [← k1 x hx] at this
      show gsz (scF M τ rt (km x) p) = _
      rw [sc_fuel sf kc k1 k2 (km x) (km p + 1) p hp0 (by omega) (by omega)]
  refine ⟨?_, gsz_pos _, fun c => ?_⟩
  · dsimp only
    by_cases c : cln M τ x
    · rw [sc_cln c, sc_cln (c.rtt r)]
      rfl
    · have c' : ¬ cln M τ (rt x) := fun q => c ((cln_rt sf kc gr hx).mp q)
      by_cases hn : uN τ (rt x) < 0
      · rw [sc_var c hn, sc_var c' (by rw [rr]; exact hn), rr]
      · rw [sc_gt c hn, sc_gt c' (by rw [rr]; exact hn), rr, ← k1 x hx]
  · dsimp only
    have c2 : ¬ cln M τ x := fun q => c (q.rtt r)
    have := key c2
    have e : gsz (scF M τ rt (km (rt x) + 1) (rt x)) = gsz (scF M τ rt (km x + 1) x) := by
      by_cases hn : uN τ (rt x) < 0
      · rw [sc_var c2 hn, sc_var c (by rw [rr]; exact hn), rr]
      · rw [sc_gt c2 hn, sc_gt c (by rw [rr]; exact hn), rr, ← k1 x hx]
    rw [e]
    exact this
end
