/-! TYPES: the parts of all roots -/
def rpw (τ : Tb) (z : Nat) : Nat := if (uS τ z).isNone = true then (uP τ z).length else 0
def rpL (τ : Tb) : List Nat → Nat
  | [] => 0
  | z :: l => rpw τ z + rpL τ l
/-- how many parts the roots of M nodes have -/
def rp (M : Nat) (τ : Tb) : Nat := rpL τ (List.range M)
section
variable {M x y : Nat} {τ : Tb}
theorem rpw_ne {z : Nat} (h : z ≠ x) : rpw (tSet τ x y) z = rpw τ z := by
  have es : uS (tSet τ x y) z = if z = x then some y else uS τ z := rfl
  have ep : uP (tSet τ x y) z = uP τ z := rfl
  unfold rpw
  rw [es, if_neg h, ep]
theorem rpw_eq : rpw (tSet τ x y) x = 0 := by
  have es : uS (tSet τ x y) x = if x = x then some y else uS τ x := rfl
  unfold rpw
  rw [es, if_pos rfl, if_neg (by simp)]
theorem rpL_ne : ∀ l : List Nat, x ∉ l → rpL (tSet τ x y) l = rpL τ l := by
  intro l
  induction l with
  | nil => intro _; rfl
  | cons z l ih =>
    intro h
    show rpw (tSet τ x y) z + rpL (tSet τ x y) l = rpw τ z + rpL τ l
    rw [rpw_ne (fun e => h (by rw [e]; exact List.mem_cons_self ..)), ih fun e => h (List.mem_cons_of_mem _ e)]
theorem rpL_set (ex : uS τ x = none) : ∀ l : List Nat, l.Nodup → x ∈ l → rpL (tSet τ x y) l + (uP τ x).length = rpL τ l := by
  intro l
  induction l with
  | nil => intro _ h; cases h
  | cons z l ih =>
    intro nd h
    rw [List.nodup_cons] at nd
    show rpw (tSet τ x y) z + rpL (tSet τ x y) l + _ = rpw τ z + rpL τ l
    by_cases e : z = x
    · subst e
      have e2 : rpw τ z = (uP τ z).length := by
        unfold rpw
        rw [ex, if_pos (by rfl)]
      rw [rpw_eq, rpL_ne l nd.1, e2]
      omega
    · have := ih nd.2 ((List.mem_cons.mp h).resolve_left fun q => e q.symm)
      rw [rpw_ne e]
      omega
/-- a root is gone, and its parts with it -/
theorem rp_set (hx : x < M) (ex : uS τ x = none) : rp M (tSet τ x y) + (uP τ x).length = rp M τ := rpL_set ex _ List.nodup_range (List.mem_range.mpr hx)
end
