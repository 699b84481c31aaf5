/-! THE COMPONENT'S TYPES: how great a type is -/
/-- the sizes of nodes -/
def SZ (M : Nat) (τ : Tb) (rt sz : Nat → Nat) : Prop := ∀ x, x < M → sz x = sz (rt x) ∧ sz (rt x) = 1 + ((pc τ (rt x)).map sz).sum
/-- how many names a ground type has -/
def gzz : Tr → Bool → Nat
  | .mulL _ a, b => if b = true then 0 else gzz a true + 1
  | .add a c, b => if b = true then gzz a false + gzz c true else 1
  | _, b => if b = true then 0 else 1
def gsz (t : Tr) : Nat := gzz t false
theorem gsz_ls : ∀ l : List Tr, gzz (ls l) true = (l.map gsz).sum := by
  intro l
  induction l with
  | nil => rfl
  | cons a l ih =>
    show (if true = true then gzz a false + gzz (ls l) true else 1) = _
    rw [if_pos rfl, ih, List.map_cons, List.sum_cons]
    rfl
theorem gsz_gt {n : Int} {l : List Tr} : gsz (gt n l) = 1 + (l.map gsz).sum := by
  show (if false = true then 0 else gzz (ls l) true + 1) = _
  rw [if_neg (by decide), gsz_ls]
  omega
theorem gsz_pos (t : Tr) : 1 ≤ gsz t := by
  cases t <;> first | exact Nat.le_refl _ | exact Nat.succ_le_succ (Nat.zero_le _)
section
variable {G : Gh} {d M Pn m t : Nat} {h : AH} {τ : Tb} {fs rt dp sz : Nat → Nat} {ρ : Nat → Tr}
theorem SF.szx (s : SF M τ rt dp) (kc : KC M τ (· < M)) : ∃ sz, SZ M τ rt sz ∧ (∀ ρ, Sl M τ ρ → ∀ x, x < M → sz x ≤ gsz (ρ x)) ∧ ∃ ρ, Sl M τ ρ ∧ (∀ x, x < M → uN τ (rt x) < 0 → ρ x = gt 9 []) ∧ ∀ x, x < M → sz x = gsz (ρ x) := by
  obtain ⟨ρ, h1, h2⟩ := s.sol kc (fun _ => gt 9 [])
  obtain ⟨km, k1, k2⟩ := s.kmx
  obtain ⟨r, nc, cp, -⟩ := s
  have zr : ∀ x, x < M → gsz (ρ x) = 1 + ((pc τ (rt x)).map fun y => gsz (ρ y)).sum := fun x hx => by
    have hr := (r x hx).1
    rw [h1.rtt r _ x (Nat.lt_succ_self _) hx]
    unfold pc
    by_cases c : 0 ≤ uN τ (rt x)
    · rw [if_pos c, (h1 _ hr).2 c, gsz_gt, List.map_map]
      rfl
    · rw [if_neg c, h2 _ hr (by rw [r.id hx]; omega), gsz_gt]
      rfl
  refine ⟨fun x => gsz (ρ x), fun x hx => ?_, fun ρ' h' => ?_, ρ, h1, h2, fun _ _ => rfl⟩
  · refine ⟨by dsimp only; rw [← h1.rtt r _ x (Nat.lt_succ_self _) hx], ?_⟩
    have := zr (rt x) (r x hx).1
    rw [r.id hx] at this
    exact this
  · have key : ∀ n x, km x < n → x < M → gsz (ρ x) ≤ gsz (ρ' x) := by
      intro n
      induction n with
      | zero => intro x hx; omega
      | succ n ih =>
        intro x hx hM
        have hr := (r x hM).1
        rw [h1.rtt r _ x (Nat.lt_succ_self _) hM, h'.rtt r _ x (Nat.lt_succ_self _) hM]
        by_cases c : 0 ≤ uN τ (rt x)
        · rw [(h1 _ hr).2 c, (h' _ hr).2 c, gsz_gt, gsz_gt, List.map_map, List.map_map]
          have : ∀ l : List Nat, (∀ p, p ∈ l → gsz (ρ p) ≤ gsz (ρ' p)) → (l.map (gsz ∘ ρ)).sum ≤ (l.map (gsz ∘ ρ')).sum := by
            intro l
            induction l with
            | nil => intro _; exact Nat.le_refl _
            | cons a l ih2 =>
              intro h
              rw [List.map_cons, List.map_cons, List.sum_cons, List.sum_cons]
              have h1 := h a (List.mem_cons_self ..)
              have h2 := ih2 fun p hp => h p (List.mem_cons_of_mem _ hp)
              show gsz (ρ a) + _ ≤ gsz (ρ' a) + _
              omega
          have := this (uP τ (rt x)) fun p hp => ih p (by have := k2 _ hr c p hp; rw [← k1 x hM] at this; omega) ((kc _ hr).2.2 c p hp)
          omega
        · rw [h2 _ hr (by rw [r.id hM]; omega), gsz_gt]
          exact gsz_pos _
    exact fun x hM => key _ x (Nat.lt_succ_self _) hM
theorem sum_take (f : Nat → Nat) : ∀ (l : List Nat) (i p : Nat), l[i]? = some p → ((l.take (i + 1)).map f).sum = ((l.take i).map f).sum + f p := by
  intro l i p h
  rw [List.take_add_one, h, List.map_append, List.sum_append]
  show _ + (f p + 0) = _
  omega
theorem sum_le (f : Nat → Nat) : ∀ (l : List Nat) (i : Nat), ((l.take i).map f).sum ≤ (l.map f).sum := by
  intro l
  induction l with
  | nil => intro i; rw [List.take_nil]; exact Nat.le_refl _
  | cons a l ih =>
    intro i
    cases i with
    | zero => exact Nat.zero_le _
    | succ i =>
      rw [List.take_succ_cons, List.map_cons, List.map_cons, List.sum_cons, List.sum_cons]
      have := ih i
      omega
/-- how great a type is, up to one more than the most -/
theorem c_size (k : TyS G h M Pn τ fs) (nm : NmS G h M τ) (r : RTs M τ rt dp) (hz : SZ M τ rt sz) : ∀ n mo x D, mo < n → mo ≤ 100000 → x < M → mo + 3 ≤ D → C G mX3_size D [.ref (gW G 2), .int (nI x), .int (nI mo)] h (Ret (.int (nI (min (sz x) (mo + 1)))) h) := by
  intro n
  induction n with
  | zero => intro mo x D hn; omega
  | succ n ih =>
    intro mo x D hn hmo hx hD
    obtain ⟨D, rfl⟩ : ∃ D', D = D' + 1 := ⟨D - 1, by omega⟩
    have s2 := k.1.at (i := 2) (by decide)
    have hM := k.2.2.2.1
    have hr := (r x hx).1
    obtain ⟨z1, z2⟩ := hz x hx
    refine bX3_size G D h _ _ _ s2 (C.ri (c_fd k r hx) (C.ri (c_hm k nm hr) ?_))
    have ehm : (if 0 ≤ uN τ (rt x) then (uP τ (rt x)).length else 0) = (pc τ (rt x)).length := by
      unfold pc
      split <;> rfl
    have hl6 : (pc τ (rt x)).length ≤ 6 := by
      unfold pc
      by_cases c : 0 ≤ uN τ (rt x)
      · rw [if_pos c]; exact (nm _ hr c).1.2
      · rw [if_neg c]; exact Nat.zero_le _
    rw [ehm]
    have loop : ∀ f i, (pc τ (rt x)).length - i < f → i ≤ (pc τ (rt x)).length → X G mX3_size (D + 1) none [] 19 [(0, .ref (gW G 2)), (2, .int (nI mo)), (3, .int (nI (rt x))), (4, .int (nI (min (1 + (((pc τ (rt x)).take i).map sz).sum) (mo + 1)))), (5, .int (nI (pc τ (rt x)).length)), (6, .int (nI i))] [] h (Ret (.int (nI (min (sz x) (mo + 1)))) h) := by
      intro f
      induction f with
      | zero => intro i hf; omega
      | succ f IH =>
        intro i hf hi
        refine bX3_size_19 G D h _ _ _ _ _ _ s2 ?_
        rw [nI_leI (by omega) (by omega)]
        have sl := sum_le sz (pc τ (rt x)) i
        refine ⟨fun z => ?_, fun z => ?_⟩
        · rw [List.take_of_length_le (by omega), ← z2, ← z1]
          exact ⟨rfl, rfl⟩
        · have hil : i < (pc τ (rt x)).length := by omega
          obtain ⟨p, hp⟩ : ∃ p, (pc τ (rt x))[i]? = some p := ⟨_, List.getElem?_eq_getElem hil⟩
          obtain ⟨hn0, hpu, hpM⟩ := pc_lt k hr (List.mem_of_getElem? hp)
          have hpu' : (uP τ (rt x))[i]? = some p := by
            unfold pc at hp
            rw [if_pos hn0] at hp
            exact hp
          rw [nI_ltI (by omega) (by omega)]
          refine ⟨fun z3 => ?_, fun z3 => ?_⟩
          · have e1 : min (1 + (((pc τ (rt x)).take i).map sz).sum) (mo + 1) = mo + 1 := by omega
            have e2 : min (sz x) (mo + 1) = mo + 1 := by omega
            rw [e1, e2]
            exact ⟨rfl, rfl⟩
          · have e1 : min (1 + (((pc τ (rt x)).take i).map sz).sum) (mo + 1) = 1 + (((pc τ (rt x)).take i).map sz).sum := by omega
            rw [e1, nI_sub (by omega) (by omega)]
            obtain ⟨D', rfl⟩ : ∃ D', D = D' + 1 := ⟨D - 1, by omega⟩
            refine C.ri (c_pt k r hr hpu') (C.ri (ih _ (rt p) _ (by omega) (by omega) (r p hpM).1 (by omega)) ?_)
            rintro _ rfl _ rfl
            rw [nI_add, nI_1]
            have := IH (i + 1) (by omega) (by omega)
            rw [sum_take sz _ _ _ hp, (hz p hpM).1] at this
            have e3 : 1 + (((pc τ (rt x)).take i).map sz).sum + min (sz (rt p)) (mo - (1 + (((pc τ (rt x)).take i).map sz).sum) + 1) = min (1 + ((((pc τ (rt x)).take i).map sz).sum + sz (rt p))) (mo + 1) := by omega
            rw [e3]
            exact this
    have := loop ((pc τ (rt x)).length + 1) 0 (by omega) (by omega)
    have e0 : min (1 + (((pc τ (rt x)).take 0).map sz).sum) (mo + 1) = 1 := by
      show min (1 + 0) (mo + 1) = 1
      omega
    rw [e0] at this
    exact this
end
