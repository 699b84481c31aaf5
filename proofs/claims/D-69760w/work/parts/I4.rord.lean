/-! THE LAW OF NAMES: faults may be noted in any order -/
theorem nt_comm (b : Option (Nat × Nat)) (x y : Nat × Nat) : nt (nt b x) y = nt (nt b y) x := by
  obtain ⟨x1, x2⟩ := x
  obtain ⟨y1, y2⟩ := y
  have key : ∀ (a c : Nat × Nat), ¬ (a.1 < c.1 ∨ (a.1 = c.1 ∧ a.2 ≤ c.2)) → ¬ (c.1 < a.1 ∨ (c.1 = a.1 ∧ c.2 ≤ a.2)) → a = c := fun a c h1 h2 => by omega
  have eq2 : ∀ (a c : Nat × Nat), (a.1 < c.1 ∨ (a.1 = c.1 ∧ a.2 ≤ c.2)) → (c.1 < a.1 ∨ (c.1 = a.1 ∧ c.2 ≤ a.2)) → a = c := fun a c h1 h2 => by
    refine Prod.ext ?_ ?_ <;> omega
  cases b with
  | none =>
    show nt (some (x1, x2)) (y1, y2) = nt (some (y1, y2)) (x1, x2)
    unfold nt
    by_cases h1 : x1 < y1 ∨ (x1 = y1 ∧ x2 ≤ y2)
    · by_cases h2 : y1 < x1 ∨ (y1 = x1 ∧ y2 ≤ x2)
      · have := eq2 (x1, x2) (y1, y2) h1 h2
        simp only [if_pos h1, if_pos h2, this]
      · simp only [if_pos h1, if_neg h2]
    · by_cases h2 : y1 < x1 ∨ (y1 = x1 ∧ y2 ≤ x2)
      · simp only [if_neg h1, if_pos h2]
      · exact absurd (by omega) h2
  | some z =>
    obtain ⟨z1, z2⟩ := z
    have e : ∀ u v : Nat × Nat, nt (some u) v = if u.1 < v.1 ∨ (u.1 = v.1 ∧ u.2 ≤ v.2) then some u else some v := fun _ _ => rfl
    rw [e (z1, z2) (x1, x2), e (z1, z2) (y1, y2)]
    by_cases h1 : z1 < x1 ∨ (z1 = x1 ∧ z2 ≤ x2)
    · by_cases h2 : z1 < y1 ∨ (z1 = y1 ∧ z2 ≤ y2)
      · simp only [if_pos h1, if_pos h2, e]
      · have h3 : y1 < x1 ∨ (y1 = x1 ∧ y2 ≤ x2) := by omega
        simp only [if_pos h1, if_neg h2, e, if_pos h3]
    · by_cases h2 : z1 < y1 ∨ (z1 = y1 ∧ z2 ≤ y2)
      · have h3 : x1 < y1 ∨ (x1 = y1 ∧ x2 ≤ y2) := by omega
        simp only [if_neg h1, if_pos h2, e, if_pos h3]
      · simp only [if_neg h1, if_neg h2, e]
        by_cases h3 : x1 < y1 ∨ (x1 = y1 ∧ x2 ≤ y2)
        · by_cases h4 : y1 < x1 ∨ (y1 = x1 ∧ y2 ≤ x2)
          · have := eq2 (x1, x2) (y1, y2) h3 h4
            simp only [if_pos h3, if_pos h4, this]
          · simp only [if_pos h3, if_neg h4]
        · by_cases h4 : y1 < x1 ∨ (y1 = x1 ∧ y2 ≤ x2)
          · simp only [if_neg h3, if_pos h4]
          · exact absurd (by omega) h4
/-- faults noted one behind another -/
def nts (b : Option (Nat × Nat)) (l : List (Nat × Nat)) : Option (Nat × Nat) := l.foldl nt b
theorem nts_app {b : Option (Nat × Nat)} {l1 l2 : List (Nat × Nat)} : nts b (l1 ++ l2) = nts (nts b l1) l2 := List.foldl_append ..
theorem nts_nt {b : Option (Nat × Nat)} {x : Nat × Nat} : ∀ l : List (Nat × Nat), nts (nt b x) l = nt (nts b l) x := by
  intro l
  induction l generalizing b with
  | nil => rfl
  | cons y l ih =>
    show nts (nt (nt b x) y) l = nt (nts (nt b y) l) x
    rw [nt_comm, ih]
/-- one that was noted already -/
theorem nts_mem {b : Option (Nat × Nat)} {x : Nat × Nat} : ∀ l : List (Nat × Nat), x ∈ l → nt (nts b l) x = nts b l := by
  intro l
  induction l generalizing b with
  | nil => intro h; cases h
  | cons y l ih =>
    intro h
    show nt (nts (nt b y) l) x = nts (nt b y) l
    rcases List.mem_cons.mp h with rfl | h
    · rw [← nts_nt, nt_nt]
    · exact ih h
theorem nts_sub {b : Option (Nat × Nat)} {l1 : List (Nat × Nat)} : ∀ l2 : List (Nat × Nat), (∀ x, x ∈ l2 → x ∈ l1) → nts (nts b l1) l2 = nts b l1 := by
  intro l2
  induction l2 with
  | nil => intro _; rfl
  | cons y l ih =>
    intro h
    show nts (nt (nts b l1) y) l = _
    rw [nts_mem l1 (h y (List.mem_cons_self ..))]
    exact ih fun x hx => h x (List.mem_cons_of_mem _ hx)
theorem nts_sw {b : Option (Nat × Nat)} {l1 : List (Nat × Nat)} : ∀ l2 : List (Nat × Nat), nts (nts b l1) l2 = nts (nts b l2) l1 := by
  intro l2
  induction l2 generalizing b with
  | nil => rfl
  | cons y l ih =>
    show nts (nt (nts b l1) y) l = nts (nts (nt b y) l) l1
    rw [← nts_nt, ih]
/-- the same faults: the same one is the least -/
theorem nts_eq {b : Option (Nat × Nat)} {l1 l2 : List (Nat × Nat)} (h1 : ∀ x, x ∈ l1 → x ∈ l2) (h2 : ∀ x, x ∈ l2 → x ∈ l1) : nts b l1 = nts b l2 := by
  rw [← nts_sub l2 h2, nts_sw, nts_sub l1 h1]
/-- a state with more faults -/
def wN (l : List (Nat × Nat)) (s : RSt) : RSt := (s.1, s.2.1, s.2.2.1, s.2.2.2.1, s.2.2.2.2.1, nts s.2.2.2.2.2 l)
theorem wN_nil {s : RSt} : wN [] s = s := rfl
theorem wN_app {l1 l2 : List (Nat × Nat)} {s : RSt} : wN l2 (wN l1 s) = wN (l1 ++ l2) s := by
  unfold wN
  rw [nts_app]
theorem rNote_w {pl : Nat → Nat} {n t : Nat} {s : RSt} : rNote pl n t s = wN [(pl t, n)] s := rfl
theorem rIf_w {pl : Nat → Nat} {b : Bool} {n t : Nat} {s : RSt} : rIf pl b n t s = wN (if b = true then [(pl t, n)] else []) s := by
  cases b <;> rfl
/-- how many arguments a type has -/
def dArD (Dt : Dtb) (d : Nat) : Nat := match Dt[d]? with
  | some x => x.2.1
  | none => 0
def qLs (f : Tr → Tr × List (Nat × Nat)) : List Tr → List Tr × List (Nat × Nat)
  | [] => ([], [])
  | x :: l => ((f x).1 :: (qLs f l).1, (f x).2 ++ (qLs f l).2)
/-- types: what is left of them, and their faults; they ask for the types in sight alone -/
def qTy (pl : Nat → Nat) (T : List (Nat × Nat)) (Dt : Dtb) : Nat → List Nat → Tr → Tr × List (Nat × Nat)
  | 0, _, x => (x, [])
  | n + 1, vs, x => match x with
    | .mulL k (.add (.num t) y) =>
      if k = 57 then (.mulL 57 (.add (.num t) (.num (opN (vs.findIdx? fun v => v == nv y)))), if (vs.findIdx? fun v => v == nv y).isNone = true then [(pl t.toNat, 2)] else [])
      else if k = 58 then match y with
        | .add v as =>
          let d := lk T (nv v)
          let s1 := match d with
            | none => [(pl t.toNat, 2)]
            | some d => if (!(dArD Dt d == (unl as).length)) = true then [(pl t.toNat, 4)] else []
          (.mulL 58 (.add (.num t) (.add (.num (opN d)) (ls (qLs (qTy pl T Dt n vs) (unl as)).1))), s1 ++ (qLs (qTy pl T Dt n vs) (unl as)).2)
        | _ => (x, [])
      else if k = 59 then match y with
        | .add a b => (.mulL 59 (.add (.num t) (.add (qTy pl T Dt n vs a).1 (qTy pl T Dt n vs b).1)), (qTy pl T Dt n vs a).2 ++ (qTy pl T Dt n vs b).2)
        | _ => (x, [])
      else if k = 60 then (.mulL 60 (.add (.num t) (ls (qLs (qTy pl T Dt n vs) (unl y)).1)), (qLs (qTy pl T Dt n vs) (unl y)).2)
      else (x, [])
    | _ => (x, [])
theorem rLs_q {f : Tr → RSt → Tr × RSt} {g : Tr → Tr × List (Nat × Nat)} {T : List (Nat × Nat)} {Dt : Dtb} (hf : ∀ x s, rT s = T → rDt s = Dt → f x s = ((g x).1, wN (g x).2 s)) : ∀ l s, rT s = T → rDt s = Dt → rLs f l s = ((qLs g l).1, wN (qLs g l).2 s) := by
  intro l
  induction l with
  | nil => intro s _ _; rfl
  | cons x l ih =>
    intro s h1 h2
    show ((f x s).1 :: (rLs f l (f x s).2).1, (rLs f l (f x s).2).2) = _
    rw [hf x s h1 h2]
    dsimp only
    rw [ih (wN (g x).2 s) h1 h2, wN_app]
    rfl
theorem rTy_q {pl : Nat → Nat} {T : List (Nat × Nat)} {Dt : Dtb} : ∀ n vs x s, rT s = T → rDt s = Dt → rTy pl n vs x s = ((qTy pl T Dt n vs x).1, wN (qTy pl T Dt n vs x).2 s) := by
  intro n
  induction n with
  | zero => intro vs x s _ _; rfl
  | succ n ih =>
    intro vs x s h1 h2
    have hd : ∀ d, dAr s d = dArD Dt d := fun d => by
      unfold dAr dArD
      rw [h2]
      cases Dt[d]? <;> rfl
    have hL : ∀ l s, rT s = T → rDt s = Dt → rLs (rTy pl n vs) l s = ((qLs (qTy pl T Dt n vs) l).1, wN (qLs (qTy pl T Dt n vs) l).2 s) := rLs_q fun x s h1 h2 => ih vs x s h1 h2
    cases x with
    | mulL k z =>
      cases z with
      | add u y =>
        cases u with
        | num t =>
          by_cases k1 : k = 57
          · subst k1
            show (Int.Internal.Linear.Expr.mulL 57 (.add (.num t) (.num (opN (vs.findIdx? fun v => v == nv y)))), rIf pl (vs.findIdx? fun v => v == nv y).isNone 2 t.toNat s) = (Int.Internal.Linear.Expr.mulL 57 (.add (.num t) (.num (opN (vs.findIdx? fun v => v == nv y)))), wN (if (vs.findIdx? fun v => v == nv y).isNone = true then [(pl t.toNat, 2)] else []) s)
            rw [rIf_w]
          by_cases k2 : k = 58
          · subst k2
            cases y with
            | add v as =>
              show (let d := lk (rT s) (nv v); let s1 := (match d with | none => rNote pl 2 t.toNat s | some d => rIf pl (!(dAr s d == (unl as).length)) 4 t.toNat s); (Int.Internal.Linear.Expr.mulL 58 (.add (.num t) (.add (.num (opN d)) (ls (rLs (rTy pl n vs) (unl as) s1).1))), (rLs (rTy pl n vs) (unl as) s1).2)) = (let d := lk T (nv v); let s1 := (match d with | none => [(pl t.toNat, 2)] | some d => if (!(dArD Dt d == (unl as).length)) = true then [(pl t.toNat, 4)] else []); ((Int.Internal.Linear.Expr.mulL 58 (.add (.num t) (.add (.num (opN d)) (ls (qLs (qTy pl T Dt n vs) (unl as)).1)))), wN (s1 ++ (qLs (qTy pl T Dt n vs) (unl as)).2) s))
              dsimp only
              rw [h1]
              cases hl : lk T (nv v) with
              | none =>
                dsimp only
                rw [rNote_w, hL _ (wN [(pl t.toNat, 2)] s) h1 h2, wN_app]
              | some d =>
                dsimp only
                rw [rIf_w, hd, hL _ (wN (if (!(dArD Dt d == (unl as).length)) = true then [(pl t.toNat, 4)] else []) s) h1 h2, wN_app]
            | _ => rfl
          by_cases k3 : k = 59
          · subst k3
            cases y with
            | add a b =>
              show (Int.Internal.Linear.Expr.mulL 59 (.add (.num t) (.add (rTy pl n vs a s).1 (rTy pl n vs b (rTy pl n vs a s).2).1)), (rTy pl n vs b (rTy pl n vs a s).2).2) = (Int.Internal.Linear.Expr.mulL 59 (.add (.num t) (.add (qTy pl T Dt n vs a).1 (qTy pl T Dt n vs b).1)), wN ((qTy pl T Dt n vs a).2 ++ (qTy pl T Dt n vs b).2) s)
              rw [ih vs a s h1 h2, ih vs b (wN (qTy pl T Dt n vs a).2 s) h1 h2, wN_app]
            | _ => rfl
          by_cases k4 : k = 60
          · subst k4
            show (Int.Internal.Linear.Expr.mulL 60 (.add (.num t) (ls (rLs (rTy pl n vs) (unl y) s).1)), (rLs (rTy pl n vs) (unl y) s).2) = (Int.Internal.Linear.Expr.mulL 60 (.add (.num t) (ls (qLs (qTy pl T Dt n vs) (unl y)).1)), wN (qLs (qTy pl T Dt n vs) (unl y)).2 s)
            rw [hL _ s h1 h2]
          unfold rTy qTy
          dsimp only
          rw [if_neg k1, if_neg k2, if_neg k3, if_neg k4, if_neg k1, if_neg k2, if_neg k3, if_neg k4]
          rfl
        | _ => rfl
      | _ => rfl
    | _ => rfl
