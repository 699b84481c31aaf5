/-! THE LAW OF NAMES: datatypes; their tables and their faults apart -/
section
variable {pl : Nat → Nat} {s : RSt} {t n : Nat}
/-- the names of types come into sight -/
def aT : Nat → List Tr → List (Nat × Nat) → List (Nat × Nat)
  | _, [], T => T
  | d, x :: l, T => aT (d + 1) l ((nv1 x, d) :: T)
/-- the tables behind the names of types -/
def aD (t : Nat) (ds : List Tr) (s : RSt) : RSt := (s.1, s.2.1, aT (rDt s).length ds s.2.2.1, s.2.2.2.1, rDt s ++ ds.map (fun d => (nv1 d, (dVs d).length, 0, t)), s.2.2.2.2.2)
/-- the faults of variables -/
def qVs (pl : Nat → Nat) (vs : List Tr) (i : Nat) : List (Nat × Nat) := if ((vs.take i).any fun v => nv1 v == nv1 (vs.getD i (.num 0))) = true then [(pl (tkN (vs.getD i (.num 0))), 3)] else []
/-- the faults of the names of types and of variables -/
def qD1 (pl : Nat → Nat) : List Nat → List Tr → List (Nat × Nat)
  | _, [] => []
  | old, d :: l => (if (old.any (· == nv1 d)) = true then [(pl (tkN d), 3)] else []) ++ (List.range (dVs d).length).flatMap (qVs pl (dVs d)) ++ qD1 pl (old ++ [nv1 d]) l
theorem rDv_q {vs : List Tr} : ∀ (l : List Nat) (s : RSt), l.foldl (fun s i => rIf pl ((vs.take i).any fun v => nv1 v == nv1 (vs.getD i (.num 0))) 3 (tkN (vs.getD i (.num 0))) s) s = wN (l.flatMap (qVs pl vs)) s := by
  intro l
  induction l with
  | nil => intro s; rfl
  | cons i l ih =>
    intro s
    rw [List.foldl_cons, ih, rIf_w, wN_app, List.flatMap_cons]
    rfl
theorem rD1_q : ∀ (ds : List Tr) (old : List Nat) (s : RSt), rD1 pl t old ds s = wN (qD1 pl old ds) (aD t ds s) := by
  intro ds
  induction ds with
  | nil =>
    intro old s
    show s = wN [] (aD t [] s)
    unfold aD aT
    rw [List.map_nil, List.append_nil]
    rfl
  | cons d l ih =>
    intro old s
    unfold rD1
    dsimp only
    rw [rDv_q, rIf_w, wN_app, ih]
    have e1 : qD1 pl old (d :: l) = (if (old.any (· == nv1 d)) = true then [(pl (tkN d), 3)] else []) ++ (List.range (dVs d).length).flatMap (qVs pl (dVs d)) ++ qD1 pl (old ++ [nv1 d]) l := rfl
    rw [e1]
    generalize (if (old.any (· == nv1 d)) = true then [(pl (tkN d), 3)] else []) ++ (List.range (dVs d).length).flatMap (qVs pl (dVs d)) = L
    show wN (qD1 pl (old ++ [nv1 d]) l) (aD t l (s.1, s.2.1, (nv1 d, (rDt s).length) :: s.2.2.1, s.2.2.2.1, rDt s ++ [(nv1 d, (dVs d).length, 0, t)], nts s.2.2.2.2.2 L)) = wN (L ++ qD1 pl (old ++ [nv1 d]) l) (aD t (d :: l) s)
    rw [← wN_app]
    congr 1
    unfold aD
    show (s.1, s.2.1, aT (rDt s ++ [(nv1 d, (dVs d).length, 0, t)]).length l ((nv1 d, (rDt s).length) :: s.2.2.1), s.2.2.2.1, (rDt s ++ [(nv1 d, (dVs d).length, 0, t)]) ++ l.map (fun d => (nv1 d, (dVs d).length, 0, t)), nts s.2.2.2.2.2 L) = (s.1, s.2.1, aT ((rDt s).length + 1) l ((nv1 d, (rDt s).length) :: s.2.2.1), s.2.2.2.1, rDt s ++ ((nv1 d, (dVs d).length, 0, t) :: l.map (fun d => (nv1 d, (dVs d).length, 0, t))), nts s.2.2.2.2.2 L)
    rw [List.length_append, List.length_singleton, List.append_assoc]
    rfl
/-- what the constructors of a datatype have, and their faults -/
def qD2c (pl : Nat → Nat) (T : List (Nat × Nat)) (Dt : Dtb) (n : Nat) (vs : List Nat) : List Nat → List Tr → List Tr × List (Nat × Nat)
  | _, [] => ([], [])
  | old, c :: l =>
    let r := if isN (cHas c) = true then (cHas c, []) else qTy pl T Dt n vs (cHas c)
    (r.1 :: (qD2c pl T Dt n vs (old ++ [nv1 c]) l).1, (if (old.any (· == nv1 c)) = true then [(pl (tkN c), 3)] else []) ++ r.2 ++ (qD2c pl T Dt n vs (old ++ [nv1 c]) l).2)
def qD2 (pl : Nat → Nat) (T : List (Nat × Nat)) (Dt : Dtb) (n : Nat) : List Nat → List Tr → List (List Tr) × List (Nat × Nat)
  | _, [] => ([], [])
  | old, d :: l =>
    let r := qD2c pl T Dt n ((dVs d).map nv1) old (dCs d)
    (r.1 :: (qD2 pl T Dt n (old ++ (dCs d).map nv1) l).1, r.2 ++ (qD2 pl T Dt n (old ++ (dCs d).map nv1) l).2)
theorem rD2c_q {T : List (Nat × Nat)} {Dt : Dtb} {vs : List Nat} : ∀ (l : List Tr) (old : List Nat) (s : RSt), rT s = T → rDt s = Dt → rD2c pl n vs old l s = ((qD2c pl T Dt n vs old l).1, wN (qD2c pl T Dt n vs old l).2 s) := by
  intro l
  induction l with
  | nil => intro old s _ _; rfl
  | cons c l ih =>
    intro old s h1 h2
    unfold rD2c qD2c
    dsimp only
    rw [rIf_w]
    generalize (if (old.any (· == nv1 c)) = true then [(pl (tkN c), 3)] else []) = L
    by_cases z : isN (cHas c) = true
    · rw [if_pos z, if_pos z]
      dsimp only
      rw [ih _ (wN L s) h1 h2, wN_app, List.append_nil]
    · rw [if_neg z, if_neg z, rTy_q n vs (cHas c) (wN L s) h1 h2]
      dsimp only
      rw [ih _ (wN (qTy pl T Dt n vs (cHas c)).2 (wN L s)) h1 h2, wN_app, wN_app, ← List.append_assoc]
theorem rD2_q {T : List (Nat × Nat)} {Dt : Dtb} : ∀ (l : List Tr) (old : List Nat) (s : RSt), rT s = T → rDt s = Dt → rD2 pl n old l s = ((qD2 pl T Dt n old l).1, wN (qD2 pl T Dt n old l).2 s) := by
  intro l
  induction l with
  | nil => intro old s _ _; rfl
  | cons d l ih =>
    intro old s h1 h2
    unfold rD2 qD2
    dsimp only
    rw [rD2c_q (dCs d) old s h1 h2]
    dsimp only
    rw [ih _ (wN _ s) h1 h2, wN_app]
/-- the last step asks for no fault -/
theorem rD3c_w {d : Nat} {L : List (Nat × Nat)} : ∀ (l : List Tr) (i : Nat) (hs : List Tr) (s : RSt), rD3c d i l hs (wN L s) = ((rD3c d i l hs s).1, wN L (rD3c d i l hs s).2) := by
  intro l
  induction l with
  | nil => intro i hs s; cases hs <;> rfl
  | cons c l ih =>
    intro i hs s
    cases hs with
    | nil => rfl
    | cons h hs =>
      have e := ih (i + 1) hs (s.1, (nv1 c, (rCt s).length) :: s.2.1, s.2.2.1, rCt s ++ [(nv1 c, d, i, h)], s.2.2.2.2)
      show (_ :: (rD3c d (i + 1) l hs (wN L (s.1, (nv1 c, (rCt s).length) :: s.2.1, s.2.2.1, rCt s ++ [(nv1 c, d, i, h)], s.2.2.2.2))).1, (rD3c d (i + 1) l hs (wN L (s.1, (nv1 c, (rCt s).length) :: s.2.1, s.2.2.1, rCt s ++ [(nv1 c, d, i, h)], s.2.2.2.2))).2) = _
      rw [e]
      rfl
theorem rD3_w {L : List (Nat × Nat)} : ∀ (l : List Tr) (d : Nat) (hs : List (List Tr)) (s : RSt), rD3 d l hs (wN L s) = ((rD3 d l hs s).1, wN L (rD3 d l hs s).2) := by
  intro l
  induction l with
  | nil => intro d hs s; cases hs <;> rfl
  | cons x l ih =>
    intro d hs s
    cases hs with
    | nil => rfl
    | cons h hs =>
      have e : dSet d (dCs x).length (wN L s) = wN L (dSet d (dCs x).length s) := rfl
      unfold rD3
      dsimp only
      rw [e, rD3c_w]
      dsimp only
      rw [ih]
/-- DATATYPES: their tables, their trees, their faults -/
theorem rs_data {kn : Nat → Bool} (ds : List Tr) : rs pl kn (n + 1) 2 (n1 53 t (ls ds)) s = (n1 53 t (ls (rD3 (rDt s).length ds (qD2 pl (rT (aD t ds s)) (rDt (aD t ds s)) n [] ds).1 (aD t ds s)).1), wN (qD1 pl [] ds ++ (qD2 pl (rT (aD t ds s)) (rDt (aD t ds s)) n [] ds).2) (rD3 (rDt s).length ds (qD2 pl (rT (aD t ds s)) (rDt (aD t ds s)) n [] ds).1 (aD t ds s)).2) := by
  have e0 : rs pl kn (n + 1) 2 (n1 53 t (ls ds)) s = (n1 53 t (ls (rD3 (rDt s).length (unl (ls ds)) (rD2 pl n [] (unl (ls ds)) (rD1 pl t [] (unl (ls ds)) s)).1 (rD2 pl n [] (unl (ls ds)) (rD1 pl t [] (unl (ls ds)) s)).2).1), (rD3 (rDt s).length (unl (ls ds)) (rD2 pl n [] (unl (ls ds)) (rD1 pl t [] (unl (ls ds)) s)).1 (rD2 pl n [] (unl (ls ds)) (rD1 pl t [] (unl (ls ds)) s)).2).2) := rfl
  rw [e0, unl_ls, rD1_q, rD2_q ds [] (wN (qD1 pl [] ds) (aD t ds s)) rfl rfl]
  dsimp only
  rw [wN_app, rD3_w]
  rfl
end
