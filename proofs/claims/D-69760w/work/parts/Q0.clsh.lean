/-! THE LAW OF CLAUSES: shapes of patterns, rows that are of use -/
def sN (hd al : Int) (l : List Tr) : Tr := .mulL hd (.add (.num al) (ls l))
def sH : Tr → Int
  | .mulL h _ => h
  | _ => 0
def sAl : Tr → Int
  | .mulL _ (.add (.num a) _) => a
  | _ => 0
def sP : Tr → List Tr
  | .mulL _ (.add _ l) => unl l
  | _ => []
/-- how many parts a shape has in all -/
def pq : Tr → Nat
  | .mulL _ x => pq x - 1
  | .add a b => pq a + pq b + 1
  | _ => 0
def pqs : List Tr → Nat
  | [] => 0
  | x :: l => pq x + pqs l
def cNo (Ct : Ctb) (c : Nat) : Int := match Ct[c]? with
  | some x => (x.2.2.1 : Nat)
  | none => 0
def cAl (Ct : Ctb) (Dt : Dtb) (c : Nat) : Int := match Ct[c]? with
  | some x => (match Dt[x.2.1]? with
    | some y => (y.2.2.1 : Nat)
    | none => 0)
  | none => 0
def shp (Ct : Ctb) (Dt : Dtb) : Nat → Tr → Tr
  | 0, _ => .num 0
  | n + 1, x => match x with
    | .mulL k (.add (.num _) y) =>
      if k = 33 then (match y with
        | .add (.num c) sub => sN (cNo Ct c.toNat) (cAl Ct Dt c.toNat) (if isN sub = true then [] else [shp Ct Dt n sub])
        | _ => .num 0)
      else if k = 34 then (match y with
        | .num v => sN v 0 []
        | _ => .num 0)
      else if k = 35 then (match y with
        | .num v => sN v 2 []
        | _ => .num 0)
      else if k = 37 then sN 0 1 ((unl y).map (shp Ct Dt n))
      else if k = 38 then (unl y).foldr (fun p s => sN 1 2 [shp Ct Dt n p, s]) (sN 0 2 [])
      else if k = 39 then (match y with
        | .add a b => sN 1 2 [shp Ct Dt n a, shp Ct Dt n b]
        | _ => .num 0)
      else if k = 19 then shp Ct Dt n y
      else .num 0
    | .mulL k _ => if k = 36 then sN 0 1 [] else .num 0
    | _ => .num 0
def rowF (hd : Int) (n : Nat) : List Tr → Option (List Tr)
  | [] => none
  | p :: r => if isN p = true then some (List.replicate n (.num 0) ++ r) else if sH p = hd then some (sP p ++ r) else none
def rowE : List Tr → Option (List Tr)
  | [] => none
  | p :: r => if isN p = true then some r else none
/-- the first column -/
def fcl (rows : List (List Tr)) : List Tr := rows.map fun r => r.headD (.num 0)
/-- how many heads there are in all, by the last one that is known -/
def whl : Int → List Tr → Int
  | w, [] => w
  | w, p :: l => whl (if isN p = true then w else sAl p) l
def hasH (l : List Tr) (h : Int) : Bool := l.any fun o => !isN o && sH o == h
/-- how many different heads -/
def dcn : List Tr → List Tr → Nat
  | _, [] => 0
  | sn, p :: l => (if isN p = true ∨ hasH sn (sH p) = true then 0 else 1) + dcn (sn ++ [p]) l
def us : Nat → List (List Tr) → List Tr → Bool
  | 0, _, _ => false
  | n + 1, rows, q => match q with
    | [] => rows.isEmpty
    | s :: q' => if rows.isEmpty = true then true
      else if isN s = false then us n (rows.filterMap (rowF (sH s) (sP s).length)) (sP s ++ q')
      else if whl (-1) (fcl rows) ≤ 0 ∨ (dcn [] (fcl rows) : Int) < whl (-1) (fcl rows) then us n (rows.filterMap rowE) q'
      else (List.range (whl (-1) (fcl rows)).toNat).any fun (h : Nat) => match (fcl rows).find? fun p => !isN p && sH p == (h : Int) with
        | some p => us n (rows.filterMap (rowF h (sP p).length)) (List.replicate (sP p).length (.num 0) ++ q')
        | none => false
/-- shapes by types: Ak how many heads a type has (0 no end), Sg the parts of a head -/
def sTy (Ak : Tr → Int → Prop) (Sg : Tr → Int → List Tr → Prop) : Nat → Tr → Tr → Prop
  | 0, _, x => x = .num 0
  | n + 1, τ, x => x = .num 0 ∨ ∃ hd al l τs, x = sN hd al l ∧ (-2147483648 ≤ hd ∧ hd < 2147483648) ∧ (0 ≤ al ∧ al < 2147483648) ∧ Ak τ al ∧ (0 < al → 0 ≤ hd ∧ hd < al) ∧ Sg τ hd τs ∧ τs.length = l.length ∧ ∀ (k : Nat) (y u : Tr), l[k]? = some y → τs[k]? = some u → sTy Ak Sg n u y
/-- a row of shapes -/
def rTy1 (Ak : Tr → Int → Prop) (Sg : Tr → Int → List Tr → Prop) (τs r : List Tr) : Prop := r.length = τs.length ∧ ∀ (k : Nat) (y u : Tr), r[k]? = some y → τs[k]? = some u → ∃ n, sTy Ak Sg n u y
theorem isN_N {hd al : Int} {l : List Tr} : isN (sN hd al l) = false := rfl
theorem sP_N {hd al : Int} {l : List Tr} : sP (sN hd al l) = l := unl_ls l
theorem pq_ls : ∀ l : List Tr, pq (ls l) = l.length + pqs l := by
  intro l
  induction l with
  | nil => rfl
  | cons x l ih =>
    show pq x + pq (ls l) + 1 = _
    rw [ih, List.length_cons]
    show _ = _ + (pq x + pqs l)
    omega
theorem pq_N {hd al : Int} {l : List Tr} : pq (sN hd al l) = l.length + pqs l := by
  show 0 + pq (ls l) + 1 - 1 = _
  rw [pq_ls]
  omega
theorem pqs_ap : ∀ l1 l2 : List Tr, pqs (l1 ++ l2) = pqs l1 + pqs l2 := by
  intro l1 l2
  induction l1 with
  | nil => exact (Nat.zero_add _).symm
  | cons x l ih =>
    show pq x + pqs (l ++ l2) = pq x + pqs l + pqs l2
    rw [ih]
    omega
theorem pqs_rep : ∀ n : Nat, pqs (List.replicate n (.num 0)) = 0 := by
  intro n
  induction n with
  | zero => rfl
  | succ n ih => exact (show 0 + pqs _ = 0 by rw [ih])
/-- all parts in rows -/
def pqr : List (List Tr) → Nat
  | [] => 0
  | r :: l => pqs r + pqr l
def psi (rows : List (List Tr)) (q : List Tr) : Nat := q.length + pqs q + pqr rows
theorem rowF_c {hd : Int} {n : Nat} {p : Tr} {r : List Tr} : rowF hd n (p :: r) = if isN p = true then some (List.replicate n (.num 0) ++ r) else if sH p = hd then some (sP p ++ r) else none := rfl
theorem rowE_c {p : Tr} {r : List Tr} : rowE (p :: r) = if isN p = true then some r else none := rfl
theorem pqr_F {hd : Int} {n : Nat} : ∀ rows : List (List Tr), pqr (rows.filterMap (rowF hd n)) ≤ pqr rows := by
  intro rows
  induction rows with
  | nil => exact Nat.le_refl _
  | cons r rows ih =>
    have e : pqr (r :: rows) = pqs r + pqr rows := rfl
    rw [e, List.filterMap_cons]
    cases r with
    | nil => exact Nat.le_trans ih (Nat.le_add_left ..)
    | cons p r =>
      have e2 : pqs (p :: r) = pq p + pqs r := rfl
      rw [rowF_c]
      by_cases c : isN p = true
      · rw [if_pos c]
        show pqs _ + pqr _ ≤ _
        rw [pqs_ap, pqs_rep]
        omega
      · by_cases c2 : sH p = hd
        · rw [if_neg c, if_pos c2]
          show pqs (sP p ++ r) + pqr _ ≤ _
          rw [pqs_ap]
          have : pqs (sP p) ≤ pq p := by
            cases p with
            | mulL k x =>
              cases x with
              | add a b =>
                show pqs (unl b) ≤ pq a + pq b + 1 - 1
                have h : ∀ b : Tr, pqs (unl b) ≤ pq b := fun b => by
                  induction b with
                  | add a b _ ihb =>
                    show pq a + pqs (unl b) ≤ pq a + pq b + 1
                    omega
                  | _ => exact Nat.zero_le _
                have := h b
                omega
              | _ => exact Nat.zero_le _
            | _ => exact Nat.zero_le _
          omega
        · rw [if_neg c, if_neg c2]
          show pqr (rows.filterMap (rowF hd n)) ≤ _
          omega
theorem pqr_E : ∀ rows : List (List Tr), pqr (rows.filterMap rowE) ≤ pqr rows := by
  intro rows
  induction rows with
  | nil => exact Nat.le_refl _
  | cons r rows ih =>
    have e : pqr (r :: rows) = pqs r + pqr rows := rfl
    rw [e, List.filterMap_cons]
    cases r with
    | nil => exact Nat.le_trans ih (Nat.le_add_left ..)
    | cons p r =>
      have e2 : pqs (p :: r) = pq p + pqs r := rfl
      rw [rowE_c]
      by_cases c : isN p = true
      · rw [if_pos c]
        show pqs r + pqr _ ≤ _
        omega
      · rw [if_neg c]
        show pqr (rows.filterMap rowE) ≤ _
        omega
/-- a row with the head loses its parts' count -/
theorem pqr_mem {hd : Int} {n : Nat} : ∀ (rows : List (List Tr)) (al : Int) (l r : List Tr), sN hd al l :: r ∈ rows → pqr (rows.filterMap (rowF hd n)) + l.length ≤ pqr rows := by
  intro rows
  induction rows with
  | nil => intro al l r h; cases h
  | cons r0 rows ih =>
    intro al l r h
    have e : pqr (r0 :: rows) = pqs r0 + pqr rows := rfl
    rcases List.mem_cons.mp h with e1 | e1
    · have f := pqr_F (hd := hd) (n := n) rows
      rw [e, List.filterMap_cons, ← e1]
      have c : ¬ (isN (sN hd al l) = true) := by rw [isN_N]; decide
      have c2 : sH (sN hd al l) = hd := rfl
      rw [rowF_c, if_neg c, if_pos c2]
      show pqs (sP (sN hd al l) ++ r) + pqr _ + l.length ≤ pq (sN hd al l) + pqs r + pqr rows
      rw [sP_N, pqs_ap, pq_N]
      omega
    · have := ih al l r e1
      have g := pqr_F (hd := hd) (n := n) [r0]
      have g1 : pqr [r0] = pqs r0 := by show pqs r0 + 0 = _; omega
      rw [g1] at g
      rw [e, show r0 :: rows = [r0] ++ rows from rfl, List.filterMap_append]
      have g2 : ∀ a b : List (List Tr), pqr (a ++ b) = pqr a + pqr b := fun a b => by
        induction a with
        | nil => exact (Nat.zero_add _).symm
        | cons x a ih => show pqs x + pqr (a ++ b) = pqs x + pqr a + pqr b; rw [ih]; omega
      rw [g2]
      omega
def tri : Nat → Nat
  | 0 => 0
  | n + 1 => tri n + 9 * n
theorem tri_le {a b : Nat} (h : a ≤ b) : tri a ≤ tri b := by
  induction h with
  | refl => exact Nat.le_refl _
  | step _ ih => exact Nat.le_trans ih (Nat.le_add_right ..)
