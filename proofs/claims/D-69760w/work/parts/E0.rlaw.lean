/-! THE LAW OF NAMES: what each name is; the least fault of 2, 3, 4.
A state: local names (name, token), the latest first; constructors (name, number); types (name, number); the tables of constructors (name, its type's number, its number there, what it has)
and of types (name, arguments, constructors, token of the declaration); the fault (place, number). The trees keep their shape: a name gets (token of its binder or -1, how far up), a constructor its number, a type's name
its number, a type's variable its place. -/
abbrev Ctb : Type := List (Nat × Nat × Nat × Tr)
abbrev Dtb : Type := List (Nat × Nat × Nat × Nat)
abbrev RSt : Type := List (Nat × Nat) × List (Nat × Nat) × List (Nat × Nat) × Ctb × Dtb × Option (Nat × Nat)
def rV (s : RSt) : List (Nat × Nat) := s.1
def rC (s : RSt) : List (Nat × Nat) := s.2.1
def rT (s : RSt) : List (Nat × Nat) := s.2.2.1
def rCt (s : RSt) : Ctb := s.2.2.2.1
def rDt (s : RSt) : Dtb := s.2.2.2.2.1
def rN (s : RSt) : Option (Nat × Nat) := s.2.2.2.2.2
/-- the lesser fault: by the place, then by the number -/
def nt (b : Option (Nat × Nat)) (x : Nat × Nat) : Option (Nat × Nat) := match b with
  | none => some x
  | some y => if y.1 < x.1 ∨ (y.1 = x.1 ∧ y.2 ≤ x.2) then some y else some x
def unl : Tr → List Tr
  | .add a b => a :: unl b
  | _ => []
def nv : Tr → Nat
  | .num v => v.toNat
  | _ => 0
/-- the value that stands behind a node's token -/
def nv1 : Tr → Nat
  | .mulL _ (.add _ (.num v)) => v.toNat
  | .mulL _ (.add _ (.add (.num v) _)) => v.toNat
  | _ => 0
def isN : Tr → Bool
  | .num _ => true
  | _ => false
def lk (c : List (Nat × Nat)) (v : Nat) : Option Nat := (c.find? fun p => p.1 == v).map (·.2)
/-- how far up a name is -/
def upV (c : List (Nat × Nat)) (v : Nat) : Option Nat := c.findIdx? fun p => p.1 == v
def opN : Option Nat → Int
  | none => -1
  | some n => n
def rLs (f : Tr → RSt → Tr × RSt) : List Tr → RSt → List Tr × RSt
  | [], s => ([], s)
  | x :: l, s => ((f x s).1 :: (rLs f l (f x s).2).1, (rLs f l (f x s).2).2)
section
variable (pl : Nat → Nat) (kn : Nat → Bool)
def rNote (n t : Nat) (s : RSt) : RSt := (s.1, s.2.1, s.2.2.1, s.2.2.2.1, s.2.2.2.2.1, nt s.2.2.2.2.2 (pl t, n))
def rIf (c : Bool) (n t : Nat) (s : RSt) : RSt := if c = true then rNote pl n t s else s
def rBind (fr t v : Nat) (s : RSt) : RSt := ((v, t) :: s.1, (rIf pl ((s.1.take (s.1.length - fr)).any fun p => p.1 == v) 3 t s).2)
/-- names of a clause or a let are forgotten -/
def rBack (m : Nat) (s : RSt) : RSt := (s.1.drop (s.1.length - m), s.2)
def cWith (s : RSt) (c : Nat) : Bool := match (rCt s)[c]? with
  | some x => !isN x.2.2.2
  | none => false
def dAr (s : RSt) (d : Nat) : Nat := match (rDt s)[d]? with
  | some x => x.2.1
  | none => 0
def rPat : Nat → Nat → Tr → RSt → Tr × RSt
  | 0, _, x, s => (x, s)
  | n + 1, fr, x, s => match x with
    | .mulL k (.add (.num t) y) =>
      if k = 32 then (x, rBind pl fr t.toNat (nv y) s)
      else if k = 33 then match y with
        | .add v sub =>
          let c := lk (rC s) (nv v)
          let s1 := match c with
            | none => rNote pl 2 t.toNat s
            | some c => rIf pl (cWith s c == isN sub) 4 t.toNat s
          if isN sub = true then (.mulL 33 (.add (.num t) (.add (.num (opN c)) sub)), s1) else (.mulL 33 (.add (.num t) (.add (.num (opN c)) (rPat n fr sub s1).1)), (rPat n fr sub s1).2)
        | _ => (x, s)
      else if k = 37 ∨ k = 38 then (.mulL k (.add (.num t) (ls (rLs (rPat n fr) (unl y) s).1)), (rLs (rPat n fr) (unl y) s).2)
      else if k = 39 then match y with
        | .add a b => (.mulL 39 (.add (.num t) (.add (rPat n fr a s).1 (rPat n fr b (rPat n fr a s).2).1)), (rPat n fr b (rPat n fr a s).2).2)
        | _ => (x, s)
      else if k = 19 then (.mulL 19 (.add (.num t) (rPat n fr y s).1), (rPat n fr y s).2)
      else (x, s)
    | _ => (x, s)
/-- types: vs the names of the variables -/
def rTy : Nat → List Nat → Tr → RSt → Tr × RSt
  | 0, _, x, s => (x, s)
  | n + 1, vs, x, s => match x with
    | .mulL k (.add (.num t) y) =>
      if k = 57 then (.mulL 57 (.add (.num t) (.num (opN (vs.findIdx? fun v => v == nv y)))), rIf pl (vs.findIdx? fun v => v == nv y).isNone 2 t.toNat s)
      else if k = 58 then match y with
        | .add v as =>
          let d := lk (rT s) (nv v)
          let s1 := match d with
            | none => rNote pl 2 t.toNat s
            | some d => rIf pl (!(dAr s d == (unl as).length)) 4 t.toNat s
          (.mulL 58 (.add (.num t) (.add (.num (opN d)) (ls (rLs (rTy n vs) (unl as) s1).1))), (rLs (rTy n vs) (unl as) s1).2)
        | _ => (x, s)
      else if k = 59 then match y with
        | .add a b => (.mulL 59 (.add (.num t) (.add (rTy n vs a s).1 (rTy n vs b (rTy n vs a s).2).1)), (rTy n vs b (rTy n vs a s).2).2)
        | _ => (x, s)
      else if k = 60 then (.mulL 60 (.add (.num t) (ls (rLs (rTy n vs) (unl y) s).1)), (rLs (rTy n vs) (unl y) s).2)
      else (x, s)
    | _ => (x, s)
/-- the token of a node -/
def tkN (x : Tr) : Nat := (match x with
  | .mulL _ y => tkn y
  | _ => 0).toNat
/-- the parts of a datatype: its variables, its constructors -/
def dVs : Tr → List Tr
  | .mulL _ (.add _ (.add _ (.add v _))) => unl v
  | _ => []
def dCs : Tr → List Tr
  | .mulL _ (.add _ (.add _ (.add _ c))) => unl c
  | _ => []
/-- what a constructor has -/
def cHas : Tr → Tr
  | .mulL _ (.add _ (.add _ y)) => y
  | _ => .num 0
/-- datatypes, first: their names -/
def rD1 (t : Nat) : List Nat → List Tr → RSt → RSt
  | _, [], s => s
  | old, d :: l, s =>
    let s1 := rIf pl (old.any (· == nv1 d)) 3 (tkN d) s
    let s2 := (List.range (dVs d).length).foldl (fun s i => rIf pl (((dVs d).take i).any fun v => nv1 v == nv1 ((dVs d).getD i (.num 0))) 3 (tkN ((dVs d).getD i (.num 0))) s) s1
    rD1 t (old ++ [nv1 d]) l (s2.1, s2.2.1, (nv1 d, (rDt s2).length) :: s2.2.2.1, s2.2.2.2.1, rDt s2 ++ [(nv1 d, (dVs d).length, 0, t)], s2.2.2.2.2.2)
/-- then what their constructors have; old: the names of those before -/
def rD2c (n : Nat) (vs : List Nat) : List Nat → List Tr → RSt → List Tr × RSt
  | _, [], s => ([], s)
  | old, c :: l, s =>
    let s1 := rIf pl (old.any (· == nv1 c)) 3 (tkN c) s
    let r := if isN (cHas c) = true then (cHas c, s1) else rTy pl n vs (cHas c) s1
    (r.1 :: (rD2c n vs (old ++ [nv1 c]) l r.2).1, (rD2c n vs (old ++ [nv1 c]) l r.2).2)
def rD2 (n : Nat) : List Nat → List Tr → RSt → List (List Tr) × RSt
  | _, [], s => ([], s)
  | old, d :: l, s =>
    let r := rD2c pl n ((dVs d).map nv1) old (dCs d) s
    (r.1 :: (rD2 n (old ++ (dCs d).map nv1) l r.2).1, (rD2 n (old ++ (dCs d).map nv1) l r.2).2)
/-- last: the constructors; d the type's number, i the first one's -/
def rD3c (d : Nat) : Nat → List Tr → List Tr → RSt → List Tr × RSt
  | i, c :: l, h :: hs, s =>
    let r := rD3c d (i + 1) l hs (s.1, (nv1 c, (rCt s).length) :: s.2.1, s.2.2.1, rCt s ++ [(nv1 c, d, i, h)], s.2.2.2.2)
    (.mulL 56 (.add (.num (tkN c)) (.add (.num (rCt s).length) h)) :: r.1, r.2)
  | _, _, _, s => ([], s)
/-- how many constructors a type has -/
def dSet (d n : Nat) (s : RSt) : RSt := (s.1, s.2.1, s.2.2.1, s.2.2.2.1, (rDt s).modify d (fun y => (y.1, y.2.1, n, y.2.2.2)), s.2.2.2.2.2)
def rD3 : Nat → List Tr → List (List Tr) → RSt → List Tr × RSt
  | d, x :: l, h :: hs, s =>
    let r := rD3c d 0 (dCs x) h (dSet d (dCs x).length s)
    let q := rD3 (d + 1) l hs r.2
    (.mulL 55 (.add (.num (tkN x)) (.add (.num d) (.add (ls (dVs x)) (ls r.1)))) :: q.1, q.2)
  | _, _, _, s => ([], s)
/-- how many patterns a clause has -/
def cPs : Tr → Nat
  | .mulL _ (.add _ (.add _ (.add p _))) => (unl p).length
  | _ => 0
/-- the clauses of a function -/
def fCs : Tr → List Tr
  | .mulL _ (.add _ (.add _ c)) => unl c
  | _ => []
/-- 0 expressions, 1 clauses, 2 declarations -/
def rs : Nat → Nat → Tr → RSt → Tr × RSt
  | 0, _, x, s => (x, s)
  | n + 1, g, x, s => if g = 1 then (match x with
      | .mulL k (.add (.num t) (.add v (.add ps e))) =>
        let r := rLs (rPat pl n (rV s).length) (unl ps) s
        let q := rs n 0 e r.2
        (.mulL k (.add (.num t) (.add v (.add (ls r.1) q.1))), rBack (rV s).length q.2)
      | _ => (x, s))
    else if g = 2 then (match x with
      | .mulL k (.add (.num t) y) =>
        if k = 51 then match y with
          | .add p e =>
            let r := rs n 0 e s
            let q := rPat pl n (rV r.2).length p r.2
            (.mulL 51 (.add (.num t) (.add q.1 r.1)), q.2)
          | _ => (x, s)
        else if k = 52 then
          let s1 := (unl y).foldl (fun s1 f => rBind pl (rV s).length (tkN f) (nv1 f) s1) s
          let r := rLs (fun f s =>
            let q := rLs (fun c s => rs n 1 c (rIf pl (!(cPs c == cPs ((fCs f).getD 0 (.num 0)))) 4 (tkN c) (rIf pl (!(nv1 c == nv1 f)) 3 (tkN c) s))) (fCs f) s
            (.mulL 54 (.add (.num (tkN f)) (.add (.num (nv1 f)) (ls q.1))), q.2)) (unl y) s1
          (.mulL 52 (.add (.num t) (ls r.1)), r.2)
        else
          let s1 := rD1 pl t.toNat [] (unl y) s
          let r := rD2 pl n [] (unl y) s1
          let q := rD3 (rDt s).length (unl y) r.1 r.2
          (.mulL 53 (.add (.num t) (ls q.1)), q.2)
      | _ => (x, s))
    else match x with
      | .mulL k (.add (.num t) y) =>
        if k = 1 then (.mulL 1 (.add (.num t) (.add (.num (opN (lk (rV s) (nv y)))) (.num (opN (upV (rV s) (nv y)))))), rIf pl ((lk (rV s) (nv y)).isNone && !kn (nv y)) 2 t.toNat s)
        else if k = 2 then (.mulL 2 (.add (.num t) (.num (opN (lk (rC s) (nv y))))), rIf pl (lk (rC s) (nv y)).isNone 2 t.toNat s)
        else if k = 8 ∨ k = 9 ∨ k = 10 then (.mulL k (.add (.num t) (ls (rLs (rs n 0) (unl y) s).1)), (rLs (rs n 0) (unl y) s).2)
        else if k = 11 then match y with
          | .add ds e =>
            let r := rLs (rs n 2) (unl ds) s
            let q := rs n 0 e r.2
            (.mulL 11 (.add (.num t) (.add (ls r.1) q.1)), ((rBack (rV s).length q.2).1, s.2.1, s.2.2.1, q.2.2.2.2))
          | _ => (x, s)
        else if k = 12 then (.mulL 12 (.add (.num t) (ls (rLs (rs n 1) (unl y) s).1)), (rLs (rs n 1) (unl y) s).2)
        else if k = 13 then match y with
          | .add e m =>
            let r := rs n 0 e s
            let q := rLs (rs n 1) (unl m) r.2
            (.mulL 13 (.add (.num t) (.add r.1 (ls q.1))), q.2)
          | _ => (x, s)
        else if k = 14 then match y with
          | .add a (.add b c) =>
            let r := rs n 0 a s
            let q := rs n 0 b r.2
            let p := rs n 0 c q.2
            (.mulL 14 (.add (.num t) (.add r.1 (.add q.1 p.1))), p.2)
          | _ => (x, s)
        else if k = 15 then match y with
          | .add f l =>
            let r := rs n 0 f s
            let q := rLs (rs n 0) (unl l) r.2
            (.mulL 15 (.add (.num t) (.add r.1 (ls q.1))), q.2)
          | _ => (x, s)
        else if k = 16 then match y with
          | .add f l =>
            let r := rs n 0 f s
            let q := rLs (fun o s => match o with
              | .add g e => (.add g (rs n 0 e s).1, (rs n 0 e s).2)
              | _ => (o, s)) (unl l) r.2
            (.mulL 16 (.add (.num t) (.add r.1 (ls q.1))), q.2)
          | _ => (x, s)
        else if k = 17 ∨ k = 18 then match y with
          | .add a b =>
            let r := rs n 0 a s
            let q := rs n 0 b r.2
            (.mulL k (.add (.num t) (.add r.1 q.1)), q.2)
          | _ => (x, s)
        else if k = 19 then (.mulL 19 (.add (.num t) (rs n 0 y s).1), (rs n 0 y s).2)
        else (x, s)
      | _ => (x, s)
end
