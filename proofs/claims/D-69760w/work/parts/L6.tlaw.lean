/-! THE LAW OF TYPES: ground types of trees; the first equation that can't hold. Trees are those that the law of names leaves.
A set of ground types for each name, by its binder's token; the types of session names by their names; the law goes from a set of such environments to a relation between environments and types, or to a fault (number, token). -/
abbrev TS : Type := Tr → Prop
abbrev En : Type := Nat → TS
abbrev Nu : Type := List (Nat × Tr)
noncomputable def tIf {α : Type} (P : Prop) (a b : α) : α := @ite α P (Classical.propDecidable P) a b
theorem tIf_pos {α : Type} {P : Prop} {a b : α} (h : P) : tIf P a b = a := if_pos h
theorem tIf_neg {α : Type} {P : Prop} {a b : α} (h : ¬ P) : tIf P a b = b := if_neg h
abbrev Fa : Type := Nat × Nat
def bE {α β : Type} (x : Except Fa α) (f : α → Except Fa β) : Except Fa β := match x with
  | .error e => .error e
  | .ok a => f a
/-- an equation, at a token: whether it can hold -/
noncomputable def eqE {α : Type} (t : Nat) (P : Prop) (a : α) : Except Fa α := tIf P (.ok a) (.error (5, t))
def updE (γ : En) (t : Nat) (S : TS) : En := fun x => if x = t then S else γ x
def updL : En → Nu → En
  | γ, [] => γ
  | γ, (t, τ) :: ν => updL (updE γ t (fun u => u = τ)) ν
/-- names with sets of types -/
def updS : En → List (Nat × TS) → En
  | γ, [] => γ
  | γ, (t, S) :: ν => updS (updE γ t S) ν
def tInt : Tr := gt 7 []
def tBool : Tr := gt 8 []
def tUnit : Tr := gt 9 []
def tList (a : Tr) : Tr := gt 10 [a]
def tRef (a : Tr) : Tr := gt 11 [a]
def tFun (a b : Tr) : Tr := gt 0 [a, b]
/-- a type of a text as a scheme: its variables by their places -/
def tyS : Nat → Tr → Tr
  | 0, _ => .num 0
  | n + 1, x => match x with
    | .mulL k (.add _ y) =>
      if k = 57 then (match y with
        | .num i => .neg (.num i)
        | _ => .num 0)
      else if k = 58 then (match y with
        | .add (.num d) as => gt (d + 7) ((unl as).map (tyS n))
        | _ => .num 0)
      else if k = 59 then (match y with
        | .add a b => gt 0 [tyS n a, tyS n b]
        | _ => .num 0)
      else gt (unl y).length ((unl y).map (tyS n))
    | _ => .num 0
section
variable (N : Nat) (Ct : Ctb) (Dt : Dtb)
/-- the type that a constructor gives, and what it has, as schemes -/
def cG (c : Nat) : Tr := match Ct[c]? with
  | some x => gt (x.2.1 + 7 : Int) ((List.range (match Dt[x.2.1]? with | some y => y.2.1 | none => 0)).map fun (i : Nat) => .neg (.num (i : Int)))
  | none => .num 0
def cH (c : Nat) : Option Tr := match Ct[c]? with
  | some x => if isN x.2.2.2 = true then none else some (tyS N x.2.2.2)
  | none => none
def gi (θ : Int → Tr) (s : Tr) : Tr := ins θ (fun _ => tUnit) s
/-- the types of a constructor -/
def cT (c : Nat) : TS := fun τ => ∃ θ, τ = match cH N Ct c with
  | none => gi θ (cG Ct Dt c)
  | some s => tFun (gi θ s) (gi θ (cG Ct Dt c))
/-- patterns: their types and their names' -/
noncomputable def tPa : Nat → Tr → Except Fa (Tr → Nu → Prop)
  | 0, _ => .ok fun _ _ => False
  | n + 1, x => match x with
    | .mulL k (.add (.num t) y) =>
      if k = 32 then .ok fun τ ν => ν = [(t.toNat, τ)]
      else if k = 33 then (match y with
        | .add (.num c) sub =>
          if isN sub = true then .ok fun τ ν => ν = [] ∧ ∃ θ, τ = gi θ (cG Ct Dt c.toNat)
          else bE (tPa n sub) fun P => eqE (tkN sub) (∃ θ ν, P (gi θ ((cH N Ct c.toNat).getD (.num 0))) ν) fun τ ν => ∃ θ, τ = gi θ (cG Ct Dt c.toNat) ∧ P (gi θ ((cH N Ct c.toNat).getD (.num 0))) ν
        | _ => .ok fun _ _ => False)
      else if k = 34 then .ok fun τ ν => τ = tInt ∧ ν = []
      else if k = 35 then .ok fun τ ν => τ = tBool ∧ ν = []
      else if k = 37 then bE ((unl y).foldr (fun p r => bE (tPa n p) fun P => bE r fun (Q : List Tr → Nu → Prop) => .ok fun τs ν => ∃ τ τs' ν1 ν2, τs = τ :: τs' ∧ ν = ν1 ++ ν2 ∧ P τ ν1 ∧ Q τs' ν2) (.ok fun τs ν => τs = [] ∧ ν = [])) fun Q => .ok fun τ ν => ∃ τs, τ = gt (unl y).length τs ∧ Q τs ν
      else if k = 38 then (match unl y with
        | [] => .ok fun τ ν => ν = [] ∧ ∃ α, τ = tList α
        | p :: ps => bE (tPa n p) fun P => bE (ps.foldl (fun r p => bE r fun (R : Tr → Nu → Prop) => bE (tPa n p) fun Q => eqE (tkN p) (∃ τ ν1 ν2, R τ ν1 ∧ Q τ ν2) fun τ ν => ∃ ν1 ν2, ν = ν1 ++ ν2 ∧ R τ ν1 ∧ Q τ ν2) (.ok P)) fun R => .ok fun τ ν => ∃ α, τ = tList α ∧ R α ν)
      else if k = 39 then (match y with
        | .add a b => bE (tPa n a) fun P => bE (tPa n b) fun Q => eqE (tkN b) (∃ α ν1 ν2, P α ν1 ∧ Q (tList α) ν2) fun τ ν => ∃ α ν1 ν2, τ = tList α ∧ ν = ν1 ++ ν2 ∧ P α ν1 ∧ Q τ ν2
        | _ => .ok fun _ _ => False)
      else if k = 19 then tPa n y
      else .ok fun _ _ => False
    | .mulL k _ => if k = 31 then .ok fun _ ν => ν = [] else .ok fun τ ν => τ = tUnit ∧ ν = []
    | _ => .ok fun _ _ => False
/-- whether an expression works out nothing -/
def tSt : Nat → Tr → Bool
  | 0, _ => false
  | n + 1, x => match x with
    | .mulL k (.add _ y) =>
      if k = 1 ∨ k = 2 ∨ k = 3 ∨ k = 4 ∨ k = 12 then true
      else if k = 8 ∨ k = 10 then (unl y).all (tSt n)
      else if k = 19 then tSt n y
      else if k = 15 then (match y with
        | .add (.mulL f _) l => f == 2 && (unl l).length == 1 && (unl l).all (tSt n)
        | _ => false)
      else false
    | .mulL k _ => k == 5 || k == 6 || k == 7
    | _ => false
/-- sizes: a name whose types are all too great -/
def tBig (Z : Nu → Prop) : Prop := ∃ i : Nat, ∀ ν, Z ν → ∃ y, ν[i]? = some y ∧ 60 < gsz y.2
abbrev Mq : Type := En → List Tr → Tr → Prop
abbrev Rl : Type := En → En → Tr → Prop
def eX (f : Nat → Tr → (En → Prop) → Except Fa Rl) (e : Tr) (A : En → Prop) : Except Fa (En → Tr → Prop) := bE (f 0 e A) fun R => .ok fun γ τ => R γ γ τ
/-- the patterns of a clause that isn't the first -/
noncomputable def tPe (n : Nat) : Nat → List Tr → (En → List Tr → Tr → Nu → Prop) → Except Fa (En → List Tr → Tr → Nu → Prop)
  | _, [], Z => .ok Z
  | i, p :: ps, Z => bE (tPa N Ct Dt n p) fun P => bE (eqE (tkN p) (∃ γ ins o ν1 ν2 τ, Z γ ins o ν1 ∧ ins[i]? = some τ ∧ P τ ν2) fun γ ins o ν => ∃ ν1 ν2 τ, ν = ν1 ++ ν2 ∧ Z γ ins o ν1 ∧ ins[i]? = some τ ∧ P τ ν2) fun Z' => tPe n (i + 1) ps Z'
/-- the patterns of the first clause -/
noncomputable def tPf (n : Nat) : List Tr → (En → List Tr → Nu → Prop) → Except Fa (En → List Tr → Nu → Prop)
  | [], Z => .ok Z
  | p :: ps, Z => bE (tPa N Ct Dt n p) fun P => tPf n ps fun γ ins ν => ∃ ins' τ ν1 ν2, ins = ins' ++ [τ] ∧ ν = ν1 ++ ν2 ∧ Z γ ins' ν1 ∧ P τ ν2
def clP : Tr → List Tr
  | .mulL _ (.add _ (.add _ (.add ps _))) => unl ps
  | _ => []
def clE : Tr → Tr
  | .mulL _ (.add _ (.add _ (.add _ e))) => e
  | x => x
/-- clauses behind the first -/
noncomputable def tMs (n : Nat) (f : Nat → Tr → (En → Prop) → Except Fa Rl) : List Tr → Mq → Except Fa Mq
  | [], Q => .ok Q
  | c :: cs, Q => bE (tPe N Ct Dt n 0 (clP c) fun γ ins o ν => Q γ ins o ∧ ν = []) fun Z =>
      bE (eX f (clE c) fun γ' => ∃ γ ins o ν, Z γ ins o ν ∧ γ' = updL γ ν) fun R =>
      bE (eqE (tkN (clE c)) (∃ γ ins o ν, Z γ ins o ν ∧ R (updL γ ν) o) fun γ ins o => ∃ ν, Z γ ins o ν ∧ R (updL γ ν) o) fun Q' => tMs n f cs Q'
noncomputable def tMt (n : Nat) (f : Nat → Tr → (En → Prop) → Except Fa Rl) (cs : List Tr) (A : En → Prop) : Except Fa Mq := match cs with
  | [] => .ok fun _ _ _ => False
  | c :: cs => bE (tPf N Ct Dt n (clP c) fun γ ins ν => A γ ∧ ins = [] ∧ ν = []) fun Z =>
      bE (eX f (clE c) fun γ' => ∃ γ ins ν, Z γ ins ν ∧ γ' = updL γ ν) fun R =>
      tMs N Ct Dt n f cs fun γ ins o => ∃ ν, Z γ ins ν ∧ R (updL γ ν) o
/-- parts from the left -/
def tEs (f : Nat → Tr → (En → Prop) → Except Fa Rl) : List Tr → (En → Prop) → Except Fa (En → List Tr → Prop)
  | [], A => .ok fun γ τs => A γ ∧ τs = []
  | e :: es, A => bE (eX f e A) fun R => bE (tEs f es fun γ => ∃ τ, R γ τ) fun Q => .ok fun γ τs => A γ ∧ ∃ τ τs', τs = τ :: τs' ∧ R γ τ ∧ Q γ τs'
/-- the last one of several -/
def tSq (f : Nat → Tr → (En → Prop) → Except Fa Rl) : List Tr → (En → Tr → Prop) → Except Fa (En → Tr → Prop)
  | [], R => .ok R
  | e :: es, R => bE (eX f e fun γ => ∃ τ, R γ τ) fun Q => tSq f es Q
/-- all of one type -/
noncomputable def tSm (f : Nat → Tr → (En → Prop) → Except Fa Rl) : List Tr → (En → Tr → Prop) → Except Fa (En → Tr → Prop)
  | [], R => .ok R
  | e :: es, R => bE (eX f e fun γ => ∃ τ, R γ τ) fun Q => bE (eqE (tkN e) (∃ γ τ, R γ τ ∧ Q γ τ) fun γ τ => R γ τ ∧ Q γ τ) fun R' => tSm f es R'
/-- arguments -/
noncomputable def tAp (f : Nat → Tr → (En → Prop) → Except Fa Rl) : List Tr → (En → Tr → Prop) → Except Fa (En → Tr → Prop)
  | [], R => .ok R
  | e :: es, R => bE (eX f e fun γ => ∃ τ, R γ τ) fun Q => bE (eqE (tkN e) (∃ γ τ u, R γ (tFun τ u) ∧ Q γ τ) fun γ u => ∃ τ, R γ (tFun τ u) ∧ Q γ τ) fun R' => tAp f es R'
/-- signs: what both sides must be, what they give -/
def sgM (g : Int) : Tr := if g = 269 ∨ g = 270 then tBool else tInt
def sgR (g : Int) : Tr := if g = 43 ∨ g = 45 ∨ g = 42 ∨ g = 259 ∨ g = 267 then tInt else tBool
noncomputable def tCh (f : Nat → Tr → (En → Prop) → Except Fa Rl) (t : Nat) : List Tr → (En → Tr → Prop) → Except Fa (En → Tr → Prop)
  | [], R => .ok R
  | .add (.num g) e :: es, R => bE (eX f e fun γ => ∃ τ, R γ τ) fun Q =>
      if g = 287 then bE (eqE t (∃ γ v τ, R γ (tRef v) ∧ Q γ τ) ()) fun _ => bE (eqE (tkN e) (∃ γ v, R γ (tRef v) ∧ Q γ v) fun γ τ => τ = tUnit ∧ ∃ v, R γ (tRef v) ∧ Q γ v) fun R' => tCh f t es R'
      else bE (eqE t (∃ γ τ, R γ (sgM g) ∧ Q γ τ) ()) fun _ => bE (eqE (tkN e) (∃ γ, R γ (sgM g) ∧ Q γ (sgM g)) fun γ τ => τ = sgR g ∧ R γ (sgM g) ∧ Q γ (sgM g)) fun R' => tCh f t es R'
  | _ :: es, R => tCh f t es R
/-- functions, one behind another: their names are in sight -/
noncomputable def tFs (n : Nat) (f : Nat → Tr → (En → Prop) → Except Fa Rl) : List Tr → (En → Prop) → Except Fa (En → Prop)
  | [], A => .ok A
  | x :: xs, A => bE (tMt N Ct Dt n f (fCs x) A) fun Q => bE (eqE (tkN x) (∃ γ ins o, Q γ ins o ∧ γ (tkN x) (ins.foldr tFun o)) fun γ => A γ ∧ ∃ ins o, Q γ ins o ∧ γ (tkN x) (ins.foldr tFun o)) fun A' => tFs n f xs A'
/-- declarations one behind another -/
def tDs (f : Nat → Tr → (En → Prop) → Except Fa Rl) : List Tr → (En → En → Prop) → Except Fa (En → En → Prop)
  | [], B => .ok B
  | d :: ds, B => bE (f 2 d fun γ' => ∃ γ, B γ γ') fun R => tDs f ds fun γ γ'' => ∃ γ' τ, B γ γ' ∧ R γ' γ'' τ
/-- the names' sets of types, of names that are general -/
def gnS (ts : List Nat) (Z : Nu → Prop) : List (Nat × TS) := (List.range ts.length).map fun i => (ts.getD i 0, fun u => ∃ ν, Z ν ∧ (ν[i]?).map (·.2) = some u)
/-- the names that a pattern binds -/
def pNm : Nat → Tr → List Nat
  | 0, _ => []
  | n + 1, x => match x with
    | .mulL k (.add (.num t) y) =>
      if k = 32 then [t.toNat]
      else if k = 33 then (match y with
        | .add _ sub => if isN sub = true then [] else pNm n sub
        | _ => [])
      else if k = 37 ∨ k = 38 then ((unl y).map (pNm n)).flatten
      else if k = 39 then (match y with
        | .add a b => pNm n a ++ pNm n b
        | _ => [])
      else if k = 19 then pNm n y
      else []
    | _ => []
/-- a datatype's constructors: one that has too much -/
def tDb (n : Nat) (d : Tr) : Prop := ∃ c, c ∈ dCs d ∧ isN (cHas c) = false ∧ 60 < gsz (tyS n (cHas c))
variable (V : Nat → Nat) (kn : Nat → TS)
/-- 0: expressions; 2: declarations -/
noncomputable def tW : Nat → Nat → Tr → (En → Prop) → Except Fa Rl
  | 0, _, _, _ => .ok fun _ _ _ => False
  | n + 1, g, x, A =>
    if g = 2 then (match x with
      | .mulL k (.add (.num t) y) =>
        if k = 51 then (match y with
          | .add p e => bE (eX (tW n) e A) fun R => bE (tPa N Ct Dt n p) fun P => bE (eqE (tkN p) (∃ γ τ ν, R γ τ ∧ P τ ν) fun γ ν => ∃ τ, R γ τ ∧ P τ ν) fun Z =>
              tIf (tBig fun ν => ∃ γ, Z γ ν) (.error (6, t.toNat)) (if tSt n e = true then .ok fun γ γ' _ => (∃ ν, Z γ ν) ∧ γ' = updS γ (gnS (pNm n p) (Z γ)) else .ok fun γ γ' _ => ∃ ν, Z γ ν ∧ γ' = updL γ ν)
          | _ => .ok fun _ _ _ => False)
        else if k = 52 then
          bE (tFs N Ct Dt n (tW n) (unl y) fun γ' => ∃ γ φ, A γ ∧ φ.length = (unl y).length ∧ γ' = updL γ ((unl y).map tkN |>.zip φ)) fun B =>
            tIf (tBig fun ν => ∃ γ φ, ν = ((unl y).map tkN).zip φ ∧ φ.length = (unl y).length ∧ B (updL γ ν)) (.error (6, t.toNat)) (.ok fun γ γ' _ => (∃ φ, φ.length = (unl y).length ∧ A γ ∧ B (updL γ (((unl y).map tkN).zip φ))) ∧ γ' = updS γ (gnS ((unl y).map tkN) fun ν => ∃ φ, ν = ((unl y).map tkN).zip φ ∧ φ.length = (unl y).length ∧ B (updL γ ν)))
        else tIf ((∃ d, d ∈ unl y ∧ 205 ≤ nv1 d) ∨ ∃ d, d ∈ unl y ∧ tDb n d) (.error (6, t.toNat)) (.ok fun γ γ' _ => A γ ∧ γ' = γ)
      | _ => .ok fun _ _ _ => False)
    else (match x with
      | .mulL k (.add (.num t) y) =>
        if k = 1 then (match y with
          | .add (.num rf) _ => .ok fun γ γ' τ => A γ ∧ γ' = γ ∧ (if rf < 0 then kn (V t.toNat) τ else γ rf.toNat τ)
          | _ => .ok fun _ _ _ => False)
        else if k = 2 then .ok fun γ γ' τ => A γ ∧ γ' = γ ∧ cT N Ct Dt (nv y) τ
        else if k = 3 then .ok fun γ γ' τ => A γ ∧ γ' = γ ∧ τ = tInt
        else if k = 4 then .ok fun γ γ' τ => A γ ∧ γ' = γ ∧ τ = tBool
        else if k = 8 then bE (tEs (tW n) (unl y) A) fun Q => .ok fun γ γ' τ => γ' = γ ∧ ∃ τs, τ = gt (unl y).length τs ∧ Q γ τs
        else if k = 9 then bE (tSq (tW n) (unl y) fun γ τ => A γ ∧ τ = tUnit) fun R => .ok fun γ γ' τ => γ' = γ ∧ R γ τ
        else if k = 10 then (match unl y with
          | [] => .ok fun γ γ' τ => A γ ∧ γ' = γ ∧ ∃ α, τ = tList α
          | e :: es => bE (eX (tW n) e A) fun R => bE (tSm (tW n) es R) fun R => .ok fun γ γ' τ => γ' = γ ∧ ∃ α, τ = tList α ∧ R γ α)
        else if k = 11 then (match y with
          | .add ds e => bE (tDs (tW n) (unl ds) fun γ γ' => A γ ∧ γ' = γ) fun B => bE (eX (tW n) e fun γ' => ∃ γ, B γ γ') fun R => .ok fun γ γ' τ => γ' = γ ∧ ∃ γ2, B γ γ2 ∧ R γ2 τ
          | _ => .ok fun _ _ _ => False)
        else if k = 12 then bE (tMt N Ct Dt n (tW n) (unl y) A) fun Q => .ok fun γ γ' τ => γ' = γ ∧ ∃ a o, τ = tFun a o ∧ Q γ [a] o
        else if k = 13 then (match y with
          | .add e m => bE (eX (tW n) e A) fun R => bE (tMt N Ct Dt n (tW n) (unl m) fun γ => ∃ τ, R γ τ) fun Q => bE (eqE (tkN e) (∃ γ a o, R γ a ∧ Q γ [a] o) ()) fun _ => .ok fun γ γ' τ => γ' = γ ∧ ∃ a, R γ a ∧ Q γ [a] τ
          | _ => .ok fun _ _ _ => False)
        else if k = 14 then (match y with
          | .add c (.add a b) => bE (eX (tW n) c A) fun R => bE (eqE (tkN c) (∃ γ, R γ tBool) fun γ => R γ tBool) fun A1 => bE (eX (tW n) a A1) fun P => bE (eX (tW n) b fun γ => ∃ τ, P γ τ) fun Q => bE (eqE (tkN b) (∃ γ τ, P γ τ ∧ Q γ τ) ()) fun _ => .ok fun γ γ' τ => γ' = γ ∧ P γ τ ∧ Q γ τ
          | _ => .ok fun _ _ _ => False)
        else if k = 15 then (match y with
          | .add f l => bE (eX (tW n) f A) fun R => bE (tAp (tW n) (unl l) R) fun R => .ok fun γ γ' τ => γ' = γ ∧ R γ τ
          | _ => .ok fun _ _ _ => False)
        else if k = 16 then (match y with
          | .add f l => bE (eX (tW n) f A) fun R => bE (tCh (tW n) t.toNat (unl l) R) fun R => .ok fun γ γ' τ => γ' = γ ∧ R γ τ
          | _ => .ok fun _ _ _ => False)
        else if k = 17 then (match y with
          | .add a b => bE (eX (tW n) a A) fun P => bE (eX (tW n) b fun γ => ∃ τ, P γ τ) fun Q => bE (eqE (tkN b) (∃ γ τ, P γ τ ∧ Q γ (tList τ)) ()) fun _ => .ok fun γ γ' τ => γ' = γ ∧ ∃ α, τ = tList α ∧ P γ α ∧ Q γ τ
          | _ => .ok fun _ _ _ => False)
        else if k = 18 then (match y with
          | .add a b => bE (eX (tW n) a A) fun P => bE (eX (tW n) b fun γ => ∃ τ, P γ τ) fun Q => bE (eqE (tkN a) (∃ γ α τ, P γ (tList α) ∧ Q γ τ) ()) fun _ => bE (eqE (tkN b) (∃ γ α, P γ (tList α) ∧ Q γ (tList α)) ()) fun _ => .ok fun γ γ' τ => γ' = γ ∧ ∃ α, τ = tList α ∧ P γ τ ∧ Q γ τ
          | _ => .ok fun _ _ _ => False)
        else if k = 19 then tW n 0 y A
        else .ok fun _ _ _ => False
      | .mulL k _ =>
        if k = 5 then .ok fun γ γ' τ => A γ ∧ γ' = γ ∧ τ = tUnit
        else if k = 6 then .ok fun γ γ' τ => A γ ∧ γ' = γ ∧ ∃ v, τ = tFun (tRef v) v
        else .ok fun γ γ' τ => A γ ∧ γ' = γ ∧ τ = tFun tInt tInt
      | _ => .ok fun _ _ _ => False)
end
