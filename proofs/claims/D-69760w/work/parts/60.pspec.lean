/-! THE LAW OF THE READERS: K kinds, V values of tokens; a state: the place, how many declarations, how many tokens of a pattern -/
abbrev Tr : Type := Int.Internal.Linear.Expr
abbrev St : Type := Nat × Nat × Nat
def OOF : Nat := 1000000
def n0 (k : Int) (t : Nat) : Tr := .mulL k (.num t)
def n1 (k : Int) (t : Nat) (a : Tr) : Tr := .mulL k (.add (.num t) a)
def n2 (k : Int) (t : Nat) (a b : Tr) : Tr := .mulL k (.add (.num t) (.add a b))
def n3 (k : Int) (t : Nat) (a b c : Tr) : Tr := .mulL k (.add (.num t) (.add a (.add b c)))
def ls : List Tr → Tr
  | [] => .num 0
  | a :: r => .add a (ls r)
def lvl (k : Nat) : Nat := if k = 287 then 1 else if k = 269 then 2 else if k = 270 then 3 else if k = 61 ∨ k = 288 ∨ k = 60 ∨ k = 289 ∨ k = 62 ∨ k = 290 then 4 else if k = 286 ∨ k = 64 then 5 else if k = 43 ∨ k = 45 then 6 else if k = 42 ∨ k = 259 ∨ k = 267 then 7 else 0
def isPat (k : Nat) : Bool := k == 95 || k == 280 || k == 281 || k == 283 || k == 126 || k == 272 || k == 273 || k == 40 || k == 91
def isExp (k : Nat) : Bool := k == 280 || k == 281 || k == 283 || k == 272 || k == 273 || k == 33 || k == 126 || k == 40 || k == 91 || k == 266
def isDc (k : Nat) : Bool := k == 274 || k == 263 || k == 258
/-- one behind the other -/
def bd {α β : Type} (x : Except Nat (α × St)) (f : α → St → Except Nat (β × St)) : Except Nat (β × St) := match x with
  | .error e => .error e
  | .ok (a, s) => f a s
section
variable (K V : Nat → Nat)
def pTake (d : Nat) (s : St) : Except Nat (Nat × St) := if 30 < d ∨ K s.1 = 291 ∨ K s.1 = 292 then .error s.1 else .ok (s.1, s.1 + 1, s.2)
def pExpect (k d : Nat) (s : St) : Except Nat (Nat × St) := if K s.1 = k then pTake K d s else .error s.1
def pSkip (k d : Nat) (s : St) : Except Nat (Bool × St) := if K s.1 = k then (match pTake K d s with | .error e => .error e | .ok r => .ok (true, r.2)) else .ok (false, s)
def pTakeP (d : Nat) (s : St) : Except Nat (Nat × St) := if s.2.2 = 24 then .error s.1 else pTake K d (s.1, s.2.1, s.2.2 + 1)
/-- an item and, as long as sk says so, others: at most mx (0: no end); sk takes what stands between -/
def pMore (sk : St → Except Nat (Bool × St)) (it : St → Except Nat (Tr × St)) (mx : Nat) : Nat → Nat → St → Except Nat (List Tr × St)
  | 0, _, _ => .error OOF
  | f + 1, n, s => match sk s with
    | .error e => .error e
    | .ok (false, s) => .ok ([], s)
    | .ok (true, s) => if n = mx then .error (s.1 - 1) else match it s with
      | .error e => .error e
      | .ok (a, s) => match pMore sk it mx f (n + 1) s with
        | .error e => .error e
        | .ok (r, s) => .ok (a :: r, s)
/-- items as long as ok says so -/
def pWhile (go : St → Bool) (it : St → Except Nat (Tr × St)) : Nat → St → Except Nat (List Tr × St)
  | 0, _ => .error OOF
  | f + 1, s => if go s = true then match it s with
      | .error e => .error e
      | .ok (a, s) => match pWhile go it f s with
        | .error e => .error e
        | .ok (r, s) => .ok (a :: r, s)
    else .ok ([], s)
def FU : Nat := 5000
/-- an item, then others behind the sign k (taken at the depth d) -/
def pSep (k d mx : Nat) (it : St → Except Nat (Tr × St)) (s : St) : Except Nat (List Tr × St) := match it s with
  | .error e => .error e
  | .ok (a, s) => match pMore (pSkip K k d) it mx FU 1 s with
    | .error e => .error e
    | .ok (r, s) => .ok (a :: r, s)
-- patterns: P 1 = pat, P 2 = atPat
/-- items behind an open bracket that stand apart by commas: taken as tokens of patterns -/
def pCommaP (d : Nat) (s : St) : Except Nat (Bool × St) := if K s.1 = 44 then bd (pTakeP K d s) fun _ s => .ok (true, s) else .ok (false, s)
def mkBrack (round : Bool) (t : Nat) : List Tr → Tr
  | [] => if round = true then n0 36 t else n1 38 t (ls [])
  | [a] => if round = true then n1 19 t a else n1 38 t (ls [a])
  | l => if round = true then n1 37 t (ls l) else n1 38 t (ls l)
def pClose (close d : Nat) (s : St) : Except Nat (Nat × St) := if K s.1 = close then pTakeP K d s else .error s.1
/-- behind the bracket t -/
def pBrack (P : Nat → Nat → St → Except Nat (Tr × St)) (t d : Nat) (s : St) : Except Nat (Tr × St) :=
  if K s.1 = (if K t = 40 then 41 else 93) then bd (pTakeP K d s) fun _ s => .ok (mkBrack (K t == 40) t [], s) else
  bd (P 1 (d + 1) s) fun a s =>
  bd (pMore (pCommaP K (d + 1)) (P 1 (d + 1)) (if K t = 40 then 6 else 0) FU 1 s) fun r s =>
  bd (pClose K (if K t = 40 then 41 else 93) d s) fun _ s => .ok (mkBrack (K t == 40) t (a :: r), s)
def pAtPat (P : Nat → Nat → St → Except Nat (Tr × St)) (d : Nat) (s : St) : Except Nat (Tr × St) :=
  if isPat (K s.1) = false then .error s.1 else bd (pTakeP K d s) fun t s =>
  if K t = 280 then .ok (n1 32 t (.num (V t)), s)
  else if K t = 281 then .ok (n2 33 t (.num (V t)) (.num 0), s)
  else if K t = 283 then .ok (n1 34 t (.num (V t)), s)
  else if K t = 95 then .ok (n0 31 t, s)
  else if K t = 126 then (if K s.1 ≠ 283 then .error s.1 else bd (pTakeP K d s) fun v s => .ok (n1 34 t (.num (- (V v : Int))), s))
  else if K t = 272 then .ok (n1 35 t (.num 1), s)
  else if K t = 273 then .ok (n1 35 t (.num 0), s)
  else pBrack K P t d s
def pAPat (P : Nat → Nat → St → Except Nat (Tr × St)) (d : Nat) (s : St) : Except Nat (Tr × St) :=
  if K s.1 = 281 then bd (pTakeP K d s) fun c s =>
    if isPat (K s.1) = true then bd (P 2 d s) fun a s => .ok (n2 33 c (.num (V c)) a, s) else .ok (n2 33 c (.num (V c)) (.num 0), s)
  else P 2 d s
def pPat (P : Nat → Nat → St → Except Nat (Tr × St)) (d : Nat) (s : St) : Except Nat (Tr × St) :=
  bd (pAPat K V P d s) fun p s1 =>
  if K s1.1 ≠ 286 then .ok (p, s1) else bd (pTakeP K d s1) fun _ s2 => bd (P 1 (d + 1) s2) fun q s3 => .ok (n2 39 s.1 p q, s3)
-- types: P 3 = ty, P 4 = product, P 5 = applied
def pTy (P : Nat → Nat → St → Except Nat (Tr × St)) (d : Nat) (s : St) : Except Nat (Tr × St) :=
  bd (P 4 d s) fun a s1 => bd (pSkip K 285 d s1) fun b s2 => if b = false then .ok (a, s2) else bd (P 3 (d + 1) s2) fun c s3 => .ok (n2 59 s.1 a c, s3)
def mkOne (k : Int) (t : Nat) : List Tr → Tr
  | [a] => a
  | l => n1 k t (ls l)
def pProd (P : Nat → Nat → St → Except Nat (Tr × St)) (d : Nat) (s : St) : Except Nat (Tr × St) :=
  bd (pSep K 42 d 6 (P 5 d) s) fun l s1 => .ok (mkOne 60 s.1 l, s1)
def pNames : Nat → Nat → Nat → Tr → St → Except Nat (Tr × St)
  | 0, _, _, _, _ => .error OOF
  | f + 1, n, d, x, s => if K s.1 = 280 then (if n = 20 then .error s.1 else bd (pTake K d s) fun t s => pNames f (n + 1) d (n2 58 t (.num (V t)) (ls [x])) s)
    else .ok (x, s)
def pAppl0 (P : Nat → Nat → St → Except Nat (Tr × St)) (d : Nat) (s : St) : Except Nat (Tr × St) :=
  if K s.1 = 40 then bd (pTake K d s) fun _ s => bd (pSep K 44 (d + 1) 6 (P 3 (d + 1)) s) fun l s => bd (pExpect K 41 d s) fun _ s =>
    match l with
    | [a] => .ok (a, s)
    | l => bd (pExpect K 280 d s) fun t s => .ok (n2 58 t (.num (V t)) (ls l), s)
  else if K s.1 = 282 then bd (pTake K d s) fun t s => .ok (n1 57 t (.num (V t)), s)
  else bd (pExpect K 280 d s) fun t s => .ok (n2 58 t (.num (V t)) (.num 0), s)
def pAppl (P : Nat → Nat → St → Except Nat (Tr × St)) (d : Nat) (s : St) : Except Nat (Tr × St) := bd (pAppl0 K V P d s) fun x s => pNames K V 22 0 d x s
-- declarations: P 6 = dec
def pVar (d : Nat) (s : St) : Except Nat (Tr × St) := bd (pExpect K 282 d s) fun t s => .ok (n1 57 t (.num (V t)), s)
def pCon (P : Nat → Nat → St → Except Nat (Tr × St)) (d : Nat) (s : St) : Except Nat (Tr × St) :=
  bd (pExpect K 281 d s) fun c s => bd (pSkip K 268 d s) fun b s => if b = true then bd (P 3 (d + 1) s) fun t s => .ok (n2 56 c (.num (V c)) t, s) else .ok (n2 56 c (.num (V c)) (.num 0), s)
def pVars (d : Nat) (s : St) : Except Nat (List Tr × St) :=
  if K s.1 = 282 then bd (pVar K V d s) fun v s => .ok ([v], s) else bd (pSkip K 40 d s) fun b s =>
    if b = false then .ok ([], s) else bd (pSep K 44 (d + 1) 6 (pVar K V (d + 1)) s) fun l s => bd (pExpect K 41 d s) fun _ s => .ok (l, s)
def pData (P : Nat → Nat → St → Except Nat (Tr × St)) (d : Nat) (s : St) : Except Nat (Tr × St) :=
  bd (pVars K V d s) fun vs s => bd (pExpect K 280 d s) fun t s => bd (pExpect K 61 d s) fun _ s => bd (pSep K 124 d 0 (pCon K V P d) s) fun cs s => .ok (n3 55 t (.num (V t)) (ls vs) (ls cs), s)
def pClause (P : Nat → Nat → St → Except Nat (Tr × St)) (d : Nat) (s : St) : Except Nat (Tr × St) :=
  bd (pExpect K 280 d s) fun t s => bd (P 2 d (s.1, s.2.1, 0)) fun p s => bd (pWhile (fun s => isPat (K s.1)) (P 2 d) FU s) fun r s => bd (pExpect K 61 d s) fun _ s => bd (P 0 d s) fun e s => .ok (n3 50 t (.num (V t)) (ls (p :: r)) e, s)
def pFun (P : Nat → Nat → St → Except Nat (Tr × St)) (d : Nat) (s : St) : Except Nat (Tr × St) :=
  bd (pSep K 124 d 8 (pClause K V P d) s) fun l s1 => .ok (n2 54 s.1 (.num (V s.1)) (ls l), s1)
def pDec (P : Nat → Nat → St → Except Nat (Tr × St)) (d : Nat) (s : St) : Except Nat (Tr × St) :=
  if s.2.1 = 60 then .error s.1 else bd (pTake K d (s.1, s.2.1 + 1, s.2.2)) fun t s =>
  if K t = 274 then bd (P 1 d (s.1, s.2.1, 0)) fun p s => bd (pExpect K 61 d s) fun _ s => bd (P 0 d s) fun e s => .ok (n2 51 t p e, s)
  else if K t = 263 then bd (pSep K 256 d 0 (pFun K V P d) s) fun l s => .ok (n1 52 t (ls l), s)
  else bd (pSep K 256 d 0 (pData K V P d) s) fun l s => .ok (n1 53 t (ls l), s)
def pDecS (P : Nat → Nat → St → Except Nat (Tr × St)) (d : Nat) (s : St) : Except Nat (Tr × St) := bd (P 6 d s) fun x s => bd (pExpect K 59 d s) fun _ s => .ok (x, s)
-- expressions: P 0 = exp, P (10 + l) = level l, P 7 = application, P 8 = atom
def pArm (P : Nat → Nat → St → Except Nat (Tr × St)) (d : Nat) (s : St) : Except Nat (Tr × St) :=
  bd (P 1 d (s.1, s.2.1, 0)) fun p s1 => bd (pExpect K 284 d s1) fun _ s2 => bd (P 0 d s2) fun e s3 => .ok (n3 50 s.1 (.num 0) (ls [p]) e, s3)
def pMatch (P : Nat → Nat → St → Except Nat (Tr × St)) (d : Nat) (s : St) : Except Nat (List Tr × St) := pSep K 124 d 8 (pArm K P d) s
def pExp (P : Nat → Nat → St → Except Nat (Tr × St)) (d : Nat) (s : St) : Except Nat (Tr × St) :=
  if K s.1 = 262 then bd (pTake K d s) fun t s => bd (pMatch K P (d + 1) s) fun m s => .ok (n1 12 t (ls m), s)
  else if K s.1 = 257 then bd (pTake K d s) fun t s => bd (P 0 (d + 1) s) fun e s => bd (pExpect K 268 (d + 1) s) fun _ s => bd (pMatch K P (d + 1) s) fun m s => .ok (n2 13 t e (ls m), s)
  else if K s.1 = 264 then bd (pTake K d s) fun t s => bd (P 0 (d + 1) s) fun a s => bd (pExpect K 271 (d + 1) s) fun _ s => bd (P 0 (d + 1) s) fun b s => bd (pExpect K 260 (d + 1) s) fun _ s => bd (P 0 (d + 1) s) fun c s => .ok (n3 14 t a b c, s)
  else P 11 d s
def pSub (P : Nat → Nat → St → Except Nat (Tr × St)) (l d : Nat) (s : St) : Except Nat (Tr × St) := if l = 7 then P 7 d s else P (11 + l) d s
def pOpd (P : Nat → Nat → St → Except Nat (Tr × St)) (l d : Nat) (s : St) : Except Nat (Tr × St) := bd (pTake K d s) fun g s => bd (pSub P l d s) fun r s => .ok (.add (.num (K g)) r, s)
def pLevel (P : Nat → Nat → St → Except Nat (Tr × St)) (l d : Nat) (s : St) : Except Nat (Tr × St) :=
  bd (pSub P l d s) fun e s1 => if lvl (K s1.1) ≠ l then .ok (e, s1) else
  if l = 5 then bd (pTake K d s1) fun g s2 => bd (P 15 (d + 1) s2) fun r s3 => .ok (n2 (if K g = 286 then 17 else 18) s.1 e r, s3)
  else bd (pWhile (fun s => lvl (K s.1) == l) (pOpd K P l d) FU s1) fun r s2 => .ok (n2 16 s.1 e (ls r), s2)
def pApp (P : Nat → Nat → St → Except Nat (Tr × St)) (d : Nat) (s : St) : Except Nat (Tr × St) :=
  bd (P 8 d s) fun e s1 => if isExp (K s1.1) = false then .ok (e, s1) else bd (pWhile (fun s => isExp (K s.1)) (P 8 d) FU s1) fun r s2 => .ok (n2 15 s.1 e (ls r), s2)
def pSame (g d : Nat) (s : St) : Except Nat (Bool × St) := if (g = 44 ∨ g = 59) ∧ K s.1 = g then bd (pTake K d s) fun _ s => .ok (true, s) else .ok (false, s)
def mkRound (g t : Nat) (e : Tr) : List Tr → Tr
  | [] => n1 19 t e
  | r => n1 (if g = 44 then 8 else 9) t (ls (e :: r))
/-- behind the bracket t -/
def pRound (P : Nat → Nat → St → Except Nat (Tr × St)) (t d : Nat) (s : St) : Except Nat (Tr × St) :=
  if K s.1 = 41 then bd (pTake K d s) fun _ s => .ok (n0 5 t, s) else
  bd (P 0 (d + 1) s) fun e s1 => bd (pMore (pSame K (K s1.1) (d + 1)) (P 0 (d + 1)) (if K s1.1 = 44 then 6 else 0) FU 1 s1) fun r s2 => bd (pExpect K 41 d s2) fun _ s3 => .ok (mkRound (K s1.1) t e r, s3)
def pList (P : Nat → Nat → St → Except Nat (Tr × St)) (t d : Nat) (s : St) : Except Nat (Tr × St) :=
  if K s.1 = 93 then bd (pTake K d s) fun _ s => .ok (n1 10 t (ls []), s) else
  bd (pSep K 44 (d + 1) 0 (P 0 (d + 1)) s) fun l s => bd (pExpect K 93 d s) fun _ s => .ok (n1 10 t (ls l), s)
def mkLet (t b : Nat) (ds : List Tr) : List Tr → Tr
  | [e] => n2 11 t (ls ds) e
  | l => n2 11 t (ls ds) (n1 9 b (ls l))
def pLet (P : Nat → Nat → St → Except Nat (Tr × St)) (t d : Nat) (s : St) : Except Nat (Tr × St) :=
  bd (pWhile (fun s => isDc (K s.1)) (pDecS K P (d + 1)) FU s) fun ds s => bd (pExpect K 265 (d + 1) s) fun _ s1 => bd (pSep K 59 (d + 1) 0 (P 0 (d + 1)) s1) fun l s => bd (pExpect K 261 d s) fun _ s => .ok (mkLet t s1.1 ds l, s)
def pAtom (P : Nat → Nat → St → Except Nat (Tr × St)) (d : Nat) (s : St) : Except Nat (Tr × St) :=
  if isExp (K s.1) = false then .error s.1 else bd (pTake K d s) fun t s =>
  if K t = 280 then .ok (n1 1 t (.num (V t)), s)
  else if K t = 281 then .ok (n1 2 t (.num (V t)), s)
  else if K t = 283 then .ok (n1 3 t (.num (V t)), s)
  else if K t = 272 then .ok (n1 4 t (.num 1), s)
  else if K t = 273 then .ok (n1 4 t (.num 0), s)
  else if K t = 33 then .ok (n0 6 t, s)
  else if K t = 126 then .ok (n0 7 t, s)
  else if K t = 266 then pLet K P t d s
  else if K t = 40 then pRound K P t d s
  else pList K P t d s
/-- all of them, n calls deep -/
def pAll : Nat → Nat → Nat → St → Except Nat (Tr × St)
  | 0, _, _, _ => .error OOF
  | n + 1, g, d, s =>
    if g = 0 then pExp K (pAll n) d s else if g = 1 then pPat K V (pAll n) d s else if g = 2 then pAtPat K V (pAll n) d s
    else if g = 3 then pTy K (pAll n) d s else if g = 4 then pProd K (pAll n) d s else if g = 5 then pAppl K V (pAll n) d s
    else if g = 6 then pDec K V (pAll n) d s else if g = 7 then pApp K (pAll n) d s else if g = 8 then pAtom K V (pAll n) d s
    else pLevel K (pAll n) (g - 10) d s
def pText (n : Nat) (s : St) : Except Nat (List Tr × St) :=
  bd (pWhile (fun s => isDc (K s.1)) (pDecS K (pAll K V n) 0) FU s) fun l s => if K s.1 ≠ 291 then .error s.1 else .ok (l, s)
end
