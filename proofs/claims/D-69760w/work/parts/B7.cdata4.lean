/-! THE COMPONENT'S READER: a datatype's variables -/
section
variable {G : Gh} {d : Nat} {h hb h0 h1 h2 h3 h4 h' : AH} {ts : List (Nat × Nat × Nat)} {s s0 s1 s2 s4 : St} {D D0 k i q a b t r n p arr : Nat} {N : Nat → Prop} {E : String} {x y p0 : Tr} {l vs : List Tr} {bs : List Nat} {P : Nat → Nat → St → Except Nat (Tr × St)}
/-- a new array is written: the reader's state stays -/
theorem CS.sI {v : Int32} (c0 : CS G h ts D0 s0) (p : KP h h1) (hq : hK h arr = 0) (c : CS G h1 ts D s) : CS G (sI h1 arr i v) ts D s := ⟨c0.1.le (p.sI hq).le, c0.2.1.kp (c0.1.at (by decide)) (p.sI hq), c.2.2.1, c.2.2.2⟩
theorem CS.nA {t n : Nat} (c : CS G h ts D s) (hq : hK h q = 0) : CS G (nA h q t n) ts D s := c.kp (KP.rf.nA hq) rfl rfl rfl rfl
/-- the variables at the tokens us -/
def vrs (ts : List (Nat × Nat × Nat)) (us : List Nat) : List Tr := us.map fun u => n1 57 u (.num (Vl ts u))
theorem tks_vrs (us : List Nat) : tks (ls (vrs ts us)) = us.map nI := by
  induction us with
  | nil => rfl
  | cons u us ih =>
    show nI ((u : Int)).toNat :: tks (ls (vrs ts us)) = nI u :: us.map nI
    rw [ih, Int.toNat_natCast]
theorem vrs_app (us : List Nat) (u : Nat) : vrs ts us ++ [n1 57 u (.num (Vl ts u))] = vrs ts (us ++ [u]) := by
  unfold vrs
  rw [List.map_append]
  rfl
end
