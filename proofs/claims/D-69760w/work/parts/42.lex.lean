/-! THE LAW OF THE TOKENS: a text of n bytes u 0, u 1, .. (0..255) -/
def sm (c : Nat) : Bool := decide (97 ≤ c) && decide (c ≤ 122)
def gr (c : Nat) : Bool := decide (65 ≤ c) && decide (c ≤ 90)
def dg (c : Nat) : Bool := decide (48 ≤ c) && decide (c ≤ 57)
def wc (c : Nat) : Bool := sm c || gr c || dg c || c == 95
/-- the first of k places from p on where f fails -/
def span (f : Nat → Bool) (u : Nat → Nat) : Nat → Nat → Nat
  | 0, p => p
  | k + 1, p => if f (u p) = true then span f u k (p + 1) else p
/-- bytes as a number: a name -/
def cd (l : List Nat) : Nat := l.foldl (fun v c => v * 256 + c) 0
def bs (u : Nat → Nat) (p k : Nat) : List Nat := (List.range k).map fun i => u (p + i)
/-- digits from p on: the number (no more than 2^40), the place behind -/
def nums (u : Nat → Nat) : Nat → Nat → Nat → Nat × Nat
  | 0, p, v => (v, p)
  | k + 1, p, v => if dg (u p) = true then nums u k (p + 1) (min (v * 10 + u p - 48) 1099511627776) else (v, p)
def kwl : List (List Nat) := [[97, 110, 100], [99, 97, 115, 101], [100, 97, 116, 97, 116, 121, 112, 101], [100, 105, 118], [101, 108, 115, 101], [101, 110, 100], [102, 110], [102, 117, 110], [105, 102], [105, 110], [108, 101, 116], [109, 111, 100], [111, 102], [111, 114, 101, 108, 115, 101], [97, 110, 100, 97, 108, 115, 111], [116, 104, 101, 110], [116, 114, 117, 101], [102, 97, 108, 115, 101], [118, 97, 108]]
def kwG (l : List Nat) : List (List Nat) → Nat → Nat
  | [], _ => 280
  | x :: r, k => if x = l then 256 + k else kwG l r (k + 1)
def kw (l : List Nat) : Nat := kwG l kwl 0
/-- signs of two bytes -/
def two (c d : Nat) : Nat := if c = 61 ∧ d = 62 then 284 else if c = 45 ∧ d = 62 then 285 else if c = 58 ∧ d = 58 then 286 else if c = 58 ∧ d = 61 then 287 else if c = 60 ∧ d = 62 then 288 else if c = 60 ∧ d = 61 then 289 else if c = 62 ∧ d = 61 then 290 else 0
def sgl : List Nat := [40, 41, 91, 93, 44, 59, 124, 95, 43, 45, 42, 126, 33, 61, 60, 62, 64]
/-- the byte at p, 256 behind the text -/
def at0 (u : Nat → Nat) (n p : Nat) : Nat := if p < n then u p else 256
/-- a token at p: its kind (292: broken), its value, the place behind -/
def tk1 (u : Nat → Nat) (n p : Nat) : Nat × Nat × Nat :=
  if (sm (u p) || gr (u p)) = true then
    let q := span wc u (n - (p + 1)) (p + 1)
    (if 12 < q - p then 292 else if gr (u p) = true then 281 else kw (bs u p (q - p)), cd (bs u p (q - p)), q)
  else if u p = 39 then
    if sm (at0 u n (p + 1)) = true then
      let q := span sm u (n - (p + 1)) (p + 1)
      (if 12 < q - p then 292 else 282, cd (bs u p (q - p)), q)
    else (292, 0, p + 1)
  else if dg (u p) = true then
    let r := nums u (n - p) p 0
    (if r.1 ≤ 2147483647 then 283 else 292, r.1, r.2)
  else
    let t := two (u p) (at0 u n (p + 1))
    if t ≠ 0 then (t, 0, p + 2) else (if sgl.contains (u p) = true then u p else 292, 0, p + 1)
/-- all tokens from p on: kind, place, value; up to the end (291) or a broken one -/
def lx (u : Nat → Nat) (n : Nat) : Nat → Nat → List (Nat × Nat × Nat)
  | 0, _ => []
  | k + 1, p => if n ≤ p then [(291, n, 0)] else if u p = 32 ∨ u p = 10 then lx u n k (p + 1) else
    let t := tk1 u n p
    if t.1 = 292 then [(292, p, t.2.1)] else (t.1, p, t.2.1) :: lx u n k t.2.2
theorem span_ge {f : Nat → Bool} {u : Nat → Nat} : ∀ k p, p ≤ span f u k p ∧ span f u k p ≤ p + k := by
  intro k
  induction k with
  | zero => intro p; exact ⟨Nat.le_refl _, Nat.le_refl _⟩
  | succ k ih =>
    intro p
    unfold span
    split
    · have := ih (p + 1); omega
    · omega
theorem span_all {f : Nat → Bool} {u : Nat → Nat} : ∀ k p q, p ≤ q → q < span f u k p → f (u q) = true := by
  intro k
  induction k with
  | zero => intro p q h1 h2; unfold span at h2; omega
  | succ k ih =>
    intro p q h1 h2
    unfold span at h2
    split at h2
    · next hf =>
      by_cases e : q = p
      · subst e; exact hf
      · exact ih (p + 1) q (by omega) h2
    · omega
theorem nums_ge {u : Nat → Nat} : ∀ k p v, p ≤ (nums u k p v).2 ∧ (nums u k p v).2 ≤ p + k := by
  intro k
  induction k with
  | zero => intro p v; exact ⟨Nat.le_refl _, Nat.le_refl _⟩
  | succ k ih =>
    intro p v
    unfold nums
    split
    · have := ih (p + 1) (min (v * 10 + u p - 48) 1099511627776); omega
    · exact ⟨Nat.le_refl _, by show p ≤ _; omega⟩
theorem bs_succ {u : Nat → Nat} {p k : Nat} : bs u p (k + 1) = bs u p k ++ [u (p + k)] := by
  simp [bs, List.range_succ]
theorem bs_len {u : Nat → Nat} {p k : Nat} : (bs u p k).length = k := by simp [bs]
theorem bs_at {u : Nat → Nat} {p k i : Nat} (h : i < k) : (bs u p k)[i]? = some (u (p + i)) := by
  simp [bs, h]
theorem cd_push (l : List Nat) (c : Nat) : cd (l ++ [c]) = cd l * 256 + c := by simp [cd, List.foldl_append]
theorem cd_le : ∀ (l : List Nat) (v : Nat), (∀ x ∈ l, x < 256) → l.foldl (fun v c => v * 256 + c) v + 1 ≤ (v + 1) * 256 ^ l.length := by
  intro l
  induction l with
  | nil => intro v _; simp
  | cons a t ih =>
    intro v h
    have h1 := ih (v * 256 + a) fun x hx => h x (List.mem_cons_of_mem _ hx)
    have h2 := h a List.mem_cons_self
    rw [List.foldl_cons, List.length_cons, Nat.pow_succ]
    refine Nat.le_trans h1 ?_
    rw [Nat.mul_comm (256 ^ t.length) 256, ← Nat.mul_assoc]
    exact Nat.mul_le_mul_right _ (by omega)
theorem cd_small {l : List Nat} (hl : l.length ≤ 7) (h : ∀ x ∈ l, x < 128) : cd l < 2 ^ 55 := by
  cases l with
  | nil => decide
  | cons a t =>
    have h1 := cd_le t (0 * 256 + a) fun x hx => Nat.lt_trans (h x (List.mem_cons_of_mem _ hx)) (by decide)
    have h2 := h a List.mem_cons_self
    have h3 : 256 ^ t.length ≤ 256 ^ 6 := Nat.pow_le_pow_right (by decide) (by simpa using hl)
    have h4 : (0 * 256 + a + 1) * 256 ^ t.length ≤ 128 * 256 ^ 6 := Nat.mul_le_mul (by omega) h3
    have h5 : cd (a :: t) = t.foldl (fun v c => v * 256 + c) (0 * 256 + a) := rfl
    omega
