/-! NUMBERS; the numbers of kinds of the reference -/
theorem nI_sub {a b : Nat} (h : b ≤ a) (ha : a < 2147483648) : nI a - nI b = nI (a - b) := by
  have e1 := nI_toInt (n := a) (by omega)
  have e2 := nI_toInt (n := b) (by omega)
  have e3 := nI_toInt (n := a - b) (by omega)
  rw [i_eq, e3, i_sub] <;> rw [e1, e2] <;> omega
theorem nI_sub1 {a : Nat} (ha : a + 1 < 2147483648) : nI (a + 1) - 1 = nI a := nI_sub (b := 1) (by omega) ha
/-- the reference's number of a kind -/
def kap (k : Nat) : Nat := if k = 280 then 1 else if k = 281 then 2 else if k = 282 then 3 else if k = 283 then 4 else if k = 284 then 141 else if k = 285 then 140 else if k = 286 then 142 else if k = 287 then 143 else if k = 288 then 144 else if k = 289 then 145 else if k = 290 then 146 else if k = 291 then 0 else if k = 292 then 5 else if 256 ≤ k then k - 96 else k
