/-! THE COMPONENT'S TYPER: expressions of one more level -/
section
variable {G : Gh} {c : Cx} {n : Nat}
theorem ex_step (hC : CtF c.N c.Ct c.Dt) (hE : ExI G c n) (hDc : DcI G c n) : ExI G c (n + 1) := by
  intro P e q lo hi rc' D V s hs hT hhi ot k hb hf hV hD
  have hs0 := hs
  unfold sEx at hs
  rw [if_neg (by decide)] at hs
  obtain ⟨D, rfl⟩ : ∃ D', D = D' + 1 := ⟨D - 1, by omega⟩
  rcases hs with ⟨t, rf, up, rfl, rfl, h1, h2⟩ | ⟨t, j, rfl, rfl, h1⟩ | ⟨t, v, rfl, rfl⟩ | ⟨t, v, rfl, rfl⟩ | ⟨t, rfl, rfl⟩ | ⟨t, rfl, rfl⟩ | ⟨t, rfl, rfl⟩ | ⟨t, l, rfl, hl, h1⟩ | ⟨t, l, rfl, hl, h1⟩ | ⟨t, l, rfl, h1⟩ | ⟨t, ds, e, V', r1, rfl, h1, h2⟩ | ⟨t, cs, rfl, hl, hc, h1⟩ | ⟨t, e, cs, r1, rfl, hl, hc, h1, h2⟩ | ⟨t, a, b, d, r1, r2, rfl, h1, h2, h3⟩ | ⟨t, f, l, r1, rfl, hl, h1, h2⟩ | ⟨t, f, ps, r1, rfl, hl, h1, h2⟩ | ⟨t, a, b, r1, rfl, h1, h2⟩ | ⟨t, a, b, r1, rfl, h1, h2⟩ | ⟨t, y, rfl, h1⟩
  · have z := ex_use (B := fun x => x ∈ bT (n2 1 t (.num rf) (.num up))) (d := D + 1 - 71) (n := n) k (hb.le (by show 20 ≤ 2 * (0 + (0 + 0) + 10); omega)) (fun h => hV _ (h1 h)) h2 ot
    rw [show D + 1 - 71 + 71 = D + 1 by omega] at z
    exact ⟨32, _, v32_infer, z.2, z.1⟩
  · have z := ex_con (B := fun x => x ∈ bT (n1 2 t (.num j))) (d := D + 1 - 71) (n := n) k (hb.le (by show 20 ≤ 2 * (0 + 0 + 10); omega)) h1 ot
    rw [show D + 1 - 71 + 71 = D + 1 by omega] at z
    exact ⟨33, _, v33_infer, z.2, z.1⟩
  · have z := ex_const (B := fun x => x ∈ bT (n1 3 t (.num v))) (b := 2 * nw (n1 3 t (.num v)) - 1) (D := D + 1) (n := n) k (Or.inl ⟨v, rfl⟩) ot
    exact ⟨34, _, v34_infer, z.2, z.1⟩
  · have z := ex_const (B := fun x => x ∈ bT (n1 4 t (.num v))) (b := 2 * nw (n1 4 t (.num v)) - 1) (D := D + 1) (n := n) k (Or.inr (Or.inl ⟨v, rfl⟩)) ot
    exact ⟨34, _, v34_infer, z.2, z.1⟩
  · have z := ex_const (B := fun x => x ∈ bT (n0 5 t)) (b := 2 * nw (n0 5 t) - 1) (D := D + 1) (n := n) k (Or.inr (Or.inr rfl)) ot
    exact ⟨34, _, v34_infer, z.2, z.1⟩
  · have z := ex_built (B := fun x => x ∈ bT (n0 6 t)) (k0 := 6) (d := D + 1 - 3) (n := n) k (hb.le (by show 2 ≤ 2 * (0 + 1); omega)) ⟨Or.inl rfl, rfl⟩ ot
    rw [show D + 1 - 3 + 3 = D + 1 by omega] at z
    exact ⟨35, _, v35_infer, z.2, z.1⟩
  · have z := ex_built (B := fun x => x ∈ bT (n0 7 t)) (k0 := 7) (d := D + 1 - 3) (n := n) k (hb.le (by show 2 ≤ 2 * (0 + 1); omega)) ⟨Or.inr rfl, rfl⟩ ot
    rw [show D + 1 - 3 + 3 = D + 1 by omega] at z
    exact ⟨35, _, v35_infer, z.2, z.1⟩
  · have z := ex_tup hE hl h1 hT hhi ot k hb hf hV hD
    exact ⟨37, _, v37_infer, z.2, z.1⟩
  · have z := ex_seq hE hl h1 hT hhi ot k hb hf hV hD
    exact ⟨38, _, v38_infer, z.2, z.1⟩
  · have z := ex_lst hE h1 hT hhi ot k hb hf hV hD
    exact ⟨39, _, v39_infer, z.2, z.1⟩
  · have z := ex_let hE hDc h1 h2 hT hhi ot k hb hf hV hD
    exact ⟨16, _, v16_infer, z.2, z.1⟩
  · have z := ex_fn hC hE hl hc h1 hT hhi ot k hb hf hV hD
    exact ⟨29, _, v29_infer, z.2, z.1⟩
  · have z := ex_case hC hE hl hc h1 h2 hT hhi ot k hb hf hV hD
    exact ⟨30, _, v30_infer, z.2, z.1⟩
  · have z := ex_if hE h1 h2 h3 hT hhi ot k hb hf hV hD
    exact ⟨31, _, v31_infer, z.2, z.1⟩
  · have z := ex_app hE h1 h2 hT hhi ot k hb hf hV hD
    exact ⟨40, _, v40_infer, z.2, z.1⟩
  · have z := ex_chn hE h1 h2 hl.2 hT hhi ot k hb hf hV hD
    exact ⟨43, _, v43_infer, z.2, z.1⟩
  · have z := ex_cons hE h1 h2 hT hhi ot k hb hf hV hD
    exact ⟨41, _, v41_infer, z.2, z.1⟩
  · have z := ex_apd hE h1 h2 hT hhi ot k hb hf hV hD
    exact ⟨41, _, v41_infer, z.2, z.1⟩
  · have z := ex_grp hE h1 hT hhi ot k hb hf hV hD
    exact ⟨36, _, v36_infer, z.2, z.1⟩
end
