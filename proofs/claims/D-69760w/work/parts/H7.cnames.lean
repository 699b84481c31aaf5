/-! THE COMPONENT'S RESOLVER: all expressions, clauses and declarations -/
section
variable {G : Gh} {W : Nat → Prop} {ts : List (Nat × Nat × Nat)} {O : List (Nat × Nat) × List (Nat × Nat)}
theorem exps_res : ∀ n d, ER G W ts O n (d + n) ∧ CR G W ts O n (d + n) ∧ DR G W ts O n (d + n) := by
  intro n
  induction n with
  | zero =>
    intro d
    refine ⟨?_, ?_, ?_⟩
    · intro x lo hi q h s Z D nb hs; exact hs.elim
    · intro x lo0 lo hi q h s Z D nb hs; exact hs.elim
    · intro x lo hi q h s Z D nb hs; exact hs.elim
  | succ n ih =>
    intro d
    obtain ⟨hE, hC, hD⟩ := ih d
    have hP : PR G W ts O n (d + n + 3) := by
      have := pats_res (G := G) (W := W) (ts := ts) (O := O) n (d + 3)
      rw [show d + 3 + n = d + n + 3 by omega] at this
      exact this
    have hT : TyR G W ts O n (d + n + 2) := by
      have := tys_res (G := G) (W := W) (ts := ts) (O := O) n (d + 2)
      rw [show d + 2 + n = d + n + 2 by omega] at this
      exact this
    refine ⟨?_, ?_, ?_⟩
    · intro x lo hi q h s Z D nb hs hw ot ri
      unfold shE at hs
      rw [if_pos rfl] at hs
      rcases hs with ⟨k, t, v, hk, rfl⟩ | ⟨k, t, hk, rfl⟩ | ⟨k, t, l, hk, rfl, hl⟩ | ⟨t, ds, e, rfl, hl, he⟩ | ⟨t, l, rfl, hl⟩ | ⟨t, e, l, rfl, he, hl⟩ | ⟨t, a, b, c, rfl, ha, hb, hc⟩ | ⟨t, e, l, rfl, he, hl⟩ | ⟨t, e, ps, rfl, he, hl⟩ | ⟨k, t, a, b, hk, rfl, ha, hb⟩ | ⟨t, y, rfl, hy⟩
      · rcases hk with rfl | rfl | rfl | rfl
        · obtain ⟨c1, c2⟩ := exp_name (d := d + n) (n := n) hw ot ri
          exact ⟨32, mX35_resolve, v32_resolve, c2, c1⟩
        · obtain ⟨c1, c2⟩ := exp_con (d := d + n) (n := n) hw ot ri
          exact ⟨33, mX36_resolve, v33_resolve, c2, c1⟩
        · have c2 : hK h q = 35 := by simpa [kc] using ((OTG_nd (k := 3) (by decide)).mp ot).2.1
          exact ⟨34, mX37_resolve, v34_resolve, c2, bX37_resolve G (d + n + 7) h _ _ (exp_leaf ri (wf.tr _ _ _ hw) ot (Or.inr ⟨3, t, v, Or.inl rfl, rfl⟩))⟩
        · have c2 : hK h q = 35 := by simpa [kc] using ((OTG_nd (k := 4) (by decide)).mp ot).2.1
          exact ⟨34, mX37_resolve, v34_resolve, c2, bX37_resolve G (d + n + 7) h _ _ (exp_leaf ri (wf.tr _ _ _ hw) ot (Or.inr ⟨4, t, v, Or.inr rfl, rfl⟩))⟩
      · rcases hk with rfl | rfl | rfl
        · have c2 : hK h q = 35 := by simpa [kc] using ((OTG_n0 (k := 5) (by decide)).mp ot).2.1
          exact ⟨34, mX37_resolve, v34_resolve, c2, bX37_resolve G (d + n + 7) h _ _ (exp_leaf ri (wf.tr _ _ _ hw) ot (Or.inl ⟨5, t, Or.inl rfl, rfl⟩))⟩
        · have c2 : hK h q = 36 := by simpa [kc] using ((OTG_n0 (k := 6) (by decide)).mp ot).2.1
          exact ⟨35, mX38_resolve, v35_resolve, c2, bX38_resolve G (d + n + 7) h _ _ (exp_leaf ri (wf.tr _ _ _ hw) ot (Or.inl ⟨6, t, Or.inr (Or.inl rfl), rfl⟩))⟩
        · have c2 : hK h q = 36 := by simpa [kc] using ((OTG_n0 (k := 7) (by decide)).mp ot).2.1
          exact ⟨35, mX38_resolve, v35_resolve, c2, bX38_resolve G (d + n + 7) h _ _ (exp_leaf ri (wf.tr _ _ _ hw) ot (Or.inl ⟨7, t, Or.inr (Or.inr rfl), rfl⟩))⟩
      · obtain ⟨c1, c2⟩ := exp_parts hE hk hw hl ot ri
        rcases hk with rfl | rfl | rfl
        · exact ⟨37, mX40_resolve, v37_resolve, c2, c1⟩
        · exact ⟨38, mX40_resolve, v38_resolve, c2, c1⟩
        · exact ⟨39, mX40_resolve, v39_resolve, c2, c1⟩
      · obtain ⟨c1, c2⟩ := exp_let hE hD hw he hl ot ri
        exact ⟨16, mX17_resolve, v16_resolve, c2, c1⟩
      · obtain ⟨c1, c2⟩ := exp_fn hC hw hl ot ri
        exact ⟨29, mX32_resolve, v29_resolve, c2, c1⟩
      · obtain ⟨c1, c2⟩ := exp_case hE hC hw he hl ot ri
        exact ⟨30, mX33_resolve, v30_resolve, c2, c1⟩
      · obtain ⟨c1, c2⟩ := exp_if hE hw ha hb hc ot ri
        exact ⟨31, mX34_resolve, v31_resolve, c2, c1⟩
      · obtain ⟨c1, c2⟩ := exp_app hE hw he hl ot ri
        exact ⟨40, mX44_resolve, v40_resolve, c2, c1⟩
      · obtain ⟨c1, c2⟩ := exp_chn hE hw he hl ot ri
        exact ⟨43, mX47_resolve, v43_resolve, c2, c1⟩
      · rcases hk with rfl | rfl
        · obtain ⟨c1, c2⟩ := exp_sg17 hE hw ha hb ot ri
          exact ⟨41, mX45_resolve, v41_resolve, c2, c1⟩
        · obtain ⟨c1, c2⟩ := exp_sg18 hE hw ha hb ot ri
          exact ⟨41, mX45_resolve, v41_resolve, c2, c1⟩
      · obtain ⟨c1, c2⟩ := exp_grp hE hw hy ot ri
        exact ⟨36, mX39_resolve, v36_resolve, c2, c1⟩
    · exact c_clr hP hE
    · intro x lo hi q h s Z D nb hs hw ot ri
      unfold shE at hs
      rw [if_neg (by decide), if_neg (by decide)] at hs
      rcases hs with ⟨t, p, e, rfl, hp, he⟩ | ⟨t, fs, rfl, hf⟩ | ⟨t, ds, rfl, hf⟩
      · obtain ⟨c1, c2⟩ := dec_val hP hE hw hp he ot ri
        exact ⟨27, mX30_resolve, v27_resolve, c2, c1⟩
      · obtain ⟨c1, c2⟩ := dec_funs hC hw hf ot ri
        exact ⟨45, mX49_resolve, v45_resolve, c2, c1⟩
      · obtain ⟨c1, c2⟩ := dec_datas hT hw hf ot ri
        exact ⟨52, mX57_resolve, v52_resolve, c2, c1⟩
end
