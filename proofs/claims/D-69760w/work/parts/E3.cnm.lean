/-! THE COMPONENT'S SCOPE: names that are the same; the least fault -/
theorem cd_concat (l : List Nat) (c : Nat) : cd (l.concat c) = cd l * 256 + c := by rw [List.concat_eq_append]; exact cd_push l c
theorem cd_inj : ∀ (n : Nat) (l m : List Nat), l.length ≤ n → (∀ x ∈ l, 1 ≤ x ∧ x < 128) → (∀ x ∈ m, 1 ≤ x ∧ x < 128) → cd l = cd m → l = m := by
  intro n
  induction n with
  | zero =>
    intro l m hl h1 h2 e
    have : l = [] := List.eq_nil_of_length_eq_zero (by omega)
    subst this
    rcases List.eq_nil_or_concat m with rfl | ⟨m', c, rfl⟩
    · rfl
    · have hc := h2 c (by simp)
      rw [cd_concat] at e
      have : cd [] = 0 := rfl
      omega
  | succ n ih =>
    intro l m hl h1 h2 e
    rcases List.eq_nil_or_concat l with rfl | ⟨l', b, rfl⟩
    · rcases List.eq_nil_or_concat m with rfl | ⟨m', c, rfl⟩
      · rfl
      · have hc := h2 c (by simp)
        rw [cd_concat] at e
        have : cd [] = 0 := rfl
        omega
    · have hb := h1 b (by simp)
      rcases List.eq_nil_or_concat m with rfl | ⟨m', c, rfl⟩
      · rw [cd_concat] at e
        have : cd [] = 0 := rfl
        omega
      · have hc := h2 c (by simp)
        rw [cd_concat, cd_concat] at e
        have e1 : cd l' = cd m' := by omega
        have e2 : b = c := by omega
        rw [ih l' m' (by simp at hl; omega) (fun x hx => h1 x (by simp [hx])) (fun x hx => h2 x (by simp [hx])) e1, e2]
theorem cd_lt {l : List Nat} (hl : l.length ≤ 8) (h : ∀ x ∈ l, 1 ≤ x ∧ x < 128) : cd l < 9223372036854775808 := by
  cases l with
  | nil => decide
  | cons c l =>
    have hc := h c (by simp)
    have := cd_le l c (fun x hx => by have := h x (by simp [hx]); omega)
    have e : cd (c :: l) = l.foldl (fun v c => v * 256 + c) c := by unfold cd; simp
    rw [e]
    have h7 : 256 ^ l.length ≤ 256 ^ 7 := Nat.pow_le_pow_right (by decide) (by simp at hl; omega)
    have h8 : (c + 1) * 256 ^ l.length ≤ 128 * 256 ^ 7 := Nat.mul_le_mul (by omega) h7
    have : (128 : Nat) * 256 ^ 7 = 9223372036854775808 := by decide
    omega
theorem lN_inj {a b : Nat} (ha : a < 9223372036854775808) (hb : b < 9223372036854775808) (e : lN a = lN b) : a = b := by
  have := congrArg Int64.toInt e
  rw [lN_int ha, lN_int hb] at this
  omega
theorem NmC_eq {a b a' b' : Int64} {c c' : Nat} (k : NmC a b c) (k' : NmC a' b' c') : (a = a' ∧ b = b') ↔ c = c' := by
  obtain ⟨l, h1, h2, rfl, rfl, rfl⟩ := k
  obtain ⟨m, g1, g2, rfl, rfl, rfl⟩ := k'
  constructor
  · rintro ⟨e1, e2⟩
    have t1 := cd_inj 8 (l.take 8) (m.take 8) (by simp; omega) (fun x hx => h1 x (List.mem_of_mem_take hx)) (fun x hx => g1 x (List.mem_of_mem_take hx)) (lN_inj (cd_lt (by simp; omega) fun x hx => h1 x (List.mem_of_mem_take hx)) (cd_lt (by simp; omega) fun x hx => g1 x (List.mem_of_mem_take hx)) e1)
    have t2 := cd_inj 8 (l.drop 8) (m.drop 8) (by simp; omega) (fun x hx => h1 x (List.mem_of_mem_drop hx)) (fun x hx => g1 x (List.mem_of_mem_drop hx)) (lN_inj (cd_lt (by simp; omega) fun x hx => h1 x (List.mem_of_mem_drop hx)) (cd_lt (by simp; omega) fun x hx => g1 x (List.mem_of_mem_drop hx)) e2)
    rw [← List.take_append_drop 8 l, ← List.take_append_drop 8 m, t1, t2]
  · intro e
    have := cd_inj 12 l m h2 h1 g1 e
    subst this
    exact ⟨rfl, rfl⟩
/-- the fault that was found -/
def NF (G : Gh) (h : AH) : Option (Nat × Nat) → Prop
  | none => fI h (gW G 4) 91 = 0
  | some x => fI h (gW G 4) 91 = nI x.2 ∧ fI h (gW G 4) 92 = nI x.1 ∧ 1 ≤ x.2 ∧ x.2 < 10 ∧ x.1 < 5000
/-- of the scope only the fields of gs were written -/
def S4 (G : Gh) (gs : List Nat) (h h' : AH) : Prop := WQ (gW G 4) h h' ∧ ∀ g, g ∉ gs → fI h' (gW G 4) g = fI h (gW G 4) g ∧ fJ h' (gW G 4) g = fJ h (gW G 4) g ∧ fR h' (gW G 4) g = fR h (gW G 4) g
/-- the component's tokens -/
def TkC (G : Gh) (h : AH) (ts : List (Nat × Nat × Nat)) : Prop := SoA G h ∧ Tks G h ts ∧ TsOK ts
section
variable {G : Gh} {d : Nat} {h h1 h' : AH} {ts : List (Nat × Nat × Nat)} {t i v n : Nat} {gs : List Nat}
theorem S4.rf : S4 G gs h h := ⟨WQ.rf, fun _ _ => ⟨rfl, rfl, rfl⟩⟩
theorem S4.pI {g : Nat} {x : Int32} (k : S4 G gs h h1) (hg : g ∈ gs) : S4 G gs h (pI h1 (gW G 4) g x) := by
  refine ⟨k.1.pI, fun g' hg' => ?_⟩
  rw [fI_pI, if_neg (fun e => hg' (by rw [e.2]; exact hg)), fJ_pI, fR_pI]
  exact k.2 g' hg'
theorem TkC.at (c : TkC G h ts) (hi : i < ts.length) : aI h (gW G 1025) i = nI (Pl ts i) ∧ ((Kd ts i = 280 ∨ Kd ts i = 281 ∨ Kd ts i = 282) → NmC (aJ h (gW G 1026) i) (aJ h (gW G 1027) i) (Vl ts i)) := by
  have := c.2.1.2 i ts[i] (List.getElem?_eq_getElem hi)
  unfold Kd Pl Vl
  rw [List.getD, List.getElem?_eq_getElem hi]
  exact ⟨this.2.1, this.2.2.1⟩
theorem TkC.pl (c : TkC G h ts) (hi : i < ts.length) : Pl ts i < 5000 := by
  have := (c.2.2.1 _ (List.getElem_mem hi)).2.1
  unfold Pl
  rw [List.getD, List.getElem?_eq_getElem hi]
  show ts[i].2.1 < 5000
  omega
theorem c_found {N : Option (Nat × Nat)} (c : TkC G h ts) (hN : NF G h N) (ht : t < ts.length) (hn : 1 ≤ n ∧ n < 10) : C G mX9_found d [.ref (gW G 4), .int (nI n), .int (nI t)] h (fun o h' => o = .returned none ∧ S4 G [91, 92] h h' ∧ NF G h' (nt N (Pl ts t, n))) := by
  have hl := c.2.2.2.1
  have hp := c.pl ht
  refine bX9_found G d h _ _ _ (c.1.at (by decide)) (c.1.at (by decide)) ⟨vp_in_nI (by omega) (by decide), ?_⟩
  rintro _ rfl
  rw [nI_cn (by omega), (c.at ht).1]
  have set : ∀ h5, h5 = pI (pI h (gW G 4) 91 (nI n)) (gW G 4) 92 (nI (Pl ts t)) → nt N (Pl ts t, n) = some (Pl ts t, n) → Outcome.returned none = .returned none ∧ S4 G [91, 92] h h5 ∧ NF G h5 (nt N (Pl ts t, n)) := by
    rintro _ rfl e
    rw [e]
    refine ⟨rfl, (S4.rf.pI (by decide)).pI (by decide), ?_, ?_, hn.1, hn.2, hp⟩
    · rw [fI_pI, if_neg (fun e => absurd e.2 (by decide)), fI_pI, if_pos ⟨rfl, rfl⟩]
    · rw [fI_pI, if_pos ⟨rfl, rfl⟩]
  have keep : nt N (Pl ts t, n) = N → Outcome.returned none = .returned none ∧ S4 G [91, 92] h h ∧ NF G h (nt N (Pl ts t, n)) := fun e => ⟨rfl, S4.rf, by rw [e]; exact hN⟩
  cases N with
  | none =>
    refine ⟨fun _ => ?_, fun z => absurd hN z⟩
    rintro _ rfl _ rfl
    exact set _ rfl rfl
  | some y =>
    obtain ⟨n1, n2, n3, n4, n5⟩ := hN
    rw [n1, n2]
    have e0 : ¬ (nI y.2 = 0) := by
      rw [show (0 : Int32) = nI 0 from rfl, nI_eq (by omega) (by decide)]
      omega
    refine ⟨fun z => absurd z e0, fun _ => ?_⟩
    rw [nI_ltI (by omega) (by omega), nI_eq (by omega) (by omega), nI_ltI (by omega) (by omega)]
    refine ⟨fun z => keep ?_, fun z => ⟨fun z2 => ⟨fun z3 => ?_, fun z3 => keep ?_⟩, fun z2 => ?_⟩⟩
    · unfold nt; simp only; rw [if_pos (Or.inl z)]
    · rintro _ rfl _ rfl
      refine set _ rfl ?_
      unfold nt; simp only; rw [if_neg (by omega)]
    · unfold nt; simp only; rw [if_pos (Or.inr ⟨z2, by omega⟩)]
    · rintro _ rfl _ rfl
      refine set _ rfl ?_
      unfold nt; simp only; rw [if_neg (by omega)]
/-- whether a name is the token's -/
theorem c_is {a b : Int64} (c : TkC G h ts) (ht : t < ts.length) (hk : Kd ts t = 280 ∨ Kd ts t = 281 ∨ Kd ts t = 282) (hn : NmC a b v) : C G mX9_is d [.ref (gW G 4), .long a, .long b, .int (nI t)] h (Ret (.int (b2 (v == Vl ts t))) h) := by
  have hl := c.2.2.2.1
  have e := NmC_eq hn ((c.at ht).2 hk)
  refine bX9_is G d h _ _ _ _ (c.1.at (by decide)) (c.1.at (by decide)) ⟨vp_in_nI (by omega) (by decide), ?_⟩
  rw [nI_cn (by omega), lg_zero, lg_zero]
  refine ⟨fun z => ⟨vp_in_nI (by omega) (by decide), fun z2 => ?_, fun z2 => ?_⟩, fun z => ?_⟩
  · have : (v == Vl ts t) = true := by simp [e.mp ⟨z, z2⟩]
    rw [this]; exact ⟨rfl, rfl⟩
  · have : (v == Vl ts t) = false := by
      rw [beq_eq_false_iff_ne]
      intro q
      exact z2 (e.mpr q).2
    rw [this]; exact ⟨rfl, rfl⟩
  · have : (v == Vl ts t) = false := by
      rw [beq_eq_false_iff_ne]
      intro q
      exact z (e.mpr q).1
    rw [this]; exact ⟨rfl, rfl⟩
end
