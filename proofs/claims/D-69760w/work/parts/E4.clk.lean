/-! THE COMPONENT'S SCOPE: what a name, a constructor, a type's name is -/
/-- the object of a binding -/
def BO (h : AH) (B v : Nat) (lv : Int32) : Prop := hK h B = 13 ∧ NmC (fJ h B 125) (fJ h B 126) v ∧ fI h B 129 = lv
/-- how many places the scope's growing rows have -/
def rwc (h : AH) (r : Nat) : Nat := match fR h r 77 with
  | some a => hL h a
  | none => 0
def rcap (G : Gh) (h : AH) : Nat := rwc h (gW G 1085) + rwc h (gW G 1086) + rwc h (gW G 1059)
/-- local names, the latest first; Bd: by the tokens of their binders -/
def BNs (G : Gh) (h : AH) (Bd : Nat → Nat) (V : List (Nat × Nat)) (nb : Nat) : Prop := ∃ ba, fR h (gW G 4) 82 = some ba ∧ hK h ba = 1007 ∧ Ns (gW G) ba ∧ hL h ba + rcap G h = nb ∧ 64 ≤ hL h ba ∧ hL h ba ≤ 2600 ∧ V.length ≤ hL h ba ∧ fI h (gW G 4) 83 = nI V.length ∧ fI h (gW G 4) 84 = nI V.length ∧ ∀ p x, V[p]? = some x → aR h ba (V.length - 1 - p) = some (Bd x.2) ∧ BO h (Bd x.2) x.1 (nI (V.length - 1 - p))
/-- names of the session, the latest first, and those built in -/
def OU (G : Gh) (h : AH) (SL BL : List (Nat × Nat)) : Prop := (∃ n, RowC h (gW G 1087) ((SL.map (·.2)).reverse) n) ∧ (∃ n, RowC h (gW G 1088) (BL.map (·.2)) n) ∧ ∀ x, (x ∈ SL ∨ x ∈ BL) → BO h x.2 x.1 (-1)
/-- the object of a constructor -/
def CO (h : AH) (Tn : Nat → Nat) (c a : Nat) (x : Nat × Nat × Nat × Tr) : Prop := hK h a = 54 ∧ NmC (fJ h a 366) (fJ h a 367) x.1 ∧ fR h a 368 = some (Tn x.2.1) ∧ fI h a 369 = nI x.2.2.1 ∧ fI h a 370 = nI c ∧ fI h a 371 = b2 (!isN x.2.2.2)
/-- constructors in sight, the latest first, and all of them -/
def CNs (G : Gh) (h : AH) (Cn Tn : Nat → Nat) (Cs : List (Nat × Nat)) (Ct : Ctb) : Prop := (∃ n, RowC h (gW G 1086) ((Cs.map fun x => Cn x.2).reverse) n) ∧ (∀ x, x ∈ Cs → ∃ y, Ct[x.2]? = some y ∧ y.1 = x.1) ∧ ∀ (c : Nat) (x : Nat × Nat × Nat × Tr), Ct[c]? = some x → CO h Tn c (Cn c) x
/-- the answer of a search -/
def nmP (G : Gh) (h : AH) (ts : List (Nat × Nat × Nat)) (N : Option (Nat × Nat)) (t : Nat) (ob : Option Nat) : Outcome → AH → Prop := fun o h' => match ob with
  | some B => o = .returned (some (.ref B)) ∧ h' = h
  | none => o = .returned (some .null) ∧ S4 G [91, 92] h h' ∧ NF G h' (nt N (Pl ts t, 2))
theorem lk_cons {p : Nat × Nat} {l : List (Nat × Nat)} {v : Nat} : lk (p :: l) v = if (p.1 == v) = true then some p.2 else lk l v := by
  unfold lk
  rw [List.find?_cons]
  cases p.1 == v <;> rfl
theorem lk_nil {v : Nat} : lk [] v = none := rfl
section
variable {G : Gh} {d : Nat} {h h1 h' : AH} {ts : List (Nat × Nat × Nat)} {t i v n nb : Nat} {N : Option (Nat × Nat)} {SL BL V Cs : List (Nat × Nat)} {Bd Cn Tn : Nat → Nat} {Ct : Ctb}
theorem rev_at {α : Type} {l : List α} {p : Nat} (hp : p < l.length) : l.reverse[l.length - 1 - p]? = some l[p] := by
  rw [List.getElem?_reverse (by omega), show l.length - 1 - (l.length - 1 - p) = p by omega, List.getElem?_eq_getElem hp]
theorem rev_map {α : Type} {f : α → Nat} {l : List α} {p j : Nat} (hp : p < l.length) (e : j = l.length - 1 - p) : ((l.map f).reverse)[j]? = some (f l[p]) := by
  subst e
  rw [List.getElem?_reverse (by rw [List.length_map]; omega), List.length_map, show l.length - 1 - (l.length - 1 - p) = p by omega, List.getElem?_map, List.getElem?_eq_getElem hp]
  rfl
theorem nm_none {ob : Option Nat} (c : TkC G h ts) (hN : NF G h N) (ht : t < ts.length) (e : ob = none) : C G mX9_found d [.ref (gW G 4), .int (nI 2), .int (nI t)] h (KV (nmP G h ts N t ob) (fun h2 => nmP G h ts N t ob (.returned (some .null)) h2)) := by
  subst e
  refine C.mono (c_found c hN ht (by decide)) ?_
  rintro _ h' ⟨rfl, s, nf⟩
  exact KV.i ⟨rfl, s, nf⟩
theorem name_120 (c : TkC G h ts) (hN : NF G h N) (ou : OU G h SL BL) (ht : t < ts.length) (hk : Kd ts t = 280) : ∀ f j, BL.length - j < f → j ≤ BL.length →
    X G mX9_name (d + 1) none [] 120 [(0, .ref (gW G 4)), (1, .int (nI t)), (2, .int (nI j))] [] h (nmP G h ts N t (lk (BL.drop j) (Vl ts t))) := by
  obtain ⟨-, ⟨n, row⟩, obs⟩ := ou
  have hlen := row.2.2.1
  have hn := row.2.2.2.2.1
  rw [List.length_map] at hlen
  intro f
  induction f with
  | zero => intro j hf; omega
  | succ f IH =>
    intro j hf hj
    refine bX9_name_120 G d h _ _ _ (c.1.at (by decide)) ?_
    rw [row.2.1, List.length_map, nI_leI (by omega) (by omega)]
    refine ⟨fun z => ?_, fun z => ?_⟩
    · exact nm_none c hN ht (by rw [List.drop_eq_nil_of_le (by omega)]; rfl)
    · have hj2 : j < BL.length := by omega
      have hg : (BL.map (·.2))[j]? = some BL[j].2 := by rw [List.getElem?_map, List.getElem?_eq_getElem hj2]; rfl
      have ob := obs BL[j] (Or.inr (List.getElem_mem hj2))
      rw [List.drop_eq_getElem_cons hj2, lk_cons]
      refine C.rr (c_get row hg) ⟨ob.1, C.rr (c_get row hg) ⟨ob.1, C.ri (c_is c ht (Or.inl hk) ob.2.1) ?_⟩⟩
      rw [b2_0]
      refine ⟨fun z1 => ?_, fun z1 => C.rr (c_get row hg) ⟨ob.1, ?_⟩⟩
      · rintro _ rfl
        rw [if_neg (by rw [z1]; decide), nI_1]
        exact IH (j + 1) (by omega) (by omega)
      · rw [if_pos (bt z1)]
        exact ⟨rfl, rfl⟩
theorem name_60 (c : TkC G h ts) (hN : NF G h N) (ou : OU G h SL BL) (ht : t < ts.length) (hk : Kd ts t = 280) : ∀ k, k ≤ SL.length →
    X G mX9_name (d + 1) none [] 60 [(0, .ref (gW G 4)), (1, .int (nI t)), (2, .int (nI k - 1))] [] h (nmP G h ts N t ((lk (SL.drop (SL.length - k)) (Vl ts t)).or (lk BL (Vl ts t)))) := by
  obtain ⟨⟨n, row⟩, -, obs⟩ := id ou
  have hlen := row.2.2.1
  have hn := row.2.2.2.2.1
  rw [List.length_reverse, List.length_map] at hlen
  intro k
  induction k with
  | zero =>
    intro _
    refine bX9_name_60 G d h _ _ _ (c.1.at (by decide)) ⟨fun _ => ?_, fun z => absurd (by decide) z⟩
    rw [List.drop_eq_nil_of_le (by omega), lk_nil, Option.none_or]
    exact name_120 c hN ou ht hk (BL.length + 1) 0 (by omega) (by omega)
  | succ k IH =>
    intro hk2
    have hj2 : SL.length - (k + 1) < SL.length := by omega
    rw [nI_sub1 (by omega)]
    refine bX9_name_60 G d h _ _ _ (c.1.at (by decide)) ⟨fun z => ?_, fun _ => ?_⟩
    · rw [Int32.lt_iff_toInt_lt, nI_toInt (by omega)] at z
      change (_ : Int) < 0 at z
      omega
    have hg : ((SL.map (·.2)).reverse)[k]? = some SL[SL.length - (k + 1)].2 := rev_map hj2 (by omega)
    have ob := obs SL[SL.length - (k + 1)] (Or.inl (List.getElem_mem hj2))
    rw [List.drop_eq_getElem_cons hj2, lk_cons, show SL.length - (k + 1) + 1 = SL.length - k by omega]
    refine C.rr (c_get row hg) ⟨ob.1, C.rr (c_get row hg) ⟨ob.1, C.ri (c_is c ht (Or.inl hk) ob.2.1) ?_⟩⟩
    rw [b2_0]
    refine ⟨fun z1 => ?_, fun z1 => C.rr (c_get row hg) ⟨ob.1, ?_⟩⟩
    · rintro _ rfl
      rw [if_neg (by rw [z1]; decide), show nI k + -1 = nI k - 1 from (Int32.sub_eq_add_neg _ _).symm]
      exact IH (by omega)
    · rw [if_pos (bt z1), Option.some_or]
      exact ⟨rfl, rfl⟩
theorem name_7 (c : TkC G h ts) (hN : NF G h N) (ou : OU G h SL BL) (bn : BNs G h Bd V nb) (ht : t < ts.length) (hk : Kd ts t = 280) : ∀ k, k ≤ V.length →
    X G mX9_name (d + 1) none [] 7 [(0, .ref (gW G 4)), (1, .int (nI t)), (2, .int (nI k - 1))] [] h (nmP G h ts N t (((lk (V.drop (V.length - k)) (Vl ts t)).map Bd).or ((lk SL (Vl ts t)).or (lk BL (Vl ts t))))) := by
  obtain ⟨ba, b1, b2', b3, b5, b6, b7, b8, b9, b10, b11⟩ := id bn
  intro k
  induction k with
  | zero =>
    intro _
    refine bX9_name_7 G d h _ _ _ (c.1.at (by decide)) ⟨fun _ => ?_, fun z => absurd (by decide) z⟩
    rintro _ rfl
    obtain ⟨⟨n, row⟩, -, obs⟩ := id ou
    rw [List.drop_eq_nil_of_le (by omega), lk_nil, Option.map_none, Option.none_or, row.2.1, List.length_reverse, List.length_map]
    have := name_60 (d := d) c hN ou ht hk SL.length (Nat.le_refl _)
    rw [Nat.sub_self, List.drop_zero] at this
    exact this
  | succ k IH =>
    intro hk2
    have hj2 : V.length - (k + 1) < V.length := by omega
    rw [nI_sub1 (by omega)]
    refine bX9_name_7 G d h _ _ _ (c.1.at (by decide)) ⟨fun z => ?_, fun _ => ?_⟩
    · rw [Int32.lt_iff_toInt_lt, nI_toInt (by omega)] at z
      change (_ : Int) < 0 at z
      omega
    obtain ⟨g1, g2⟩ := b11 (V.length - (k + 1)) _ (List.getElem?_eq_getElem hj2)
    rw [show V.length - 1 - (V.length - (k + 1)) = k by omega] at g1 g2
    rw [List.drop_eq_getElem_cons hj2, lk_cons, show V.length - (k + 1) + 1 = V.length - k by omega, nI_cn (by omega)]
    have hv : vp_in (nI k) (hL h ba) := vp_in_nI (by omega) (by omega)
    refine ⟨ba, b1, b2', hv, _, g1, g2.1, ba, b1, b2', hv, _, g1, g2.1, C.ri (c_is c ht (Or.inl hk) g2.2.1) ?_⟩
    rw [b2_0]
    refine ⟨fun z1 => ?_, fun z1 => ⟨ba, b1, b2', hv, _, g1, ?_⟩⟩
    · rintro _ rfl
      rw [if_neg (by rw [z1]; decide), show nI k + -1 = nI k - 1 from (Int32.sub_eq_add_neg _ _).symm]
      exact IH (by omega)
    · rw [if_pos (bt z1), Option.map_some, Option.some_or]
      exact ⟨rfl, rfl⟩
/-- what a name is -/
theorem c_name (c : TkC G h ts) (hN : NF G h N) (ou : OU G h SL BL) (bn : BNs G h Bd V nb) (ht : t < ts.length) (hk : Kd ts t = 280) : C G mX9_name (d + 1) [.ref (gW G 4), .int (nI t)] h (nmP G h ts N t (((lk V (Vl ts t)).map Bd).or ((lk SL (Vl ts t)).or (lk BL (Vl ts t))))) := by
  refine bX9_name G d h _ _ (c.1.at (by decide)) ?_
  rintro _ rfl
  obtain ⟨ba, b1, b2', b3, b5, b6, b7, b8, b9, b10, b11⟩ := id bn
  rw [b9]
  have := name_7 (d := d) c hN ou bn ht hk V.length (Nat.le_refl _)
  rw [Nat.sub_self, List.drop_zero] at this
  exact this
theorem con_10 (c : TkC G h ts) (hN : NF G h N) (cn : CNs G h Cn Tn Cs Ct) (ht : t < ts.length) (hk : Kd ts t = 281) : ∀ k, k ≤ Cs.length →
    X G mX9_con (d + 1) none [] 10 [(0, .ref (gW G 4)), (1, .int (nI t)), (2, .int (nI k - 1))] [] h (nmP G h ts N t ((lk (Cs.drop (Cs.length - k)) (Vl ts t)).map Cn)) := by
  obtain ⟨⟨n, row⟩, cc, obs⟩ := id cn
  have hlen := row.2.2.1
  have hn := row.2.2.2.2.1
  rw [List.length_reverse, List.length_map] at hlen
  intro k
  induction k with
  | zero =>
    intro _
    refine bX9_con_10 G d h _ _ _ (c.1.at (by decide)) ⟨fun _ => ?_, fun z => absurd (by decide) z⟩
    exact nm_none c hN ht (by rw [List.drop_eq_nil_of_le (by omega)]; rfl)
  | succ k IH =>
    intro hk2
    have hj2 : Cs.length - (k + 1) < Cs.length := by omega
    rw [nI_sub1 (by omega)]
    refine bX9_con_10 G d h _ _ _ (c.1.at (by decide)) ⟨fun z => ?_, fun _ => ?_⟩
    · rw [Int32.lt_iff_toInt_lt, nI_toInt (by omega)] at z
      change (_ : Int) < 0 at z
      omega
    have hg : ((Cs.map fun x => Cn x.2).reverse)[k]? = some (Cn Cs[Cs.length - (k + 1)].2) := rev_map hj2 (by omega)
    obtain ⟨y, y1, y2⟩ := cc Cs[Cs.length - (k + 1)] (List.getElem_mem hj2)
    have ob := obs _ y y1
    have nm := ob.2.1
    rw [y2] at nm
    rw [List.drop_eq_getElem_cons hj2, lk_cons, show Cs.length - (k + 1) + 1 = Cs.length - k by omega]
    refine C.rr (c_get row hg) ⟨ob.1, C.rr (c_get row hg) ⟨ob.1, C.ri (c_is c ht (Or.inr (Or.inl hk)) nm) ?_⟩⟩
    rw [b2_0]
    refine ⟨fun z1 => ?_, fun z1 => C.rr (c_get row hg) ⟨ob.1, ?_⟩⟩
    · rintro _ rfl
      rw [if_neg (by rw [z1]; decide), show nI k + -1 = nI k - 1 from (Int32.sub_eq_add_neg _ _).symm]
      exact IH (by omega)
    · rw [if_pos (bt z1), Option.map_some]
      exact ⟨rfl, rfl⟩
/-- which constructor it is -/
theorem c_con (c : TkC G h ts) (hN : NF G h N) (cn : CNs G h Cn Tn Cs Ct) (ht : t < ts.length) (hk : Kd ts t = 281) : C G mX9_con (d + 1) [.ref (gW G 4), .int (nI t)] h (nmP G h ts N t ((lk Cs (Vl ts t)).map Cn)) := by
  refine bX9_con G d h _ _ (c.1.at (by decide)) ?_
  rintro _ rfl
  obtain ⟨⟨n, row⟩, cc, obs⟩ := id cn
  rw [row.2.1, List.length_reverse, List.length_map]
  have := con_10 (d := d) c hN cn ht hk Cs.length (Nat.le_refl _)
  rw [Nat.sub_self, List.drop_zero] at this
  exact this
end
