/-! THE COMPONENT'S RESOLVER: the form of its contracts -/
/-- room, with what the row of names may still take -/
def pU (h : AH) (nb : Nat) : Nat := un h + 3 * (18200 - nb)
/-- how long the tables may be: the declared tokens K are different ones; and a table's tokens are known -/
def KB (s : RSt) (D : Dm) : Prop := (∃ K : List Nat, K.Nodup ∧ (∀ t, t ∈ K → t < 1300 ∧ D.1 t) ∧ (rCt s).length + (rDt s).length ≤ K.length + 1300 ∧ (rC s).length + (rT s).length ≤ K.length + 1300) ∧ (∀ y, y ∈ rDt s → y.2.2.2 < 5000 → D.1 y.2.2.2) ∧ ∀ x, x ∈ rCt s → x.2.1 < (rDt s).length
theorem KB.mv {s s' : RSt} {D D' : Dm} (k : KB s D) (hD : ∀ t, D.1 t → D'.1 t) (e : rCt s' = rCt s ∧ rDt s' = rDt s) (hl : (rC s').length ≤ (rC s).length ∧ (rT s').length ≤ (rT s).length) : KB s' D' := by
  obtain ⟨⟨K, k1, k2, k3, k4⟩, k5, k6⟩ := k
  refine ⟨⟨K, k1, fun t ht => ⟨(k2 t ht).1, hD t (k2 t ht).2⟩, by rw [e.1, e.2]; exact k3, by omega⟩, fun y hy h5 => hD _ (k5 y (by rw [← e.2]; exact hy) h5), fun x hx => by rw [e.2]; exact k6 x (by rw [← e.1]; exact hx)⟩
def VD (s : RSt) (D : Dm) : Prop := (∀ x, x ∈ rV s → D.1 x.2) ∧ D.2.1 = (rCt s).length ∧ D.2.2 = (rDt s).length ∧ KB s D
/-- the tokens of the names in sight are different ones -/
def VN (ts : List (Nat × Nat × Nat)) (s : RSt) : Prop := ((rV s).map (·.2)).Nodup ∧ ∀ x, x ∈ rV s → x.2 < ts.length
theorem nodup_lt : ∀ (n : Nat) (l : List Nat), l.Nodup → (∀ x, x ∈ l → x < n) → l.length ≤ n := by
  intro n
  induction n with
  | zero =>
    intro l _ h
    cases l with
    | nil => exact Nat.le_refl _
    | cons a l => exact absurd (h a (List.mem_cons_self ..)) (Nat.not_lt_zero _)
  | succ n ih =>
    intro l nd h
    have := ih (l.erase n) (nd.erase n) fun x hx => by
      have h1 := (List.Nodup.mem_erase_iff nd).mp hx
      have := h x h1.2
      have := h1.1
      omega
    rw [List.length_erase] at this
    split at this <;> omega
theorem VN.len {ts : List (Nat × Nat × Nat)} {s : RSt} (k : VN ts s) : (rV s).length ≤ ts.length := by
  have := nodup_lt ts.length ((rV s).map (·.2)) k.1 fun x hx => by
    obtain ⟨y, hy, rfl⟩ := List.mem_map.mp hx
    exact k.2 y hy
  rwa [List.length_map] at this
theorem VN.of {ts : List (Nat × Nat × Nat)} {s s' : RSt} (k : VN ts s) (e : rV s' = rV s) : VN ts s' := by unfold VN; rw [e]; exact k
theorem VN.sfx {ts : List (Nat × Nat × Nat)} {s s' : RSt} (k : VN ts s) (e : rV s' <:+ rV s) : VN ts s' := ⟨(e.sublist.map (·.2)).nodup k.1, fun x hx => k.2 x (e.subset hx)⟩
/-- ahead of a tree from lo on, before hi -/
def rI (G : Gh) (W : Nat → Prop) (ts : List (Nat × Nat × Nat)) (O : List (Nat × Nat) × List (Nat × Nat)) (h : AH) (Z : Zt) (D : Dm) (s : RSt) (nb lo hi : Nat) : Prop := RS G W h ts Z O s nb ∧ WB G W h ∧ VD s D ∧ (hi ≤ ts.length ∧ lo ≤ hi) ∧ VN ts s ∧ nb ≤ 18200 ∧ (∀ t, D.1 t → t < lo ∨ hi ≤ t) ∧ pU h nb + 200 * (hi - lo) + 40000 ≤ UB
/-- behind it; A: what is left of the tree -/
def rP (G : Gh) (W : Nat → Prop) (ts : List (Nat × Nat × Nat)) (O : List (Nat × Nat) × List (Nat × Nat)) (h : AH) (Z : Zt) (D : Dm) (nb lo hi : Nat) (A : Zt → Dm → AH → Prop) (s' : RSt) : Outcome → AH → Prop := fun o h' => o = .returned none ∧ ∃ Z' D' nb', RS G W h' ts Z' O s' nb' ∧ WB G W h' ∧ VD s' D' ∧ A Z' D' h' ∧ KW W lo hi h h' ∧ Ext Z Z' D D' ∧ (∀ t, D'.1 t → D.1 t ∨ (lo ≤ t ∧ t < hi)) ∧ VN ts s' ∧ nb' ≤ 18200 ∧ pU h' nb' ≤ pU h nb + 200 * (hi - lo) ∧ Le h h' none
/-- a tree was resolved -/
def rA (ts : List (Nat × Nat × Nat)) (W : Nat → Prop) (O : List (Nat × Nat) × List (Nat × Nat)) (lo hi : Nat) (x : Tr) (q : Nat) (Z : Zt) (D : Dm) (h : AH) : Prop := TR lo hi x ∧ OTG (XA ts W O Z D h) W h x 0 0 q
/-- a list while it is resolved: l1 is, l2 is still to be -/
def LZ (ts : List (Nat × Nat × Nat)) (W : Nat → Prop) (O : List (Nat × Nat) × List (Nat × Nat)) (f : Nat → Option Nat) (l1 l2 : List Tr) (lo m hi : Nat) (Z : Zt) (D : Dm) (h : AH) : Prop := (∀ (j : Nat) (y : Tr), l1[j]? = some y → TR lo m y ∧ ∃ b, f j = some b ∧ OTG (XA ts W O Z D h) W h y 0 0 b) ∧ (∀ (j : Nat) (x : Tr), l2[j]? = some x → ∃ b, f (l1.length + j) = some b ∧ OTG (X0 ts W h) W h x 0 0 b) ∧ wf (Kd ts) (ls l2) m hi ∧ lo ≤ m ∧ m ≤ hi
section
variable {G : Gh} {d : Nat} {W : Nat → Prop} {h h1 h2 h' : AH} {ts : List (Nat × Nat × Nat)} {t i v n nb nb' r q g fr ba lo hi m m2 lo1 hi1 b : Nat} {Z Z' : Zt} {D D' : Dm} {O : List (Nat × Nat) × List (Nat × Nat)} {s s' : RSt} {x y x' : Tr} {l l1 l2 : List Tr} {f : Nat → Option Nat}
theorem unl_ls : ∀ l : List Tr, unl (ls l) = l := by
  intro l
  induction l with
  | nil => rfl
  | cons a r ih => unfold ls unl; rw [ih]
theorem LZ.ini (hl : ∀ (j : Nat) (x : Tr), l[j]? = some x → ∃ b, f j = some b ∧ OTG (X0 ts W h) W h x 0 0 b) (hw : wf (Kd ts) (ls l) lo hi) (hm : lo ≤ hi) : LZ ts W O f [] l lo lo hi Z D h :=
  ⟨fun j y hy => by simp at hy, fun j x hx => by rw [List.length_nil, Nat.zero_add]; exact hl j x hx, hw, Nat.le_refl _, hm⟩
/-- the next one of a list -/
theorem LZ.nxt (k : LZ ts W O f l1 (x :: l2) lo m hi Z D h) : ∃ m2 b, m ≤ m2 ∧ m2 ≤ hi ∧ wf (Kd ts) x m m2 ∧ f l1.length = some b ∧ OTG (X0 ts W h) W h x 0 0 b ∧
    ∀ h' Z' D' x', (∀ a, W a → hK h a ≠ 0) → KW W m m2 h h' → Ext Z Z' D D' → TR m m2 x' → OTG (XA ts W O Z' D' h') W h' x' 0 0 b → LZ ts W O f (l1 ++ [x']) l2 lo m2 hi Z' D' h' := by
  obtain ⟨k1, k2, k3, k4, k5⟩ := k
  unfold ls wf at k3
  obtain ⟨m2, m3, m4, m5, m6⟩ := k3
  obtain ⟨b, b1, b2⟩ := k2 0 x rfl
  refine ⟨m2, b, m3, m4, m5, b1, b2, fun h' Z' D' x' hW kw e tr ot => ⟨fun j y hy => ?_, fun j y hy => ?_, m6, by omega, m4⟩⟩
  · by_cases hj : j < l1.length
    · rw [List.getElem?_append_left hj] at hy
      obtain ⟨c1, c, c2, c3⟩ := k1 j y hy
      exact ⟨TR.mono _ _ _ _ _ c1 (Nat.le_refl _) m3, c, c2, c3.k1 kw e (Or.inl (Nat.le_refl _)) c1⟩
    · rw [List.getElem?_append_right (by omega)] at hy
      have : j - l1.length = 0 := by
        refine Classical.byContradiction fun hne => ?_
        rw [List.getElem?_eq_none (by simp; omega)] at hy
        cases hy
      rw [this] at hy
      cases hy
      have ej : j = l1.length := by omega
      subst ej
      exact ⟨TR.mono _ _ _ _ _ tr (by omega) (Nat.le_refl _), b, b1, ot⟩
  · obtain ⟨c, c1, c2⟩ := k2 (j + 1) y (by simpa using hy)
    refine ⟨c, ?_, ?_⟩
    · rw [List.length_append, List.length_singleton, show l1.length + 1 + j = l1.length + (j + 1) by omega]
      exact c1
    · have hy2 : TR m2 hi y := by
        have : ∀ (l : List Tr) (j : Nat) (y : Tr), l[j]? = some y → TR m2 hi (ls l) → TR m2 hi y := by
          intro l
          induction l with
          | nil => intro j y hy; simp at hy
          | cons a l ih =>
            intro j y hy ht
            unfold ls TR at ht
            cases j with
            | zero => cases hy; exact ht.1
            | succ j => exact ih j y (by simpa using hy) ht.2
        exact this l2 j y hy (wf.tr _ _ _ m6)
      exact c2.k0 kw hW hy2
/-- all of a list was resolved -/
theorem LZ.fin (k : LZ ts W O f l1 [] lo m hi Z D h) : TG (XA ts W O Z D h) W h f l1 ∧ TR lo hi (ls l1) := by
  obtain ⟨k1, k2, k3, k4, k5⟩ := k
  refine ⟨fun j y hy => (k1 j y hy).2, ?_⟩
  have : ∀ l : List Tr, (∀ (j : Nat) (y : Tr), l[j]? = some y → TR lo m y) → TR lo hi (ls l) := by
    intro l
    induction l with
    | nil => intro _; trivial
    | cons a l ih =>
      intro hl
      unfold ls TR
      exact ⟨TR.mono _ _ _ _ _ (hl 0 a rfl) (Nat.le_refl _) k5, ih fun j y hy => hl (j + 1) y (by simpa using hy)⟩
  exact this l1 fun j y hy => (k1 j y hy).1
theorem TR.ls_at {l : List Tr} (k : TR lo hi (ls l)) : ∀ y, y ∈ l → TR lo hi y := by
  induction l with
  | nil => intro y hy; cases hy
  | cons a l ih =>
    intro y hy
    unfold ls TR at k
    rcases List.mem_cons.mp hy with rfl | hy
    · exact k.1
    · exact ih k.2 y hy
/-- the first part of a tree's range, then the rest -/
theorem rI.fst (k : rI G W ts O h Z D s nb lo hi) (h1 : lo ≤ m) (h2 : m ≤ hi) : rI G W ts O h Z D s nb lo m := by
  obtain ⟨k1, k2, k3, k4, k5, k6, k7, k8⟩ := k
  exact ⟨k1, k2, k3, ⟨by omega, h1⟩, k5, k6, fun t ht => (k7 t ht).imp_right fun _ => by have := k7 t ht; omega, by omega⟩
theorem rI.nar (k : rI G W ts O h Z D s nb lo hi) (h1 : lo ≤ lo1) (h2 : lo1 ≤ hi1) (h3 : hi1 ≤ hi) : rI G W ts O h Z D s nb lo1 hi1 := by
  obtain ⟨k1, k2, k3, k4, k5, k6, k7, k8⟩ := k
  exact ⟨k1, k2, k3, ⟨by omega, h2⟩, k5, k6, fun t ht => by have := k7 t ht; omega, by omega⟩
/-- behind a part that ended at m -/
theorem rI.snd (k : rI G W ts O h Z D s nb lo hi) (hlo : lo1 ≤ hi1) (h0 : lo ≤ lo1) (h1 : hi1 ≤ m) (h2 : m ≤ hi) (r1 : RS G W h' ts Z' O s' nb') (r2 : WB G W h') (r3 : VD s' D') (r6 : ∀ t, D'.1 t → D.1 t ∨ (lo1 ≤ t ∧ t < hi1)) (r7 : VN ts s') (r8 : nb' ≤ 18200) (r9 : pU h' nb' ≤ pU h nb + 200 * (hi1 - lo1)) : rI G W ts O h' Z' D' s' nb' m hi := by
  obtain ⟨k1, k2, k3, k4, k5, k6, k7, k8⟩ := k
  refine ⟨r1, r2, r3, ⟨k4.1, h2⟩, r7, r8, fun t ht => ?_, by omega⟩
  rcases r6 t ht with q | q
  · have := k7 t q
    omega
  · omega
theorem WB.mv (k : WB G W h) (c : TkC G h ts) (hu : ∀ a, W a → Us h h' a) (e : fR h' (gW G 4) 82 = fR h (gW G 4) 82) : WB G W h' := ⟨fun a ha => by rw [(hu a ha).1]; exact k.1 a ha, k.2.1, fun ba e' => k.2.2.1 ba (e.symm.trans e'), fun a ha => by rw [(hu a ha).1]; exact k.2.2.2 a ha⟩
/-- the tree's cells stay when the scope alone is written -/
theorem S4.kw {gs : List Nat} (w : S4 G gs h h') (k : WB G W h) : KW W lo hi h h' := KW.of ⟨Nat.le_of_eq w.1.1.1.symm, Nat.le_of_eq w.1.1.2.symm⟩ fun a ha => w.1.uf fun e => k.2.1 (by rw [← e]; exact ha)
theorem S4.wb {gs : List Nat} (w : S4 G gs h h') (k : WB G W h) (hg : 82 ∉ gs) : WB G W h' := ⟨fun a ha => by rw [w.1.2.1.1]; exact k.1 a ha, k.2.1, fun ba e => k.2.2.1 ba ((w.2 82 hg).2.2.symm.trans e), fun a ha => by rw [w.1.2.1.1]; exact k.2.2.2 a ha⟩
/-- a node of the tree is written -/
theorem WQ.kw (w : WQ q h h') (ht : (lo : Int) ≤ tokA h q ∧ tokA h q < hi) (hf : ∀ g, sf g = true → fI h' q g = fI h q g ∧ fJ h' q g = fJ h q g ∧ fR h' q g = fR h q g) : KW W lo hi h h' := by
  refine ⟨⟨Nat.le_of_eq w.1.1.symm, Nat.le_of_eq w.1.2.symm⟩, fun a ha => ?_⟩
  by_cases e : a = q
  · subst e
    obtain ⟨w1, ⟨w2, w3, w4, w5, w6⟩, w7⟩ := w
    exact ⟨⟨by rw [w2], by rw [w3], by rw [w4], by rw [w5], by rw [w6], hf⟩, fun q => by omega⟩
  · exact ⟨(w.uf e).us, fun _ => w.uf e⟩
/-- the scope's state stays when a node of the tree is written -/
theorem RS.wq (k : RS G W h ts Z O s nb) (w : WQ q h h') (le : Le h h' none) (hk : hK h q ∉ RKs) (h8 : hK h q ≠ 8) (h2' : hK h q < 56) (hk2 : hK h q ≠ 2) : RS G W h' ts Z O s nb := by
  have g4 : gW G 4 ≠ q := fun e => h8 (by rw [← e]; exact (k.1.1.at (i := 4) (by decide)).1)
  have u4 := w.uf g4
  refine k.mv (k.1.le le fun i hi => (w.uf fun e => ?_).uk) (w.UK hk) (u4.2.2.2.2.2 82).2.2 (u4.2.2.2.2.2 83).1 (u4.2.2.2.2.2 84).1 (k.2.1.mv (u4.2.2.2.2.2 91).1 (u4.2.2.2.2.2 92).1) ⟨rfl, rfl, rfl, rfl, rfl⟩ fun a _ => by rw [w.2.1.1]
  have s1 := k.1.1.at (i := 1) (by decide)
  rw [← e] at h2' hk2
  rcases hi with rfl | rfl | rfl | rfl | rfl
  · exact hk2 s1.1
  · rw [kw1024 s1] at h2'; exact absurd h2' (by decide)
  · rw [kw1025 s1] at h2'; exact absurd h2' (by decide)
  · rw [kw1026 s1] at h2'; exact absurd h2' (by decide)
  · rw [kw1027 s1] at h2'; exact absurd h2' (by decide)
end
