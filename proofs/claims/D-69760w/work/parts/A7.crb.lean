/-! THE COMPONENT'S READER: rows of trees, while they grow -/
def Nr (h h1 : AH) (r : Nat) : Nat → Prop := fun a => hK h a = 0 ∧ a ≠ r ∧ fR h1 r 77 ≠ some a
/-- behind h the row r was made; it holds the trees l -/
def RB (G : Gh) (h h1 : AH) (ts : List (Nat × Nat × Nat)) (E : String) (l : List Tr) (r : Nat) (bs : List Nat) (n : Nat) : Prop := KP h h1 ∧ RowC h1 r bs n ∧ RowN G h h1 r ∧ TL ts (Nr h h1 r) h1 l bs ∧ ∀ b, b ∈ bs → CT h1 b E
section
variable {G : Gh} {d : Nat} {h h1 h2 h3 h' : AH} {ts : List (Nat × Nat × Nat)} {s s1 : St} {D k i q a b t r n : Nat} {N : Nat → Prop} {E : String} {l : List Tr} {bs : List Nat} {x : Tr}
theorem CT.kp (c : CT h b E) (p : KP h h') : CT h' b E := by
  obtain ⟨k, k1, k2, k3⟩ := c
  exact ⟨k, k1, p.hk k2 (by omega), k3⟩
theorem RB.kp (k : RB G h h1 ts E l r bs n) (p : KP h1 h2) : RB G h h2 ts E l r bs n := by
  obtain ⟨k1, k2, k3, k4, k5⟩ := k
  have e77 : fR h2 r 77 = fR h1 r 77 := ((p.2 r (by rw [k2.1]; decide)).2.2.2.2.2 77 (by decide)).2.2
  refine ⟨k1.tr p, k2.kp p, k3.kp k2 p, k4.mv fun a ha hl => ⟨p.2 a hl, ha.1, ha.2.1, by rw [e77]; exact ha.2.2⟩, fun b hb => (k5 b hb).kp p⟩
theorem OT.live {m : Nat} (k : OT ts N h x 0 0 b) : hK h b ≠ 0 ∧ N b := by
  cases x with
  | mulL kk y =>
    unfold OT at k
    obtain ⟨b', k1, k2, k3, k4, -⟩ := k
    rw [ef_lt (by decide)] at k1
    cases k1
    refine ⟨fun e => ?_, k2⟩
    rw [e] at k4
    have : ∀ c, c < 100 → 0 ∉ kc c := by decide +kernel
    by_cases hc : kk.toNat < 100
    · exact this _ hc k4
    · unfold kc at k4
      repeat' rw [if_neg (by omega)] at k4
      cases k4
  | num v => unfold OT at k; rw [ef_lt (by omega)] at k; simp at k
  | add _ _ => unfold OT at k; rw [ef_lt (by omega)] at k; simp at k
  | var _ => unfold OT at k; exact k.elim
  | sub _ _ => unfold OT at k; exact k.elim
  | neg _ => unfold OT at k; exact k.elim
  | mulR _ _ => unfold OT at k; exact k.elim
theorem pat_k1 : ∀ k, k < 56 → (cname k, "LetMill$Pat") ∈ castL → 18 ≤ k ∧ k ≤ 26 := by decide +kernel
theorem exp_k1 : ∀ k, k < 56 → (cname k, "LetMill$Exp") ∈ castL → ¬ (18 ≤ k ∧ k ≤ 26) := by decide +kernel
theorem pat_kind (c : CT h b "LetMill$Pat") : 19 ≤ hK h b ∧ hK h b ≤ 27 := by
  obtain ⟨k, k1, k2, k3⟩ := c
  have := pat_k1 k k1 k3
  omega
theorem exp_kind (c : CT h b "LetMill$Exp") : ¬ (19 ≤ hK h b ∧ hK h b ≤ 27) := by
  obtain ⟨k, k1, k2, k3⟩ := c
  have := exp_k1 k k1 k3
  omega
/-- the reader's own fields are kept by what doesn't name them -/
theorem CS.lm {w : Nat} {ex : Option Nat} (c : CS G h ts D s) (sA : SoA G h') (lm : Lm (gW G) w h h' ex) (hT : Tks G h' ts) (hx : ex ≠ some (gW G 7)) (b5 : w.testBit 115 = false) (b6 : w.testBit 116 = false) (b7 : w.testBit 117 = false) (b8 : w.testBit 118 = false) : CS G h' ts D s := by
  obtain ⟨c1, c2, c3, c4, c5, c6, c7⟩ := c
  have f := (lm.2.2 (gW G 7) (by rw [(c1.at (i := 7) (by decide)).1]; decide)).1 (fun e => hx e.symm)
  exact ⟨sA, hT, c3, ⟨(f 115 b5).1.trans c4.1, c4.2⟩, ⟨(f 116 b6).1.trans c5.1, c5.2⟩, ⟨(f 117 b7).1.trans c6.1, c6.2⟩, ⟨(f 118 b8).1.trans c7.1, c7.2⟩⟩
theorem Tks.uk (s1 : So 1 (gW G) h) (hT : Tks G h ts) (hu : ∀ i, i = 1 ∨ i = 1024 ∨ i = 1025 ∨ i = 1026 ∨ i = 1027 → Uk h h' (gW G i)) : Tks G h' ts := by
  have w1 := (hu 1 (by decide)).2.2.2.2.2 28 (by decide)
  have a1 := hu 1024 (by decide)
  have a2 := hu 1025 (by decide)
  have a3 := hu 1026 (by decide)
  have a4 := hu 1027 (by decide)
  refine ⟨w1.1.trans hT.1, fun i t ht => ?_⟩
  have := hT.2 i t ht
  unfold TokE at this ⊢
  rw [a1.2.2.1, a2.2.2.1, a3.2.2.2.1, a4.2.2.2.1]
  exact this
theorem tk_live (s1 : So 1 (gW G) h) : ∀ i, i = 1 ∨ i = 1024 ∨ i = 1025 ∨ i = 1026 ∨ i = 1027 → hK h (gW G i) ≠ 0 ∧ hK h (gW G i) ≠ 6 ∧ hK h (gW G i) ≠ 1004 := by
  intro i hi
  rcases hi with rfl | rfl | rfl | rfl | rfl
  · rw [s1.1]; decide
  · rw [kw1024 s1]; decide
  · rw [kw1025 s1]; decide
  · rw [kw1026 s1]; decide
  · rw [kw1027 s1]; decide
/-- a new row: q is the object -/
theorem r_row (c : CS G h1 ts D s) (p : KP h h1) (hq : hK h1 q = 0) (hu : un h1 + 38 ≤ UB) : C G mX7_init (d + 1) [.ref q] (nO h1 q 5) (fun o h2 => o = .returned none ∧ RB G h h2 ts E [] q [] 4 ∧ CS G h2 ts D s ∧ un h2 = un h1 + 38 ∧ KP h1 h2 ∧ ∀ arr, fR h2 q 77 = some arr → hK h1 arr = 0) := by
  have c2 := c.nO (c' := 5) hq
  have e5 : (ftab 5).length = 2 := by decide
  refine C.useI (c_rowI (h0 := h1) (by rw [hK_nO, if_pos rfl]) (by rw [fI_nO, if_pos rfl]) hq (KP.rf.nO hq) c2.1 (by rw [un_nO, e5]; omega)) (by decide) ?_
  rintro _ h2 ⟨rfl, p2, rc, rn, u2, uk, sA⟩ lm -
  have hq7 : gW G 7 ≠ q := c.1.nw hq 7 (by decide)
  have hT : Tks G h2 ts := c.2.1.kp (c.1.at (by decide)) p2
  refine ⟨rfl, ⟨p.tr p2, rc, ⟨p.fresh rn.1, fun arr e => ?_⟩, TL.nil, fun b hb => (by cases hb)⟩, ?_, by rw [u2, un_nO, e5], p2, fun arr e => (rn.2 arr e).1⟩
  · obtain ⟨n1, n2, n3⟩ := rn.2 arr e
    exact ⟨p.fresh n1, n2, fun i sp e => ⟨p.fresh (n3 i sp e).1, (n3 i sp e).2⟩⟩
  · exact c2.lm sA lm hT (fun e => hq7 (by cases e; rfl)) (by decide) (by decide) (by decide) (by decide)
/-- one more tree, at b -/
theorem r_addN {U : Nat} (k2 : RB G h h2 ts E l r bs n) (c : CS G h2 ts D s) (otN : OT ts (Nr h h2 r) h2 x 0 0 b) (ct : CT h2 b E) (hn : bs.length < 50000) (hU : un h2 + (12 * bs.length - 6 * n) ≤ U) (hu : U + 29 ≤ UB) :
    C G mX7_add (d + 2) [.ref r, .ref b] h2 (fun o h3 => o = .returned none ∧ CS G h3 ts D s ∧ ∃ n', RB G h h3 ts E (l ++ [x]) r (bs ++ [b]) n' ∧ un h3 + (12 * (bs.length + 1) - 6 * n') ≤ U + 29) := by
  obtain ⟨a1, a2, a3, a4, a5⟩ := id k2
  have hbl : hK h2 b ≠ 0 := (otN.live (m := 0)).1
  refine C.use (c_rowA a2 a3 a1 c.1 hbl hn hU hu) (by decide) ?_
  rintro _ h3 ⟨rfl, p3, ⟨n', rc, hn'⟩, rn, sA, fx⟩ lm -
  obtain ⟨arr, harr⟩ : ∃ arr, fR h2 r 77 = some arr ∧ hK h2 arr = 1004 := by
    obtain ⟨q1, q2, q3, q4, q5, arr, q6, q7, -⟩ := k2.2.1
    exact ⟨arr, q6, q7⟩
  have mvN : ∀ a, Nr h h2 r a → hK h2 a ≠ 0 → Uk h2 h3 a ∧ Nr h h3 r a := by
    intro a ha hl
    refine ⟨fx.2.2.1 a hl ha.2.1 ha.2.2, ha.1, ha.2.1, fun e => ?_⟩
    rcases fx.2.2.2 a e with e | e
    · exact ha.2.2 e
    · exact hl e
  have lv := tk_live (c.1.at (i := 1) (by decide))
  have hT : Tks G h3 ts := by
    refine c.2.1.uk (c.1.at (by decide)) fun i hi => fx.2.2.1 _ (lv i hi).1 (fun e => (lv i hi).2.1 (by rw [e]; exact a2.1)) fun e => ?_
    rw [harr.1] at e
    cases e
    exact (lv i hi).2.2 harr.2
  refine ⟨rfl, c.lm sA lm hT (fun e => (by cases e)) (by decide) (by decide) (by decide) (by decide), n', ⟨p3, rc, rn, (a4.mv mvN).snoc ?_, fun b' hb' => ?_⟩, hn'⟩
  · exact OT.mv mvN x 0 0 b (Or.inl rfl) (fun q => by omega) (fun q => by omega) (fun q => by omega) otN
  · have ctk : ∀ b', CT h2 b' E → (b' ∈ bs ∨ b' = b) → CT h3 b' E := by
      rintro b' ⟨k0, k1, k2', k3⟩ _
      refine ⟨k0, k1, ?_, k3⟩
      by_cases e1 : b' = r
      · rw [e1, fx.2.1, ← e1]; exact k2'
      by_cases e2 : fR h2 r 77 = some b'
      · rw [harr.1] at e2
        cases e2
        have := harr.2
        omega
      · rw [(fx.2.2.1 b' (by omega) e1 e2).1]; exact k2'
    rw [List.mem_append, List.mem_singleton] at hb'
    rcases hb' with hb' | hb'
    · exact ctk b' (a5 b' hb') (Or.inl hb')
    · subst hb'; exact ctk b' ct (Or.inr rfl)
/-- one more tree: read behind h1, at b -/
theorem r_add {U : Nat} (k : RB G h h1 ts E l r bs n) (p : KP h1 h2) (c : CS G h2 ts D s) (ot : OT ts (fun a => hK h1 a = 0) h2 x 0 0 b) (ct : CT h2 b E) (hn : bs.length < 50000) (hU : un h2 + (12 * bs.length - 6 * n) ≤ U) (hu : U + 29 ≤ UB) :
    C G mX7_add (d + 2) [.ref r, .ref b] h2 (fun o h3 => o = .returned none ∧ CS G h3 ts D s ∧ ∃ n', RB G h h3 ts E (l ++ [x]) r (bs ++ [b]) n' ∧ un h3 + (12 * (bs.length + 1) - 6 * n') ≤ U + 29) := by
  have hr1 : hK h1 r ≠ 0 := by rw [k.2.1.1]; decide
  have e77 : fR h2 r 77 = fR h1 r 77 := ((p.2 r hr1).2.2.2.2.2 77 (by decide)).2.2
  obtain ⟨arr, harr⟩ : ∃ arr, fR h1 r 77 = some arr ∧ hK h1 arr = 1004 := by
    obtain ⟨q1, q2, q3, q4, q5, arr, q6, q7, -⟩ := k.2.1
    exact ⟨arr, q6, q7⟩
  refine r_addN (k.kp p) c (ot.wk fun a ha => ⟨k.1.fresh ha, fun e => hr1 (by rw [← e]; exact ha), fun e => ?_⟩) ct hn hU hu
  rw [e77, harr.1] at e
  cases e
  rw [harr.2] at ha
  cases ha
/-- a tree that was there before the row -/
theorem ot_nr (p : KP h1 h2) (hr : hK h1 r = 0) (ha : ∀ arr, fR h2 r 77 = some arr → hK h1 arr = 0) (ot : OT ts (fun a => hK h a = 0) h1 x 0 0 b) : OT ts (Nr h h2 r) h2 x 0 0 b :=
  OT.mv (fun a hN hl => ⟨p.2 a hl, hN, fun e => hl (by rw [e]; exact hr), fun e => hl (ha a e)⟩) x 0 0 b (Or.inl rfl) (fun q => by omega) (fun q => by omega) (fun q => by omega) ot
/-- trees of a row, once no more is added -/
theorem RB.tl (k : RB G h h1 ts E l r bs n) (p : ∀ a, Nr h h1 r a → hK h1 a ≠ 0 → Uk h1 h2 a) : TL ts (fun a => hK h a = 0) h2 l bs := k.2.2.2.1.mv fun a ha hl => ⟨p a ha hl, ha.1⟩
theorem RB.nn (k : RB G h h1 ts E l r bs n) : hK h r = 0 ∧ ∀ arr, fR h1 r 77 = some arr → hK h arr = 0 ∧ ∀ i sp, aR h1 arr i = some sp → hK h sp = 0 ∧ hK h1 sp = 7 := by
  obtain ⟨k1, k2, k3, k4, k5⟩ := k
  exact ⟨k3.1, fun arr e => ⟨(k3.2 arr e).1, (k3.2 arr e).2.2⟩⟩
end
