/-! THE LAW OF THE READERS: all its trees have their forms and lie in their places -/
section
variable {α β : Type} {K V : Nat → Nat} {s : St} {d c t lo hi m n k mx l : Nat} {x y : Tr} {Sh : Tr → Prop} {P : Nat → Nat → St → Except Nat (Tr × St)}
theorem Ok_sub (hP : PH K V P n) : OkI (shE V (2 * n + 800) 0) K s (pSub P l d s) := by
  unfold pSub
  split
  · exact hP.e (d := d) (Or.inr (by decide)) s
  · exact hP.e (d := d) (Or.inr (by omega)) s
theorem Ok_opd (hP : PH K V P n) : OkI (fun x => ∃ p : Nat × Tr, x = opx p ∧ shE V (2 * n + 800) 0 p.2) K s (pOpd K P l d s) := by
  unfold pOpd
  refine Ok.bd Ok_take fun g s1 h1 => Ok.bd (Ok_sub hP) fun r s2 h2 => ?_
  exact Ok.i ⟨by omega, ⟨(K g, r), rfl, h2.2.1⟩, wf_add (m := s1.1) (by omega) (by omega) wf_num h2.2.2⟩
theorem opx_ls : ∀ l : List Tr, (∀ x, x ∈ l → ∃ p : Nat × Tr, x = opx p ∧ Sh p.2) → ∃ ps : List (Nat × Tr), l = ps.map opx ∧ ∀ p, p ∈ ps → Sh p.2 := by
  intro l
  induction l with
  | nil => intro _; exact ⟨[], rfl, fun p hp => (by cases hp)⟩
  | cons a l ih =>
    intro h
    obtain ⟨ps, e, hp⟩ := ih fun x hx => h x (List.mem_cons_of_mem _ hx)
    obtain ⟨p, e2, h2⟩ := h a (List.mem_cons_self ..)
    refine ⟨p :: ps, by rw [List.map_cons, e, e2], fun p' hp' => ?_⟩
    rcases List.mem_cons.mp hp' with rfl | hp'
    · exact h2
    · exact hp p' hp'
theorem Ok_level (hP : PH K V P n) : OkI (shE V (2 * n + 802) 0) K s (pLevel K P l d s) := by
  unfold pLevel
  refine Ok.bd (Ok_sub hP) fun e s1 h1 => ?_
  split
  · exact Ok.i ⟨h1.1, shE_mono _ _ _ h1.2.1 _ (by omega), h1.2.2⟩
  split
  · refine Ok.bd Ok_take fun g s2 h2 => Ok.bd (hP.e (d := d + 1) (Or.inr (by decide)) s2) fun r s3 h3 => ?_
    have hw : wf K (.add e r) s.1 s3.1 := wf_add (m := s1.1) (by omega) (by omega) h1.2.2 (wf.mono _ _ _ _ _ h3.2.2 (by omega) (Nat.le_refl _))
    have hsh : ∀ k : Nat, (k = 17 ∨ k = 18) → shE V (2 * n + 802) 0 (n2 k s.1 e r) := fun k hk => by
      unfold shE
      rw [if_pos rfl]
      exact Or.inr (Or.inr (Or.inr (Or.inr (Or.inr (Or.inr (Or.inr (Or.inr (Or.inr (Or.inl ⟨k, s.1, e, r, hk, rfl, shE_mono _ _ _ h1.2.1 _ (by omega), shE_mono _ _ _ h3.2.1 _ (by omega)⟩)))))))))
    refine Ok.i ⟨by omega, ?_, ?_⟩
    · split
      · exact hsh 17 (Or.inl rfl)
      · exact hsh 18 (Or.inr rfl)
    · split
      · exact wf_mk (by decide) (fun z => absurd z (by decide)) (Nat.le_refl _) (by omega) (kd0 (by decide)) hw
      · exact wf_mk (by decide) (fun z => absurd z (by decide)) (Nat.le_refl _) (by omega) (kd0 (by decide)) hw
  · refine Ok.bd (Ok_while (fun s => Ok_opd (l := l) (d := d) (s := s) hP) FU s1) fun r s2 h2 => ?_
    obtain ⟨ps, e2, hp⟩ := opx_ls r h2.2.1
    refine Ok.i ⟨by omega, ?_, wf_mk (y := .add e (ls r)) (by decide) (fun z => absurd z (by decide)) (Nat.le_refl _) (by omega) (kd0 (by decide)) (wf_add (m := s1.1) (by omega) (by omega) h1.2.2 h2.2.2)⟩
    unfold shE
    rw [if_pos rfl]
    exact Or.inr (Or.inr (Or.inr (Or.inr (Or.inr (Or.inr (Or.inr (Or.inr (Or.inl ⟨s.1, e, ps, by rw [← e2], shE_mono _ _ _ h1.2.1 _ (by omega), fun p hp' => shE_mono _ _ _ (hp p hp') _ (by omega)⟩))))))))
theorem Ok_app (hP : PH K V P n) : OkI (shE V (2 * n + 802) 0) K s (pApp K P d s) := by
  unfold pApp
  refine Ok.bd (hP.e (d := d) (Or.inr (by decide)) s) fun e s1 h1 => ?_
  split
  · exact Ok.i ⟨h1.1, shE_mono _ _ _ h1.2.1 _ (by omega), h1.2.2⟩
  · refine Ok.bd (Ok_while (hP.e (d := d) (Or.inr (by decide))) FU s1) fun r s2 h2 => ?_
    refine Ok.i ⟨by omega, ?_, wf_mk (y := .add e (ls r)) (by decide) (fun z => absurd z (by decide)) (Nat.le_refl _) (by omega) (kd0 (by decide)) (wf_add (m := s1.1) (by omega) (by omega) h1.2.2 h2.2.2)⟩
    unfold shE
    rw [if_pos rfl]
    exact Or.inr (Or.inr (Or.inr (Or.inr (Or.inr (Or.inr (Or.inr (Or.inl ⟨s.1, e, r, rfl, shE_mono _ _ _ h1.2.1 _ (by omega), fun y hy => shE_mono _ _ _ (h2.2.1 y hy) _ (by omega)⟩)))))))
theorem Ok_same {g : Nat} : Ok (fun _ s' => s.1 ≤ s'.1) (pSame K g d s) := by
  unfold pSame
  split
  · exact Ok.bd Ok_take fun y s' h => Ok.i (by omega)
  · exact Nat.le_refl _
/-- lists of expressions -/
theorem ex_ls {k : Nat} {l : List Tr} (hk : k = 8 ∨ k = 9 ∨ k = 10) (hl : ∀ y, y ∈ l → shE V m 0 y) (hw : wf K (ls l) t hi) (ht : t < hi) : shE V (m + 1) 0 (n1 k t (ls l)) ∧ wf K (n1 k t (ls l)) t hi := by
  refine ⟨?_, wf_mk (by omega) (fun z => by omega) (Nat.le_refl _) ht (kd0 (by omega)) hw⟩
  unfold shE
  rw [if_pos rfl]
  exact Or.inr (Or.inr (Or.inl ⟨k, t, l, hk, rfl, hl⟩))
theorem Ok_round (hP : PH K V P n) (ht : t + 1 = s.1) : Ok (fun x s' => t < s'.1 ∧ shE V (2 * n + 802) 0 x ∧ wf K x t s'.1) (pRound K P t d s) := by
  unfold pRound
  split
  · refine Ok.bd Ok_take fun _ s1 h1 => ?_
    refine Ok.i ⟨by omega, ?_, wf_mk0 (Nat.le_refl _) (by omega) (kd0 (by decide))⟩
    unfold shE
    rw [if_pos rfl]
    exact Or.inr (Or.inl ⟨5, t, Or.inl rfl, rfl⟩)
  · refine Ok.bd (hP.e (d := d + 1) (Or.inl rfl) s) fun e s1 h1 => Ok.bd (Ok_more (sk := pSame K (K s1.1) (d + 1)) (fun s => Ok_same) (hP.e (d := d + 1) (Or.inl rfl)) FU 1 s1) fun r s2 h2 => Ok.bd Ok_expect fun _ s3 h3 => ?_
    have hl : ∀ y, y ∈ e :: r → shE V (2 * n + 800) 0 y := fun y hy => by
      rcases List.mem_cons.mp hy with rfl | hy
      · exact h1.2.1
      · exact h2.2.1 y hy
    have hw : wf K (ls (e :: r)) t s3.1 := wf_cons (m := s1.1) (by omega) (by omega) (wf.mono _ _ _ _ _ h1.2.2 (by omega) (Nat.le_refl _)) (wf.mono _ _ _ _ _ h2.2.2 (Nat.le_refl _) (by omega))
    cases r with
    | nil =>
      refine Ok.i ⟨by omega, ?_, wf_mk (by decide) (fun z => absurd z (by decide)) (Nat.le_refl _) (by omega) (kd0 (by decide)) (wf.mono _ _ _ _ _ h1.2.2 (by omega) (by omega))⟩
      show shE V (2 * n + 802) 0 (n1 19 t e)
      unfold shE
      rw [if_pos rfl]
      exact Or.inr (Or.inr (Or.inr (Or.inr (Or.inr (Or.inr (Or.inr (Or.inr (Or.inr (Or.inr ⟨t, e, rfl, shE_mono _ _ _ h1.2.1 _ (by omega)⟩)))))))))
    | cons b r =>
      have h8 := ex_ls (k := 8) (Or.inl rfl) hl hw (by omega)
      have h9 := ex_ls (k := 9) (Or.inr (Or.inl rfl)) hl hw (by omega)
      refine Ok.i ⟨by omega, ?_, ?_⟩
      · show shE V (2 * n + 802) 0 (n1 (if K s1.1 = 44 then 8 else 9) t (ls (e :: b :: r)))
        split
        · exact shE_mono _ _ _ h8.1 _ (by omega)
        · exact shE_mono _ _ _ h9.1 _ (by omega)
      · show wf K (n1 (if K s1.1 = 44 then 8 else 9) t (ls (e :: b :: r))) t s3.1
        split
        · exact h8.2
        · exact h9.2
theorem Ok_list (hP : PH K V P n) (ht : t + 1 = s.1) : Ok (fun x s' => t < s'.1 ∧ shE V (2 * n + 802) 0 x ∧ wf K x t s'.1) (pList K P t d s) := by
  unfold pList
  split
  · refine Ok.bd Ok_take fun _ s1 h1 => ?_
    have h := ex_ls (K := K) (V := V) (k := 10) (m := 2 * n + 800) (t := t) (hi := s1.1) (l := []) (Or.inr (Or.inr rfl)) (fun y hy => (by cases hy)) wf_nil (by omega)
    exact Ok.i ⟨by omega, shE_mono _ _ _ h.1 _ (by omega), h.2⟩
  · refine Ok.bd (Ok_sep (hP.e (d := d + 1) (Or.inl rfl)) s) fun l s1 h1 => Ok.bd Ok_expect fun _ s2 h2 => ?_
    have h := ex_ls (k := 10) (t := t) (hi := s2.1) (Or.inr (Or.inr rfl)) h1.2.2.1 (wf.mono _ _ _ _ _ h1.2.2.2 (by omega) (by omega)) (by omega)
    exact Ok.i ⟨by omega, shE_mono _ _ _ h.1 _ (by omega), h.2⟩
theorem Ok_let (hP : PH K V P n) (ht : t + 1 = s.1) : Ok (fun x s' => t < s'.1 ∧ shE V (2 * n + 802) 0 x ∧ wf K x t s'.1) (pLet K P t d s) := by
  unfold pLet
  refine Ok.bd (Ok_while (fun s => Ok_decS (d := d + 1) (s := s) hP) FU s) fun ds s0 h0 => Ok.bd Ok_expect fun _ s1 h1 => Ok.bd (Ok_sep (hP.e (d := d + 1) (Or.inl rfl)) s1) fun l s2 h2 => Ok.bd Ok_expect fun _ s3 h3 => ?_
  have fin : ∀ e, shE V (2 * n + 801) 0 e → wf K e s1.1 s2.1 → Ok (fun x s' => t < s'.1 ∧ shE V (2 * n + 802) 0 x ∧ wf K x t s'.1) (.ok (n2 11 t (ls ds) e, s3)) := by
    intro e he hw
    refine Ok.i ⟨by omega, ?_, wf_mk (y := .add (ls ds) e) (by decide) (fun z => absurd z (by decide)) (Nat.le_refl _) (by omega) (kd0 (by decide)) (wf_add (m := s0.1) (by omega) (by omega) (wf.mono _ _ _ _ _ h0.2.2 (by omega) (Nat.le_refl _)) (wf.mono _ _ _ _ _ hw (by omega) (by omega)))⟩
    unfold shE
    rw [if_pos rfl]
    exact Or.inr (Or.inr (Or.inr (Or.inl ⟨t, ds, e, rfl, fun y hy => shE_mono _ _ _ (h0.2.1 y hy) _ (by omega), he⟩)))
  obtain ⟨g1, ⟨a, r, -, rfl, -⟩, g2, g3⟩ := h2
  cases r with
  | nil => exact fin a (shE_mono _ _ _ (g2 a (List.mem_cons_self ..)) _ (by omega)) (wf_mem [a] _ _ g3 a (List.mem_cons_self ..))
  | cons b r =>
    have h9 := ex_ls (k := 9) (Or.inr (Or.inl rfl)) g2 g3 g1
    exact fin _ h9.1 h9.2
theorem Ok_atom (hP : PH K V P n) : OkI (shE V (2 * n + 802) 0) K s (pAtom K V P d s) := by
  unfold pAtom
  split
  · trivial
  · refine Ok.bd Ok_take fun t s1 ⟨e1, e2, _⟩ => ?_
    have leaf : ∀ (k : Nat) (v : Int), (k = 1 ∨ k = 2 ∨ k = 3 ∨ k = 4) → kdOK K k (.add (.num t) (.num v)) → OkI (shE V (2 * n + 802) 0) K s (.ok (n1 k t (.num v), s1)) := fun k v hk kd => by
      refine Ok.i ⟨by omega, ?_, wf_mk (by omega) (fun z => by omega) (by omega) (by omega) kd wf_num⟩
      unfold shE
      rw [if_pos rfl]
      exact Or.inl ⟨k, t, v, hk, rfl⟩
    have leaf0 : ∀ k : Nat, (k = 5 ∨ k = 6 ∨ k = 7) → OkI (shE V (2 * n + 802) 0) K s (.ok (n0 k t, s1)) := fun k hk => by
      refine Ok.i ⟨by omega, ?_, wf_mk0 (by omega) (by omega) (kd0 (by omega))⟩
      unfold shE
      rw [if_pos rfl]
      exact Or.inr (Or.inl ⟨k, t, hk, rfl⟩)
    have sub : ∀ r, Ok (fun x s' => t < s'.1 ∧ shE V (2 * n + 802) 0 x ∧ wf K x t s'.1) r → OkI (shE V (2 * n + 802) 0) K s r := fun r h => h.mono fun x s' h => by rw [e1] at h; exact h
    split
    · next z => exact leaf 1 _ (by decide) (kd1 z (by decide))
    split
    · next z => exact leaf 2 _ (by decide) (kd2 z (by decide))
    split
    · exact leaf 3 _ (by decide) (kd0 (by decide))
    split
    · exact leaf 4 _ (by decide) (kd0 (by decide))
    split
    · exact leaf 4 _ (by decide) (kd0 (by decide))
    split
    · exact leaf0 6 (by decide)
    split
    · exact leaf0 7 (by decide)
    split
    · exact sub _ (Ok_let hP (by omega))
    split
    · exact sub _ (Ok_round hP (by omega))
    · exact sub _ (Ok_list hP (by omega))
/-- ALL TREES that are read have their forms and lie in their places -/
theorem all_form (hV : ∀ t, K t = 280 → V t ≠ 0) : ∀ n, PH K V (pAll K V n) n := by
  intro n
  induction n with
  | zero => intro g d s; trivial
  | succ n ih =>
    intro g d s
    unfold pAll ShG
    rw [show 2 * (n + 1) = 2 * n + 2 by omega, show 2 * n + 2 + 800 = 2 * n + 802 by omega]
    by_cases g0 : g = 0
    · subst g0
      exact Ok_exp ih
    by_cases g1 : g = 1
    · subst g1
      exact Ok_pat ih
    by_cases g2 : g = 2
    · subst g2
      exact (Ok_atPat ih).mono fun x s' h => ⟨h.1, shP_mono _ _ h.2.1 _ (by omega), h.2.2⟩
    by_cases g3 : g = 3
    · subst g3
      exact Ok_ty ih
    by_cases g4 : g = 4
    · subst g4
      exact Ok_prod ih
    by_cases g5 : g = 5
    · subst g5
      exact Ok_appl ih
    by_cases g6 : g = 6
    · subst g6
      exact Ok_dec hV ih
    refine Ok.mono (Q := fun x s' => s.1 < s'.1 ∧ shE V (2 * n + 802) 0 x ∧ wf K x s.1 s'.1) ?_ fun x s' h => ⟨h.1, by rw [if_neg (by omega), if_neg g3, if_neg g4, if_neg g5, if_neg g6]; exact h.2.1, h.2.2⟩
    rw [if_neg g0, if_neg g1, if_neg g2, if_neg g3, if_neg g4, if_neg g5, if_neg g6]
    by_cases g7 : g = 7
    · rw [if_pos g7]
      exact Ok_app ih
    rw [if_neg g7]
    by_cases g8 : g = 8
    · rw [if_pos g8]
      exact Ok_atom ih
    rw [if_neg g8]
    exact Ok_level ih
/-- the declarations of a text -/
theorem text_form (hV : ∀ t, K t = 280 → V t ≠ 0) (n : Nat) : Ok (fun l s' => s.1 ≤ s'.1 ∧ (∀ x, x ∈ l → shE V (2 * n + 800) 2 x) ∧ wf K (ls l) s.1 s'.1) (pText K V n s) := by
  unfold pText
  refine Ok.bd (Ok_while (fun s => Ok_decS (d := 0) (s := s) (all_form hV n)) FU s) fun l s1 h1 => ?_
  split
  · trivial
  · exact Ok.i h1
end
