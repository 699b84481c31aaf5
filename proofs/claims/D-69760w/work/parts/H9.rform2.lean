/-! THE LAW OF THE READERS: forms of patterns and types -/
def ShG (V : Nat → Nat) (n g d : Nat) (x : Tr) : Prop := if g = 1 ∨ g = 2 then shP (2 * n) x else if g = 3 then shT (25 * (31 - d)) x else if g = 4 then shT (25 * (31 - d) - 1) x else if g = 5 then shT (25 * (31 - d) - 2) x else if g = 6 then shE V (2 * n + 800) 2 x else shE V (2 * n + 800) 0 x
def PH (K V : Nat → Nat) (P : Nat → Nat → St → Except Nat (Tr × St)) (n : Nat) : Prop := ∀ g d, It (ShG V n g d) K (P g d)
section
variable {α β : Type} {K V : Nat → Nat} {s : St} {d c t lo hi m n k mx : Nat} {x y : Tr} {Sh : Tr → Prop} {P : Nat → Nat → St → Except Nat (Tr × St)}
theorem PH.p1 (h : PH K V P n) : It (shP (2 * n)) K (P 1 d) := h 1 d
theorem PH.p2 (h : PH K V P n) : It (shP (2 * n)) K (P 2 d) := h 2 d
theorem PH.p3 (h : PH K V P n) : It (shT (25 * (31 - d))) K (P 3 d) := h 3 d
theorem PH.p4 (h : PH K V P n) : It (shT (25 * (31 - d) - 1)) K (P 4 d) := h 4 d
theorem PH.p5 (h : PH K V P n) : It (shT (25 * (31 - d) - 2)) K (P 5 d) := h 5 d
theorem PH.p6 (h : PH K V P n) : It (shE V (2 * n + 800) 2) K (P 6 d) := h 6 d
theorem PH.e (h : PH K V P n) {g : Nat} (hg : g = 0 ∨ 6 < g) : It (shE V (2 * n + 800) 0) K (P g d) := by
  intro s
  refine (h g d s).mono fun x s' hx => ⟨hx.1, ?_, hx.2.2⟩
  have := hx.2.1
  unfold ShG at this
  rw [if_neg (by omega), if_neg (by omega), if_neg (by omega), if_neg (by omega), if_neg (by omega)] at this
  exact this
theorem kd1 {k : Int} (h : K t = 280) (hk : k = 1 ∨ k = 32 ∨ k = 54 ∨ k = 50) : kdOK K k (.add (.num t) y) := ⟨fun _ => h, fun z => by omega, fun z => by omega, fun z => by omega⟩
theorem kd2 {k : Int} (h : K t = 281) (hk : k = 2 ∨ k = 33 ∨ k = 56) : kdOK K k (.add (.num t) y) := ⟨fun z => by rcases z with z | z | z | z | z | ⟨z, -⟩ <;> omega, fun _ => h, fun z => by omega, fun z => by omega⟩
theorem kd57 (h : K t = 282) : kdOK K 57 (.add (.num t) y) := ⟨fun z => by rcases z with z | z | z | z | z | ⟨z, -⟩ <;> exact absurd z (by decide), fun z => by rcases z with z | z | z <;> exact absurd z (by decide), fun _ => h, fun z => absurd z (by decide)⟩
theorem Ok.i {P : β → St → Prop} {x : β} {s' : St} (h : P x s') : Ok P (.ok (x, s')) := h
/-- what the readers of a piece give -/
abbrev OkI (Sh : Tr → Prop) (K : Nat → Nat) (s : St) (r : Except Nat (Tr × St)) : Prop := Ok (fun x s' => s.1 < s'.1 ∧ Sh x ∧ wf K x s.1 s'.1) r
theorem mk_brack {b : Bool} {l : List Tr} (hl : ∀ x, x ∈ l → shP m x) (hw : wf K (ls l) t hi) (ht : t < hi) : shP (m + 1) (mkBrack b t l) ∧ wf K (mkBrack b t l) t hi := by
  have h38 : shP (m + 1) (n1 38 t (ls l)) ∧ wf K (n1 38 t (ls l)) t hi := ⟨by unfold shP; exact Or.inr (Or.inr (Or.inr (Or.inr (Or.inr (Or.inr (Or.inr (Or.inl ⟨t, l, rfl, hl⟩))))))), wf_mk (by decide) (fun z => absurd z (by decide)) (Nat.le_refl _) ht (kd0 (by decide)) hw⟩
  have h37 : shP (m + 1) (n1 37 t (ls l)) ∧ wf K (n1 37 t (ls l)) t hi := ⟨by unfold shP; exact Or.inr (Or.inr (Or.inr (Or.inr (Or.inr (Or.inr (Or.inl ⟨t, l, rfl, hl⟩)))))), wf_mk (by decide) (fun z => absurd z (by decide)) (Nat.le_refl _) ht (kd0 (by decide)) hw⟩
  match l, hl, hw, h38, h37 with
  | [], hl, hw, h38, h37 =>
    cases b with
    | true =>
      show shP (m + 1) (n0 36 t) ∧ wf K (n0 36 t) t hi
      exact ⟨by unfold shP; exact Or.inr (Or.inl ⟨t, rfl⟩), wf_mk0 (Nat.le_refl _) ht (kd0 (by decide))⟩
    | false => exact h38
  | [a], hl, hw, h38, h37 =>
    cases b with
    | true =>
      show shP (m + 1) (n1 19 t a) ∧ wf K (n1 19 t a) t hi
      exact ⟨by unfold shP; exact Or.inr (Or.inr (Or.inr (Or.inr (Or.inr (Or.inr (Or.inr (Or.inr (Or.inr ⟨t, a, rfl, hl a (List.mem_cons_self ..)⟩)))))))), wf_mk (by decide) (fun z => absurd z (by decide)) (Nat.le_refl _) ht (kd0 (by decide)) (wf_mem [a] _ _ hw a (List.mem_cons_self ..))⟩
    | false => exact h38
  | a :: b' :: r, hl, hw, h38, h37 =>
    cases b with
    | true => exact h37
    | false => exact h38
theorem Ok_comma : Ok (fun _ s' => s.1 ≤ s'.1) (pCommaP K d s) := by
  unfold pCommaP
  split
  · exact Ok.bd Ok_takeP fun y s' h => show s.1 ≤ s'.1 by omega
  · exact Nat.le_refl _
theorem Ok_close {cl : Nat} : Ok (fun _ s' => s.1 < s'.1) (pClose K cl d s) := by
  unfold pClose
  split
  · exact Ok_takeP.mono fun y s' h => by omega
  · trivial
theorem Ok_brack (hP : PH K V P n) (ht : t + 1 = s.1) : Ok (fun x s' => t < s'.1 ∧ shP (2 * n + 1) x ∧ wf K x t s'.1) (pBrack K P t d s) := by
  unfold pBrack
  by_cases hK : K s.1 = (if K t = 40 then 41 else 93)
  · rw [if_pos hK]
    refine Ok.bd Ok_takeP fun y s' h => ?_
    have := mk_brack (K := K) (m := 2 * n) (b := K t == 40) (t := t) (l := []) (hi := s'.1) (fun x hx => (by cases hx)) wf_nil (by omega)
    exact Ok.i ⟨show t < s'.1 by omega, this.1, this.2⟩
  · rw [if_neg hK]
    refine Ok.bd (hP.p1 (d := d + 1) s) fun a s1 h1 => Ok.bd (Ok_more (sk := pCommaP K (d + 1)) (fun s => Ok_comma) (hP.p1 (d := d + 1)) FU 1 s1) fun r s2 h2 => Ok.bd (Q := fun _ s' => s2.1 < s'.1) ?_ fun y s3 h3 => ?_
    · exact Ok_close
    · have := mk_brack (K := K) (m := 2 * n) (b := K t == 40) (t := t) (l := a :: r) (hi := s3.1) (fun x hx => by
        rcases List.mem_cons.mp hx with rfl | hx
        · exact h1.2.1
        · exact h2.2.1 x hx) (wf_cons (m := s1.1) (by omega) (by omega) (wf.mono _ _ _ _ _ h1.2.2 (by omega) (Nat.le_refl _)) (wf.mono _ _ _ _ _ h2.2.2 (Nat.le_refl _) (by omega))) (by omega)
      exact Ok.i ⟨show t < s3.1 by omega, this.1, this.2⟩
theorem Ok_atPat (hP : PH K V P n) : OkI (shP (2 * n + 1)) K s (pAtPat K V P d s) := by
  unfold pAtPat
  split
  · trivial
  · refine Ok.bd Ok_takeP fun t s1 ⟨e1, e2, _⟩ => ?_
    have hlt : s.1 < s1.1 := by omega
    have hw : ∀ (k : Int) (y : Tr), k ≠ 33 ∧ k ≠ 56 ∧ k ≠ 53 ∧ k ≠ 58 → (k = 50 → False) → kdOK K k (.add (.num t) y) → ∀ hi, t < hi → wf K y s.1 hi → wf K (n1 k t y) s.1 hi := fun k y h1 h2 h3 hi h4 h5 => wf_mk h1 (fun z => (h2 z).elim) (by omega) h4 h3 h5
    split
    · next z => exact Ok.i ⟨hlt, by unfold shP; exact Or.inr (Or.inr (Or.inl ⟨t, _, rfl⟩)), hw 32 _ (by decide) (by decide) (kd1 z (by decide)) _ (by omega) wf_num⟩
    split
    · next z => exact Ok.i ⟨hlt, by unfold shP; exact Or.inr (Or.inr (Or.inr (Or.inr (Or.inr (Or.inl ⟨t, _, _, rfl, Or.inl rfl⟩))))), wf_mk2 (Or.inl rfl) (by omega) (by omega) (kd2 z (by decide)) (wf_add (Nat.le_refl _) (by omega) wf_num wf_num)⟩
    split
    · exact Ok.i ⟨hlt, by unfold shP; exact Or.inr (Or.inr (Or.inr (Or.inl ⟨t, _, rfl⟩))), hw 34 _ (by decide) (by decide) (kd0 (by decide)) _ (by omega) wf_num⟩
    split
    · exact Ok.i ⟨hlt, by unfold shP; exact Or.inl ⟨t, rfl⟩, wf_mk0 (by omega) (by omega) (kd0 (by decide))⟩
    split
    · split
      · trivial
      · refine Ok.bd Ok_takeP fun v s2 h2 => ?_
        exact Ok.i ⟨show s.1 < s2.1 by omega, by unfold shP; exact Or.inr (Or.inr (Or.inr (Or.inl ⟨t, _, rfl⟩))), hw 34 _ (by decide) (by decide) (kd0 (by decide)) _ (by omega) wf_num⟩
    split
    · exact Ok.i ⟨hlt, by unfold shP; exact Or.inr (Or.inr (Or.inr (Or.inr (Or.inl ⟨t, _, rfl⟩)))), hw 35 _ (by decide) (by decide) (kd0 (by decide)) _ (by omega) wf_num⟩
    split
    · exact Ok.i ⟨hlt, by unfold shP; exact Or.inr (Or.inr (Or.inr (Or.inr (Or.inl ⟨t, _, rfl⟩)))), hw 35 _ (by decide) (by decide) (kd0 (by decide)) _ (by omega) wf_num⟩
    · refine (Ok_brack hP (by omega)).mono fun x s' h => ?_
      rw [e1] at h
      exact h
theorem Ok_aPat (hP : PH K V P n) : OkI (shP (2 * n + 1)) K s (pAPat K V P d s) := by
  unfold pAPat
  split
  · next z =>
    refine Ok.bd Ok_takeP fun t s1 ⟨e1, e2, _⟩ => ?_
    have h281 : K t = 281 := by rw [e1]; exact z
    split
    · refine Ok.bd (hP.p2 (d := d) s1) fun a s2 h2 => ?_
      exact Ok.i ⟨show s.1 < s2.1 by omega, by unfold shP; exact Or.inr (Or.inr (Or.inr (Or.inr (Or.inr (Or.inl ⟨t, _, _, rfl, Or.inr h2.2.1⟩))))), wf_mk2 (Or.inl rfl) (by omega) (by omega) (kd2 h281 (by decide)) (wf_add (Nat.le_refl _) (by omega) wf_num (wf.mono _ _ _ _ _ h2.2.2 (by omega) (Nat.le_refl _)))⟩
    · exact Ok.i ⟨show s.1 < s1.1 by omega, by unfold shP; exact Or.inr (Or.inr (Or.inr (Or.inr (Or.inr (Or.inl ⟨t, _, _, rfl, Or.inl rfl⟩))))), wf_mk2 (Or.inl rfl) (by omega) (by omega) (kd2 h281 (by decide)) (wf_add (Nat.le_refl _) (by omega) wf_num wf_num)⟩
  · exact (hP.p2 (d := d) s).mono fun x s' h => ⟨h.1, shP_mono _ _ h.2.1 _ (by omega), h.2.2⟩
theorem Ok_pat (hP : PH K V P n) : OkI (shP (2 * n + 2)) K s (pPat K V P d s) := by
  unfold pPat
  refine Ok.bd (Ok_aPat (d := d) hP) fun p s1 h1 => ?_
  split
  · exact Ok.i ⟨h1.1, shP_mono _ _ h1.2.1 _ (by omega), h1.2.2⟩
  · refine Ok.bd Ok_takeP fun _ s2 h2 => Ok.bd (hP.p1 (d := d + 1) s2) fun q s3 h3 => ?_
    exact Ok.i ⟨show s.1 < s3.1 by omega, by unfold shP; exact Or.inr (Or.inr (Or.inr (Or.inr (Or.inr (Or.inr (Or.inr (Or.inr (Or.inl ⟨s.1, p, q, rfl, h1.2.1, shP_mono _ _ h3.2.1 _ (by omega)⟩)))))))), wf_mk (y := .add p q) (by decide) (fun z => absurd z (by decide)) (Nat.le_refl _) (by omega) (kd0 (by decide)) (wf_add (m := s1.1) (by omega) (by omega) h1.2.2 (wf.mono _ _ _ _ _ h3.2.2 (by omega) (Nat.le_refl _)))⟩
theorem Ok_ty (hP : PH K V P n) : OkI (shT (25 * (31 - d))) K s (pTy K P d s) := by
  unfold pTy
  refine Ok.bd (hP.p4 (d := d) s) fun a s1 h1 => Ok.bd Ok_skip fun b s2 h2 => ?_
  rcases h2 with ⟨rfl, rfl⟩ | ⟨rfl, e2, hd⟩
  · exact Ok.i ⟨h1.1, shT_mono _ _ h1.2.1 _ (by omega), h1.2.2⟩
  · rw [if_neg (by decide)]
    refine Ok.bd (hP.p3 (d := d + 1) s2) fun c s3 h3 => ?_
    refine Ok.i ⟨show s.1 < s3.1 by omega, ?_, wf_mk (y := .add a c) (by decide) (fun z => absurd z (by decide)) (Nat.le_refl _) (by omega) (kd0 (by decide)) (wf_add (m := s1.1) (by omega) (by omega) h1.2.2 (wf.mono _ _ _ _ _ h3.2.2 (by omega) (Nat.le_refl _)))⟩
    rw [show 25 * (31 - d) = (25 * (31 - d) - 1) + 1 by omega]
    unfold shT
    exact Or.inr (Or.inr (Or.inl ⟨s.1, a, c, rfl, h1.2.1, shT_mono _ _ h3.2.1 _ (by omega)⟩))
theorem Ok_prod (hP : PH K V P n) : OkI (shT (25 * (31 - d) - 1)) K s (pProd K P d s) := by
  unfold pProd
  refine Ok.bd (Ok_sep (hP.p5 (d := d)) s) fun l s1 h1 => ?_
  obtain ⟨h1, ⟨a, r, -, rfl, -⟩, h2, h3⟩ := h1
  have hd : d ≤ 30 := by
    refine Classical.byContradiction fun hn => ?_
    have := h2 a (List.mem_cons_self ..)
    rw [show 25 * (31 - d) - 2 = 0 by omega] at this
    exact this
  have big : shT (25 * (31 - d) - 1) (n1 60 s.1 (ls (a :: r))) ∧ wf K (n1 60 s.1 (ls (a :: r))) s.1 s1.1 := by
    refine ⟨?_, wf_mk (by decide) (fun z => absurd z (by decide)) (Nat.le_refl _) h1 (kd0 (by decide)) h3⟩
    rw [show 25 * (31 - d) - 1 = (25 * (31 - d) - 2) + 1 by omega]
    unfold shT
    exact Or.inr (Or.inr (Or.inr ⟨s.1, _, rfl, h2⟩))
  cases r with
  | nil => exact Ok.i ⟨h1, shT_mono _ _ (h2 a (List.mem_cons_self ..)) _ (by omega), wf_mem [a] _ _ h3 a (List.mem_cons_self ..)⟩
  | cons b r => exact Ok.i ⟨h1, big⟩
theorem Ok_names : ∀ f n x (s : St), shT m x → wf K x lo s.1 → lo < s.1 → Ok (fun y s' => lo < s'.1 ∧ shT (m + f) y ∧ wf K y lo s'.1) (pNames K V f n d x s) := by
  intro f
  induction f generalizing m with
  | zero => intro n x s _ _ _; trivial
  | succ f ih =>
    intro n x s h1 h2 h3
    unfold pNames
    split
    · next z =>
      split
      · trivial
      · refine Ok.bd Ok_take fun t s1 ⟨e1, e2, _⟩ => ?_
        have h280 : K t = 280 := by rw [e1]; exact z
        have := ih (m := m + 1) (n + 1) (n2 58 t (.num (V t)) (ls [x])) s1 (by unfold shT; exact Or.inr (Or.inl ⟨t, _, [x], rfl, fun y hy => by rw [List.mem_singleton] at hy; rw [hy]; exact h1⟩)) (wf_mk58 (by omega) (by omega) h280 (wf_cons (m := t) (by omega) (Nat.le_refl _) (by rw [e1]; exact h2) wf_nil)) (by omega)
        exact this.mono fun y s' h => ⟨h.1, by rw [show m + (f + 1) = m + 1 + f by omega]; exact h.2.1, h.2.2⟩
    · exact Ok.i ⟨h3, shT_mono _ _ h1 _ (by omega), h2⟩
theorem Ok_appl0 (hP : PH K V P n) : OkI (shT (25 * (30 - d) + 1)) K s (pAppl0 K V P d s) ∧ (30 < d → OkI (fun _ => False) K s (pAppl0 K V P d s)) := by
  have key : Ok (fun x s' => (s.1 < s'.1 ∧ shT (25 * (30 - d) + 1) x ∧ wf K x s.1 s'.1) ∧ d ≤ 30) (pAppl0 K V P d s) := by
    unfold pAppl0
    split
    · refine Ok.bd Ok_take fun t0 s1 h0 => Ok.bd (Ok_sep (hP.p3 (d := d + 1)) s1) fun l s2 h2 => Ok.bd Ok_expect fun _ s3 h3 => ?_
      obtain ⟨g1, ⟨a, r, -, rfl, -⟩, g2, g3⟩ := h2
      rw [show 31 - (d + 1) = 30 - d by omega] at g2
      have big : Ok (fun x s' => (s.1 < s'.1 ∧ shT (25 * (30 - d) + 1) x ∧ wf K x s.1 s'.1) ∧ d ≤ 30) (bd (pExpect K 280 d s3) fun t s => .ok (n2 58 t (.num (V t)) (ls (a :: r)), s)) := by
        refine Ok.bd Ok_expect fun t s4 h4 => ?_
        refine Ok.i ⟨⟨show s.1 < s4.1 by omega, by unfold shT; exact Or.inr (Or.inl ⟨t, _, _, rfl, g2⟩), wf_mk58 (by omega) (by omega) (by rw [h4.1]; exact h4.2.2.2) (wf.mono _ _ _ _ _ g3 (by omega) (by omega))⟩, h4.2.2.1⟩
      cases r with
      | nil => exact Ok.i ⟨⟨show s.1 < s3.1 by omega, shT_mono _ _ (g2 a (List.mem_cons_self ..)) _ (by omega), wf.mono _ _ _ _ _ (wf_mem [a] _ _ g3 a (List.mem_cons_self ..)) (by omega) (by omega)⟩, h0.2.2⟩
      | cons b r => exact big
    · split
      · next z =>
        refine Ok.bd Ok_take fun t s1 ⟨e1, e2, e3⟩ => ?_
        exact Ok.i ⟨⟨show s.1 < s1.1 by omega, by unfold shT; exact Or.inl ⟨t, _, rfl⟩, wf_mk (by decide) (fun z => absurd z (by decide)) (by omega) (by omega) (kd57 (by rw [e1]; exact z)) wf_num⟩, e3⟩
      · refine Ok.bd Ok_expect fun t s1 h1 => ?_
        exact Ok.i ⟨⟨show s.1 < s1.1 by omega, by unfold shT; exact Or.inr (Or.inl ⟨t, _, [], rfl, fun y hy => (by cases hy)⟩), wf_mk58 (by omega) (by omega) (by rw [h1.1]; exact h1.2.2.2) wf_num⟩, h1.2.2.1⟩
  exact ⟨key.mono fun x s' h => h.1, fun hd => key.mono fun x s' h => by omega⟩
theorem Ok_appl (hP : PH K V P n) : OkI (shT (25 * (31 - d) - 2)) K s (pAppl K V P d s) := by
  unfold pAppl
  by_cases hd : d ≤ 30
  · refine Ok.bd (Ok_appl0 hP).1 fun x s1 h1 => ?_
    exact (Ok_names 22 0 x s1 h1.2.1 h1.2.2 h1.1).mono fun y s' h => ⟨h.1, by rw [show 25 * (31 - d) - 2 = 25 * (30 - d) + 1 + 22 by omega]; exact h.2.1, h.2.2⟩
  · exact Ok.bd ((Ok_appl0 hP).2 (by omega)) fun x s1 h1 => h1.2.1.elim
end
