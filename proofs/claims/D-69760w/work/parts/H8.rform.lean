/-! THE LAW OF THE READERS: the forms of its trees, and where they lie -/
def Ok {β : Type} (P : β → St → Prop) : Except Nat (β × St) → Prop
  | .ok y => P y.1 y.2
  | .error _ => True
section
variable {α β : Type} {K V : Nat → Nat} {s : St} {d c t lo hi m n k mx : Nat} {x y : Tr} {Sh : Tr → Prop}
theorem Ok.bd {P : β → St → Prop} {Q : α → St → Prop} {x : Except Nat (α × St)} {f : α → St → Except Nat (β × St)} (h : Ok Q x) (hf : ∀ y s', Q y s' → Ok P (f y s')) : Ok P (bd x f) := by
  cases x with
  | error e => trivial
  | ok y => exact hf y.1 y.2 h
theorem Ok.mono {P Q : α → St → Prop} {x : Except Nat (α × St)} (h : Ok Q x) (hf : ∀ y s', Q y s' → P y s') : Ok P x := by
  cases x with
  | error e => trivial
  | ok y => exact hf _ _ h
theorem Ok_take : Ok (fun t s' => t = s.1 ∧ s'.1 = s.1 + 1 ∧ d ≤ 30) (pTake K d s) := by
  unfold pTake
  split
  · trivial
  · exact ⟨rfl, rfl, by omega⟩
theorem Ok_expect : Ok (fun t s' => t = s.1 ∧ s'.1 = s.1 + 1 ∧ d ≤ 30 ∧ K s.1 = c) (pExpect K c d s) := by
  unfold pExpect
  split
  · next z => exact Ok_take.mono fun y s' h => ⟨h.1, h.2.1, h.2.2, z⟩
  · trivial
theorem Ok_takeP : Ok (fun t s' => t = s.1 ∧ s'.1 = s.1 + 1 ∧ d ≤ 30) (pTakeP K d s) := by
  unfold pTakeP
  split
  · trivial
  · exact Ok_take (s := (s.1, s.2.1, s.2.2 + 1))
theorem Ok_skip : Ok (fun b s' => (b = false ∧ s' = s) ∨ (b = true ∧ s'.1 = s.1 + 1 ∧ d ≤ 30)) (pSkip K c d s) := by
  unfold pSkip
  split
  · have := Ok_take (K := K) (s := s) (d := d)
    cases hr : pTake K d s with
    | error e => trivial
    | ok y => rw [hr] at this; exact Or.inr ⟨rfl, this.2.1, this.2.2⟩
  · exact Or.inl ⟨rfl, rfl⟩
/-- what an item's reading gives -/
def It (Sh : Tr → Prop) (K : Nat → Nat) (it : St → Except Nat (Tr × St)) : Prop := ∀ s : St, Ok (fun x s' => s.1 < s'.1 ∧ Sh x ∧ wf K x s.1 s'.1) (it s)
theorem wf_cons {l : List Tr} (h1 : lo ≤ m) (h2 : m ≤ hi) (hx : wf K x lo m) (hl : wf K (ls l) m hi) : wf K (ls (x :: l)) lo hi := by
  unfold ls wf
  exact ⟨m, h1, h2, hx, hl⟩
theorem wf_add (h1 : lo ≤ m) (h2 : m ≤ hi) (hx : wf K x lo m) (hl : wf K y m hi) : wf K (.add x y) lo hi := by
  unfold wf
  exact ⟨m, h1, h2, hx, hl⟩
theorem wf_num {v : Int} : wf K (.num v) lo hi := by
  unfold wf
  trivial
theorem wf_nil : wf K (ls []) lo hi := wf_num
theorem Ok_more {sk : St → Except Nat (Bool × St)} {it : St → Except Nat (Tr × St)} (hsk : ∀ s : St, Ok (fun _ s' => s.1 ≤ s'.1) (sk s)) (hit : It Sh K it) : ∀ f n (s : St), Ok (fun l s' => s.1 ≤ s'.1 ∧ (∀ x, x ∈ l → Sh x) ∧ wf K (ls l) s.1 s'.1) (pMore sk it mx f n s) := by
  intro f
  induction f with
  | zero => intro n s; trivial
  | succ f ih =>
    intro n s
    rw [pMore]
    have h1 := hsk s
    cases hr : sk s with
    | error e => trivial
    | ok y =>
      obtain ⟨b, s1⟩ := y
      rw [hr] at h1
      cases b with
      | false => exact ⟨h1, fun x hx => (by cases hx), wf_nil⟩
      | true =>
        dsimp only
        split
        · trivial
        · have h2 := hit s1
          cases hr2 : it s1 with
          | error e => trivial
          | ok y =>
            obtain ⟨a, s2⟩ := y
            rw [hr2] at h2
            obtain ⟨g1, g2, g3⟩ := h2
            dsimp only
            have h3 := ih (n + 1) s2
            cases hr3 : pMore sk it mx f (n + 1) s2 with
            | error e => trivial
            | ok y =>
              obtain ⟨r, s3⟩ := y
              rw [hr3] at h3
              obtain ⟨k1, k2, k3⟩ := h3
              change s.1 ≤ s1.1 at h1
              change s1.1 < s2.1 at g1
              change s2.1 ≤ s3.1 at k1
              refine ⟨show s.1 ≤ s3.1 by omega, fun x hx => ?_, wf_cons (m := s2.1) (by omega) k1 (wf.mono _ _ _ _ _ g3 h1 (Nat.le_refl _)) k3⟩
              rcases List.mem_cons.mp hx with rfl | hx
              · exact g2
              · exact k2 x hx
theorem Ok_while {go : St → Bool} {it : St → Except Nat (Tr × St)} (hit : It Sh K it) : ∀ f (s : St), Ok (fun l s' => s.1 ≤ s'.1 ∧ (∀ x, x ∈ l → Sh x) ∧ wf K (ls l) s.1 s'.1) (pWhile go it f s) := by
  intro f
  induction f with
  | zero => intro s; trivial
  | succ f ih =>
    intro s
    rw [pWhile]
    split
    · have h2 := hit s
      cases hr2 : it s with
      | error e => trivial
      | ok y =>
        obtain ⟨a, s2⟩ := y
        rw [hr2] at h2
        obtain ⟨g1, g2, g3⟩ := h2
        dsimp only
        have h3 := ih s2
        cases hr3 : pWhile go it f s2 with
        | error e => trivial
        | ok y =>
          obtain ⟨r, s3⟩ := y
          rw [hr3] at h3
          obtain ⟨k1, k2, k3⟩ := h3
          change s.1 < s2.1 at g1
          change s2.1 ≤ s3.1 at k1
          refine ⟨show s.1 ≤ s3.1 by omega, fun x hx => ?_, wf_cons (m := s2.1) (by omega) k1 g3 k3⟩
          rcases List.mem_cons.mp hx with rfl | hx
          · exact g2
          · exact k2 x hx
    · exact ⟨Nat.le_refl _, fun x hx => (by cases hx), wf_nil⟩
theorem Ok_sep {it : St → Except Nat (Tr × St)} (hit : It Sh K it) (s : St) : Ok (fun l s' => s.1 < s'.1 ∧ (∃ a r s2, l = a :: r ∧ it s = .ok (a, s2)) ∧ (∀ x, x ∈ l → Sh x) ∧ wf K (ls l) s.1 s'.1) (pSep K k d mx it s) := by
  unfold pSep
  have h2 := hit s
  cases hr2 : it s with
  | error e => trivial
  | ok y =>
    obtain ⟨a, s2⟩ := y
    rw [hr2] at h2
    obtain ⟨g1, g2, g3⟩ := h2
    dsimp only
    have h3 := Ok_more (mx := mx) (sk := pSkip K k d) (it := it) (fun s => Ok_skip.mono fun b s' h => by rcases h with ⟨-, h⟩ | ⟨-, h, -⟩ <;> rw [h] <;> omega) hit FU 1 s2
    cases hr3 : pMore (pSkip K k d) it mx FU 1 s2 with
    | error e => trivial
    | ok y =>
      obtain ⟨r, s3⟩ := y
      rw [hr3] at h3
      obtain ⟨k1, k2, k3⟩ := h3
      change s.1 < s2.1 at g1
      change s2.1 ≤ s3.1 at k1
      refine ⟨show s.1 < s3.1 by omega, ⟨a, r, s2, rfl, rfl⟩, fun x hx => ?_, wf_cons (m := s2.1) (by omega) k1 g3 k3⟩
      rcases List.mem_cons.mp hx with rfl | hx
      · exact g2
      · exact k2 x hx
/-- nodes in their places -/
theorem kd0 {k : Int} (hk : k ≠ 1 ∧ k ≠ 2 ∧ k ≠ 32 ∧ k ≠ 33 ∧ k ≠ 50 ∧ k ≠ 54 ∧ k ≠ 55 ∧ k ≠ 56 ∧ k ≠ 57 ∧ k ≠ 58) : kdOK K k x := ⟨fun z => by rcases z with z | z | z | z | z | ⟨z, -⟩ <;> omega, fun z => by omega, fun z => by omega, fun z => by omega⟩
theorem wf_mk {k : Int} (hk : k ≠ 33 ∧ k ≠ 56 ∧ k ≠ 53 ∧ k ≠ 58) (h50 : k = 50 → fnC (.add (.num t) y) = false) (h1 : lo ≤ t) (h2 : t < hi) (kd : kdOK K k (.add (.num t) y)) (hy : wf K y lo hi) : wf K (n1 k t y) lo hi := by
  unfold n1 wf
  refine ⟨by show (lo : Int) ≤ (t : Nat); omega, by show ((t : Nat) : Int) < _; omega, kd, ?_⟩
  rw [if_neg (fun z => by
    rcases z with z | ⟨z, z'⟩ | z | z
    · exact hk.1 z
    · rw [h50 z] at z'; cases z'
    · exact hk.2.1 z
    · exact hk.2.2.1 z), if_neg hk.2.2.2]
  exact wf_add (Nat.le_refl _) (by omega) wf_num hy
theorem wf_mk2 {k : Int} (hk : k = 33 ∨ (k = 50 ∧ fnC (.add (.num t) y) = true) ∨ k = 56 ∨ k = 53) (h1 : lo ≤ t) (h2 : t < hi) (kd : kdOK K k (.add (.num t) y)) (hy : wf K y (t + 1) hi) : wf K (n1 k t y) lo hi := by
  unfold n1 wf
  refine ⟨by show (lo : Int) ≤ (t : Nat); omega, by show ((t : Nat) : Int) < _; omega, kd, ?_⟩
  rw [if_pos hk]
  exact wf_add (Nat.le_refl _) h2 wf_num hy
theorem wf_mk58 {v : Int} (h1 : lo ≤ t) (h2 : t < hi) (h280 : K t = 280) (hy : wf K y lo t) : wf K (n2 58 t (.num v) y) lo hi := by
  unfold n2 wf
  refine ⟨by show (lo : Int) ≤ (t : Nat); omega, by show ((t : Nat) : Int) < _; omega, ⟨fun _ => h280, fun z => by omega, fun z => by omega, fun z => by omega⟩, ?_⟩
  rw [if_neg (fun z => by rcases z with z | ⟨z, -⟩ | z | z <;> exact absurd z (by decide)), if_pos rfl]
  exact wf_add (Nat.le_refl _) h1 wf_num (wf_add (Nat.le_refl _) h1 wf_num hy)
theorem wf_mk0 {k : Int} (h1 : lo ≤ t) (h2 : t < hi) (kd : kdOK K k (.num t)) : wf K (n0 k t) lo hi := by
  unfold n0 wf
  refine ⟨by show (lo : Int) ≤ (t : Nat); omega, by show ((t : Nat) : Int) < _; omega, kd, ?_⟩
  split
  · exact wf_num
  · split <;> exact wf_num
/-! forms of fewer levels are forms of more -/
theorem shP_mono : ∀ n x, shP n x → ∀ m, n ≤ m → shP m x := by
  intro n
  induction n with
  | zero => intro x h; exact h.elim
  | succ n ih =>
    intro x h m hm
    obtain ⟨m, rfl⟩ : ∃ m', m = m' + 1 := ⟨m - 1, by omega⟩
    have ih' : ∀ x, shP n x → shP m x := fun x hx => ih x hx m (by omega)
    unfold shP at h ⊢
    rcases h with h | h | h | h | h | ⟨t, v, y, e, h⟩ | ⟨t, l, e, h⟩ | ⟨t, l, e, h⟩ | ⟨t, a, b, e, h1, h2⟩ | ⟨t, y, e, h⟩
    · exact Or.inl h
    · exact Or.inr (Or.inl h)
    · exact Or.inr (Or.inr (Or.inl h))
    · exact Or.inr (Or.inr (Or.inr (Or.inl h)))
    · exact Or.inr (Or.inr (Or.inr (Or.inr (Or.inl h))))
    · exact Or.inr (Or.inr (Or.inr (Or.inr (Or.inr (Or.inl ⟨t, v, y, e, h.imp_right (ih' y)⟩)))))
    · exact Or.inr (Or.inr (Or.inr (Or.inr (Or.inr (Or.inr (Or.inl ⟨t, l, e, fun y hy => ih' y (h y hy)⟩))))))
    · exact Or.inr (Or.inr (Or.inr (Or.inr (Or.inr (Or.inr (Or.inr (Or.inl ⟨t, l, e, fun y hy => ih' y (h y hy)⟩)))))))
    · exact Or.inr (Or.inr (Or.inr (Or.inr (Or.inr (Or.inr (Or.inr (Or.inr (Or.inl ⟨t, a, b, e, ih' a h1, ih' b h2⟩))))))))
    · exact Or.inr (Or.inr (Or.inr (Or.inr (Or.inr (Or.inr (Or.inr (Or.inr (Or.inr ⟨t, y, e, ih' y h⟩))))))))
theorem shT_mono : ∀ n x, shT n x → ∀ m, n ≤ m → shT m x := by
  intro n
  induction n with
  | zero => intro x h; exact h.elim
  | succ n ih =>
    intro x h m hm
    obtain ⟨m, rfl⟩ : ∃ m', m = m' + 1 := ⟨m - 1, by omega⟩
    have ih' : ∀ x, shT n x → shT m x := fun x hx => ih x hx m (by omega)
    unfold shT at h ⊢
    rcases h with h | ⟨t, v, l, e, h⟩ | ⟨t, a, b, e, h1, h2⟩ | ⟨t, l, e, h⟩
    · exact Or.inl h
    · exact Or.inr (Or.inl ⟨t, v, l, e, fun y hy => ih' y (h y hy)⟩)
    · exact Or.inr (Or.inr (Or.inl ⟨t, a, b, e, ih' a h1, ih' b h2⟩))
    · exact Or.inr (Or.inr (Or.inr ⟨t, l, e, fun y hy => ih' y (h y hy)⟩))
theorem shE_mono : ∀ n g x, shE V n g x → ∀ m, n ≤ m → shE V m g x := by
  intro n
  induction n with
  | zero => intro g x h; exact h.elim
  | succ n ih =>
    intro g x h m hm
    obtain ⟨m, rfl⟩ : ∃ m', m = m' + 1 := ⟨m - 1, by omega⟩
    have ih' : ∀ g x, shE V n g x → shE V m g x := fun g x hx => ih g x hx m (by omega)
    have ip : ∀ x, shP n x → shP m x := fun x hx => shP_mono n x hx m (by omega)
    have it : ∀ x, shT n x → shT m x := fun x hx => shT_mono n x hx m (by omega)
    unfold shE at h ⊢
    by_cases g0 : g = 0
    · rw [if_pos g0] at h ⊢
      rcases h with h | h | ⟨k, t, l, hk, e, h⟩ | ⟨t, ds, e', e, h1, h2⟩ | ⟨t, l, e, h⟩ | ⟨t, e', l, e, h1, h2⟩ | ⟨t, a, b, c, e, h1, h2, h3⟩ | ⟨t, e', l, e, h1, h2⟩ | ⟨t, e', ps, e, h1, h2⟩ | ⟨k, t, a, b, hk, e, h1, h2⟩ | ⟨t, y, e, h⟩
      · exact Or.inl h
      · exact Or.inr (Or.inl h)
      · exact Or.inr (Or.inr (Or.inl ⟨k, t, l, hk, e, fun y hy => ih' _ y (h y hy)⟩))
      · exact Or.inr (Or.inr (Or.inr (Or.inl ⟨t, ds, e', e, fun y hy => ih' _ y (h1 y hy), ih' _ _ h2⟩)))
      · exact Or.inr (Or.inr (Or.inr (Or.inr (Or.inl ⟨t, l, e, fun y hy => ih' _ y (h y hy)⟩))))
      · exact Or.inr (Or.inr (Or.inr (Or.inr (Or.inr (Or.inl ⟨t, e', l, e, ih' _ _ h1, fun y hy => ih' _ y (h2 y hy)⟩)))))
      · exact Or.inr (Or.inr (Or.inr (Or.inr (Or.inr (Or.inr (Or.inl ⟨t, a, b, c, e, ih' _ _ h1, ih' _ _ h2, ih' _ _ h3⟩))))))
      · exact Or.inr (Or.inr (Or.inr (Or.inr (Or.inr (Or.inr (Or.inr (Or.inl ⟨t, e', l, e, ih' _ _ h1, fun y hy => ih' _ y (h2 y hy)⟩)))))))
      · exact Or.inr (Or.inr (Or.inr (Or.inr (Or.inr (Or.inr (Or.inr (Or.inr (Or.inl ⟨t, e', ps, e, ih' _ _ h1, fun y hy => ih' _ _ (h2 y hy)⟩))))))))
      · exact Or.inr (Or.inr (Or.inr (Or.inr (Or.inr (Or.inr (Or.inr (Or.inr (Or.inr (Or.inl ⟨k, t, a, b, hk, e, ih' _ _ h1, ih' _ _ h2⟩)))))))))
      · exact Or.inr (Or.inr (Or.inr (Or.inr (Or.inr (Or.inr (Or.inr (Or.inr (Or.inr (Or.inr ⟨t, y, e, ih' _ _ h⟩)))))))))
    · rw [if_neg g0] at h ⊢
      by_cases g1 : g = 1
      · rw [if_pos g1] at h ⊢
        obtain ⟨t, v, ps, e', e, h1, h2⟩ := h
        exact ⟨t, v, ps, e', e, fun y hy => ip y (h1 y hy), ih' _ _ h2⟩
      · rw [if_neg g1] at h ⊢
        rcases h with ⟨t, p, e', e, h1, h2⟩ | ⟨t, fs, e, h⟩ | ⟨t, ds, e, h⟩
        · exact Or.inl ⟨t, p, e', e, ip p h1, ih' _ _ h2⟩
        · refine Or.inr (Or.inl ⟨t, fs, e, fun f hf => ?_⟩)
          obtain ⟨t, c0, cs, a1, a2, a3⟩ := h f hf
          exact ⟨t, c0, cs, a1, a2, fun c hc => ⟨ih' _ _ (a3 c hc).1, (a3 c hc).2⟩⟩
        · refine Or.inr (Or.inr ⟨t, ds, e, fun f hf => ?_⟩)
          obtain ⟨t, vs, cs, a1, a2, a3, a4⟩ := h f hf
          refine ⟨t, vs, cs, a1, a2, a3, fun c hc => ?_⟩
          obtain ⟨t, y, b1, b2⟩ := a4 c hc
          exact ⟨t, y, b1, b2.imp_right (it y)⟩
end
