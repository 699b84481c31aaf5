/-! THE LAW OF THE READERS: it goes on, within the tokens, and has fuel enough -/
/-- the place is at least a, within L tokens; a fault is at one of them -/
def Rs {α : Type} (L a : Nat) : Except Nat (α × St) → Prop
  | .ok y => a ≤ y.2.1 ∧ y.2.1 < L
  | .error k => k < L
section
variable {α β : Type} {L a b D : Nat} {K V : Nat → Nat} {s : St} {P : Nat → Nat → St → Except Nat (Tr × St)}
theorem Rs.mono {x : Except Nat (α × St)} (k : Rs L a x) (h : b ≤ a) : Rs L b x := by
  cases x with
  | error e => exact k
  | ok y => exact ⟨Nat.le_trans h k.1, k.2⟩
theorem Rs.bd {x : Except Nat (α × St)} {f : α → St → Except Nat (β × St)} (k : Rs L a x) (hf : ∀ y s', x = .ok (y, s') → a ≤ s'.1 → s'.1 < L → Rs L b (f y s')) : Rs L b (bd x f) := by
  cases x with
  | error e => exact k
  | ok y => exact hf y.1 y.2 rfl k.1 k.2
def TK (L : Nat) (K : Nat → Nat) : Prop := ∀ i, i < L → K i ≠ 291 → K i ≠ 292 → i + 1 < L
theorem Rs_take (hK : TK L K) (hs : s.1 < L) : Rs L (s.1 + 1) (pTake K D s) := by
  unfold pTake
  split
  · exact hs
  · next c => exact ⟨Nat.le_refl _, hK s.1 hs (fun q => c (Or.inr (Or.inl q))) (fun q => c (Or.inr (Or.inr q)))⟩
theorem Rs_expect {c : Nat} (hK : TK L K) (hs : s.1 < L) : Rs L (s.1 + 1) (pExpect K c D s) := by
  unfold pExpect
  split
  · exact Rs_take hK hs
  · exact hs
theorem Rs_skip {c : Nat} (hK : TK L K) (hs : s.1 < L) : Rs L s.1 (pSkip K c D s) := by
  unfold pSkip
  split
  · have := Rs_take (D := D) hK hs
    cases hr : pTake K D s with
    | error e => rw [hr] at this; exact this
    | ok y => rw [hr] at this; exact ⟨Nat.le_trans (Nat.le_succ _) this.1, this.2⟩
  · exact ⟨Nat.le_refl _, hs⟩
theorem Rs_takeP (hK : TK L K) (hs : s.1 < L) : Rs L (s.1 + 1) (pTakeP K D s) := by
  unfold pTakeP
  split
  · exact hs
  · exact Rs_take (s := (s.1, s.2.1, s.2.2 + 1)) hK hs
def Gi (L : Nat) (it : St → Except Nat (α × St)) : Prop := ∀ s : St, s.1 < L → Rs L (s.1 + 1) (it s)
theorem Rs_more {sk : St → Except Nat (Bool × St)} {it : St → Except Nat (Tr × St)} {mx : Nat} (hsk : ∀ s : St, s.1 < L → Rs L s.1 (sk s)) (hi : Gi L it) : ∀ f n (s : St), L - s.1 < f → s.1 < L → Rs L s.1 (pMore sk it mx f n s) := by
  intro f
  induction f with
  | zero => intro n s hf; omega
  | succ f ih =>
    intro n s hf hs
    have h1 := hsk s hs
    rw [pMore]
    cases hr : sk s with
    | error e => rw [hr] at h1; exact h1
    | ok y =>
      obtain ⟨b, s1⟩ := y
      rw [hr] at h1
      obtain ⟨g1, g2⟩ := h1
      change s.1 ≤ s1.1 at g1
      change s1.1 < L at g2
      cases b with
      | false => exact ⟨g1, g2⟩
      | true =>
        dsimp only
        split
        · show s1.1 - 1 < L; omega
        · have h2 := hi s1 g2
          cases hr2 : it s1 with
          | error e => rw [hr2] at h2; exact h2
          | ok z =>
            obtain ⟨t, s2⟩ := z
            rw [hr2] at h2
            obtain ⟨g3, g4⟩ := h2
            change s1.1 + 1 ≤ s2.1 at g3
            change s2.1 < L at g4
            have h3 := ih (n + 1) s2 (by omega) g4
            dsimp only
            cases hr3 : pMore sk it mx f (n + 1) s2 with
            | error e => rw [hr3] at h3; exact h3
            | ok u => rw [hr3] at h3; exact ⟨by have := h3.1; show s.1 ≤ u.2.1; omega, h3.2⟩
theorem Rs_while {go : St → Bool} {it : St → Except Nat (Tr × St)} (hi : ∀ s : St, go s = true → s.1 < L → Rs L (s.1 + 1) (it s)) : ∀ f (s : St), L - s.1 < f → s.1 < L → Rs L s.1 (pWhile go it f s) := by
  intro f
  induction f with
  | zero => intro s hf; omega
  | succ f ih =>
    intro s hf hs
    rw [pWhile]
    split
    · next hg =>
      have h2 := hi s hg hs
      cases hr2 : it s with
      | error e => rw [hr2] at h2; exact h2
      | ok z =>
        obtain ⟨t, s2⟩ := z
        rw [hr2] at h2
        obtain ⟨g3, g4⟩ := h2
        change s.1 + 1 ≤ s2.1 at g3
        change s2.1 < L at g4
        have h3 := ih s2 (by omega) g4
        dsimp only
        cases hr3 : pWhile go it f s2 with
        | error e => rw [hr3] at h3; exact h3
        | ok u => rw [hr3] at h3; exact ⟨by have := h3.1; show s.1 ≤ u.2.1; omega, h3.2⟩
    · exact ⟨Nat.le_refl _, hs⟩
theorem Rs_sep {k mx : Nat} {it : St → Except Nat (Tr × St)} (hL : L ≤ 4098) (hK : TK L K) (hi : Gi L it) (hs : s.1 < L) : Rs L (s.1 + 1) (pSep K k D mx it s) := by
  unfold pSep
  have h2 := hi s hs
  cases hr2 : it s with
  | error e => rw [hr2] at h2; exact h2
  | ok z =>
    obtain ⟨t, s2⟩ := z
    rw [hr2] at h2
    obtain ⟨g3, g4⟩ := h2
    change s.1 + 1 ≤ s2.1 at g3
    change s2.1 < L at g4
    have h3 := Rs_more (mx := mx) (sk := pSkip K k D) (fun s hs => Rs_skip hK hs) hi FU 1 s2 (by unfold FU; omega) g4
    dsimp only
    cases hr3 : pMore (pSkip K k D) it mx FU 1 s2 with
    | error e => rw [hr3] at h3; exact h3
    | ok u => rw [hr3] at h3; exact ⟨by have := h3.1; show s.1 + 1 ≤ u.2.1; omega, h3.2⟩
theorem Rs.ok' {y : α} {s' : St} (h1 : a ≤ s'.1) (h2 : s'.1 < L) : Rs L a (.ok (y, s') : Except Nat (α × St)) := ⟨h1, h2⟩
def rk (g : Nat) : Nat := if g = 6 then 14 else if g = 0 then 13 else if g = 7 then 5 else if g = 8 then 4 else if g = 1 then 5 else if g = 2 then 4 else if g = 3 then 5 else if g = 4 then 4 else if g = 5 then 3 else if g ≤ 17 then 23 - g else 20
def nd (g D : Nat) : Nat := (32 - D) * 12 + rk g
theorem skip_le {c : Nat} {b : Bool} {s' : St} (e : pSkip K c D s = .ok (b, s')) (hb : b = true) : D ≤ 30 := ((pSkip_ge e).2 hb).2
theorem Gi_names (hK : TK L K) (hL : L ≤ 4098) : ∀ f n x (s : St), 22 ≤ f + n → n ≤ 20 → s.1 < L → Rs L s.1 (pNames K V f n D x s) := by
  intro f
  induction f with
  | zero => intro n x s h1 h2; omega
  | succ f ih =>
    intro n x s h1 h2 hs
    rw [pNames]
    split
    · split
      · exact hs
      · exact (Rs_take hK hs).bd fun t s' _ g1 g2 => (ih (n + 1) _ s' (by omega) (by omega) g2).mono (by omega)
    · exact ⟨Nat.le_refl _, hs⟩
theorem nd_same {g g' n : Nat} (h : nd g D ≤ n + 1) (hr : rk g' < rk g) : nd g' D ≤ n := by unfold nd at h ⊢; omega
theorem nd_next {g g' n : Nat} (h : nd g D ≤ n + 1) (hd : D ≤ 30) (hr : rk g' < rk g + 12) : nd g' (D + 1) ≤ n := by unfold nd at h ⊢; omega
set_option maxRecDepth 4000 in
theorem Gi_all (hK : TK L K) (hL : L ≤ 4098) : ∀ n g D, D ≤ 31 → nd g D ≤ n → g ≤ 17 → Gi L (pAll K V n g D) := by
  intro n
  induction n with
  | zero =>
    intro g D h1 h2
    unfold nd at h2
    omega
  | succ n ih =>
    intro g D hD hn hg s hs
    have sm : ∀ g', rk g' < rk g → g' ≤ 17 → Gi L (pAll K V n g' D) := fun g' hr h17 => ih g' D hD (nd_same hn hr) h17
    have nx : ∀ g', D ≤ 30 → rk g' < rk g + 12 → g' ≤ 17 → Gi L (pAll K V n g' (D + 1)) := fun g' hd hr h17 => ih g' (D + 1) (by omega) (nd_next hn hd hr) h17
    rw [pAll]
    by_cases c0 : g = 0
    · rw [if_pos c0]
      subst c0
      have hM : ∀ s : St, D ≤ 30 → s.1 < L → Rs L (s.1 + 1) (pMatch K (pAll K V n) (D + 1) s) := by
        intro s hd hs
        refine Rs_sep hL hK (fun s hs => ?_) hs
        unfold pArm
        refine (nx 1 hd (by decide) (by decide) (s.1, s.2.1, 0) hs).bd fun p s1 _ g1 g2 => ?_
        refine (Rs_expect hK g2).bd fun _ s2 _ g3 g4 => ?_
        refine (nx 0 hd (by decide) (by decide) s2 g4).bd fun e s3 _ g5 g6 => ?_
        exact Rs.ok' (by change s.1 + 1 ≤ s1.1 at g1; omega) g6
      unfold pExp
      split
      · refine (Rs_take hK hs).bd fun t s1 e g1 g2 => ?_
        refine (hM s1 (pTake_le e) g2).bd fun m s2 _ g3 g4 => ?_
        exact Rs.ok' (by omega) g4
      split
      · refine (Rs_take hK hs).bd fun t s1 e g1 g2 => ?_
        refine (nx 0 (pTake_le e) (by decide) (by decide) s1 g2).bd fun x s2 _ g3 g4 => ?_
        refine (Rs_expect hK g4).bd fun _ s3 _ g5 g6 => ?_
        refine (hM s3 (pTake_le e) g6).bd fun m s4 _ g7 g8 => ?_
        exact Rs.ok' (by omega) g8
      split
      · refine (Rs_take hK hs).bd fun t s1 e g1 g2 => ?_
        refine (nx 0 (pTake_le e) (by decide) (by decide) s1 g2).bd fun x s2 _ g3 g4 => ?_
        refine (Rs_expect hK g4).bd fun _ s3 _ g5 g6 => ?_
        refine (nx 0 (pTake_le e) (by decide) (by decide) s3 g6).bd fun x s4 _ g7 g8 => ?_
        refine (Rs_expect hK g8).bd fun _ s5 _ g9 g10 => ?_
        refine (nx 0 (pTake_le e) (by decide) (by decide) s5 g10).bd fun x s6 _ g11 g12 => ?_
        exact Rs.ok' (by omega) g12
      · exact sm 11 (by decide) (by decide) s hs
    rw [if_neg c0]
    by_cases c1 : g = 1
    · rw [if_pos c1]
      subst c1
      unfold pPat
      have hA : Rs L (s.1 + 1) (pAPat K V (pAll K V n) D s) := by
        unfold pAPat
        split
        · refine (Rs_takeP hK hs).bd fun c s1 e g1 g2 => ?_
          split
          · refine (sm 2 (by decide) (by decide) s1 g2).bd fun x s2 _ g3 g4 => ?_
            exact Rs.ok' (by omega) g4
          · exact Rs.ok' g1 g2
        · exact sm 2 (by decide) (by decide) s hs
      refine hA.bd fun p s1 _ g1 g2 => ?_
      split
      · exact Rs.ok' g1 g2
      · refine (Rs_takeP hK g2).bd fun _ s2 e g3 g4 => ?_
        refine (nx 1 (pTakeP_le e) (by decide) (by decide) s2 g4).bd fun q s3 _ g5 g6 => ?_
        exact Rs.ok' (by omega) g6
    rw [if_neg c1]
    by_cases c2 : g = 2
    · rw [if_pos c2]
      subst c2
      unfold pAtPat
      split
      · exact hs
      refine (Rs_takeP hK hs).bd fun t s1 e g1 g2 => ?_
      have hd := pTakeP_le e
      split
      · exact Rs.ok' g1 g2
      split
      · exact Rs.ok' g1 g2
      split
      · exact Rs.ok' g1 g2
      split
      · exact Rs.ok' g1 g2
      split
      · split
        · exact g2
        · refine (Rs_takeP hK g2).bd fun v s2 _ g3 g4 => ?_
          exact Rs.ok' (by omega) g4
      split
      · exact Rs.ok' g1 g2
      split
      · exact Rs.ok' g1 g2
      unfold pBrack
      generalize (if K t = 40 then 41 else 93) = cl
      generalize (if K t = 40 then 6 else 0) = mx
      split
      · refine (Rs_takeP hK g2).bd fun _ s2 _ g3 g4 => ?_
        exact Rs.ok' (by omega) g4
      refine (nx 1 hd (by decide) (by decide) s1 g2).bd fun x s2 _ g3 g4 => ?_
      refine (Rs_more (sk := pCommaP K (D + 1)) (it := pAll K V n 1 (D + 1)) (mx := mx) (fun s hs => ?_) (nx 1 hd (by decide) (by decide)) FU 1 s2 (by unfold FU; omega) g4).bd fun r s3 _ g5 g6 => ?_
      · unfold pCommaP
        split
        · refine (Rs_takeP hK hs).bd fun _ s2 _ g3 g4 => ?_
          exact Rs.ok' (by omega) g4
        · exact Rs.ok' (Nat.le_refl _) hs
      have hC : Rs L (s3.1 + 1) (pClose K cl D s3) := by
        unfold pClose
        split
        · exact Rs_takeP hK g6
        · exact g6
      refine hC.bd fun _ s4 _ g7 g8 => ?_
      exact Rs.ok' (by omega) g8
    rw [if_neg c2]
    by_cases c3 : g = 3
    · rw [if_pos c3]
      subst c3
      unfold pTy
      refine (sm 4 (by decide) (by decide) s hs).bd fun x s1 _ g1 g2 => ?_
      refine (Rs_skip hK g2).bd fun b s2 e g3 g4 => ?_
      split
      · exact Rs.ok' (by omega) g4
      · next hb =>
        refine (nx 3 (skip_le e (bt hb)) (by decide) (by decide) s2 g4).bd fun c s3 _ g5 g6 => ?_
        exact Rs.ok' (by omega) g6
    rw [if_neg c3]
    by_cases c4 : g = 4
    · rw [if_pos c4]
      subst c4
      unfold pProd
      refine (Rs_sep hL hK (sm 5 (by decide) (by decide)) hs).bd fun l s1 _ g1 g2 => ?_
      exact Rs.ok' g1 g2
    rw [if_neg c4]
    by_cases c5 : g = 5
    · rw [if_pos c5]
      subst c5
      unfold pAppl
      have h0 : Rs L (s.1 + 1) (pAppl0 K V (pAll K V n) D s) := by
        unfold pAppl0
        split
        · refine (Rs_take hK hs).bd fun _ s1 e g1 g2 => ?_
          refine (Rs_sep hL hK (nx 3 (pTake_le e) (by decide) (by decide)) g2).bd fun l s2 _ g3 g4 => ?_
          refine (Rs_expect hK g4).bd fun _ s3 _ g5 g6 => ?_
          split
          · exact Rs.ok' (by omega) g6
          · refine (Rs_expect hK g6).bd fun t s4 _ g7 g8 => ?_
            exact Rs.ok' (by omega) g8
        split
        · refine (Rs_take hK hs).bd fun t s1 e g1 g2 => ?_
          exact Rs.ok' g1 g2
        · refine (Rs_expect hK hs).bd fun t s1 e g1 g2 => ?_
          exact Rs.ok' g1 g2
      refine h0.bd fun x s1 _ g1 g2 => ?_
      exact (Gi_names hK hL 22 0 x s1 (by omega) (by omega) g2).mono g1
    rw [if_neg c5]
    by_cases c6 : g = 6
    · rw [if_pos c6]
      subst c6
      unfold pDec
      split
      · exact hs
      refine (Rs_take (s := (s.1, s.2.1 + 1, s.2.2)) hK hs).bd fun t s1 e g1 g2 => ?_
      change s.1 + 1 ≤ s1.1 at g1
      have hV : ∀ D' (s : St), s.1 < L → Rs L (s.1 + 1) (pVar K V D' s) := by
        intro D' s hs
        unfold pVar
        exact (Rs_expect hK hs).bd fun t s1 _ g1 g2 => Rs.ok' g1 g2
      split
      · refine (sm 1 (by decide) (by decide) (s1.1, s1.2.1, 0) g2).bd fun p s2 _ g3 g4 => ?_
        change s1.1 + 1 ≤ s2.1 at g3
        refine (Rs_expect hK g4).bd fun _ s3 _ g5 g6 => ?_
        refine (sm 0 (by decide) (by decide) s3 g6).bd fun x s4 _ g7 g8 => ?_
        exact Rs.ok' (by omega) g8
      split
      · refine (Rs_sep hL hK (fun s hs => ?_) g2).bd fun l s2 _ g3 g4 => Rs.ok' (by omega) g4
        unfold pFun
        refine (Rs_sep hL hK (fun s hs => ?_) hs).bd fun l s2 _ g3 g4 => Rs.ok' (by omega) g4
        unfold pClause
        refine (Rs_expect hK hs).bd fun t s1 _ g1 g2 => ?_
        refine (sm 2 (by decide) (by decide) (s1.1, s1.2.1, 0) g2).bd fun p s2 _ g3 g4 => ?_
        change s1.1 + 1 ≤ s2.1 at g3
        refine (Rs_while (fun s _ hs => sm 2 (by decide) (by decide) s hs) FU s2 (by unfold FU; omega) g4).bd fun r s3 _ g5 g6 => ?_
        refine (Rs_expect hK g6).bd fun _ s4 _ g7 g8 => ?_
        refine (sm 0 (by decide) (by decide) s4 g8).bd fun x s5 _ g9 g10 => ?_
        exact Rs.ok' (by omega) g10
      · refine (Rs_sep hL hK (fun s hs => ?_) g2).bd fun l s2 _ g3 g4 => Rs.ok' (by omega) g4
        unfold pData
        have hVs : Rs L s.1 (pVars K V D s) := by
          unfold pVars
          split
          · exact (hV D s hs).bd fun v s1 _ g1 g2 => Rs.ok' (by omega) g2
          · refine (Rs_skip hK hs).bd fun b s1 e g1 g2 => ?_
            split
            · exact Rs.ok' g1 g2
            · refine (Rs_sep hL hK (hV (D + 1)) g2).bd fun l s2 _ g3 g4 => ?_
              refine (Rs_expect hK g4).bd fun _ s3 _ g5 g6 => ?_
              exact Rs.ok' (by omega) g6
        refine hVs.bd fun vs s1 _ g1 g2 => ?_
        refine (Rs_expect hK g2).bd fun t s2 _ g3 g4 => ?_
        refine (Rs_expect hK g4).bd fun _ s3 _ g5 g6 => ?_
        refine (Rs_sep hL hK (fun s hs => ?_) g6).bd fun cs s4 _ g7 g8 => Rs.ok' (by omega) g8
        unfold pCon
        refine (Rs_expect hK hs).bd fun c s1 _ g1 g2 => ?_
        refine (Rs_skip hK g2).bd fun b s2 e g3 g4 => ?_
        split
        · next hb =>
          refine (nx 3 (skip_le e hb) (by decide) (by decide) s2 g4).bd fun t s3 _ g5 g6 => ?_
          exact Rs.ok' (by omega) g6
        · exact Rs.ok' (by omega) g4
    rw [if_neg c6]
    by_cases c7 : g = 7
    · rw [if_pos c7]
      subst c7
      unfold pApp
      refine (sm 8 (by decide) (by decide) s hs).bd fun x s1 _ g1 g2 => ?_
      split
      · exact Rs.ok' g1 g2
      · refine (Rs_while (fun s _ hs => sm 8 (by decide) (by decide) s hs) FU s1 (by unfold FU; omega) g2).bd fun r s2 _ g3 g4 => ?_
        exact Rs.ok' (by omega) g4
    rw [if_neg c7]
    by_cases c8 : g = 8
    · rw [if_pos c8]
      subst c8
      unfold pAtom
      split
      · exact hs
      refine (Rs_take hK hs).bd fun t s1 e g1 g2 => ?_
      have hd := pTake_le e
      have h0 := nx 0 hd (by decide) (by decide)
      split
      · exact Rs.ok' g1 g2
      split
      · exact Rs.ok' g1 g2
      split
      · exact Rs.ok' g1 g2
      split
      · exact Rs.ok' g1 g2
      split
      · exact Rs.ok' g1 g2
      split
      · exact Rs.ok' g1 g2
      split
      · exact Rs.ok' g1 g2
      split
      · unfold pLet
        refine (Rs_while (fun s _ hs => ?_) FU s1 (by unfold FU; omega) g2).bd fun ds s2 _ g3 g4 => ?_
        · unfold pDecS
          refine (nx 6 hd (by decide) (by decide) s hs).bd fun x s2 _ g3 g4 => ?_
          refine (Rs_expect hK g4).bd fun _ s3 _ g5 g6 => ?_
          exact Rs.ok' (by omega) g6
        refine (Rs_expect hK g4).bd fun _ s3 _ g5 g6 => ?_
        refine (Rs_sep hL hK h0 g6).bd fun l s4 _ g7 g8 => ?_
        refine (Rs_expect hK g8).bd fun _ s5 _ g9 g10 => ?_
        exact Rs.ok' (by omega) g10
      split
      · unfold pRound
        split
        · refine (Rs_take hK g2).bd fun _ s2 _ g3 g4 => ?_
          exact Rs.ok' (by omega) g4
        refine (h0 s1 g2).bd fun x s2 _ g3 g4 => ?_
        refine (Rs_more (sk := pSame K (K s2.1) (D + 1)) (it := pAll K V n 0 (D + 1)) (mx := if K s2.1 = 44 then 6 else 0) (fun s hs => ?_) h0 FU 1 s2 (by unfold FU; omega) g4).bd fun r s3 _ g5 g6 => ?_
        · unfold pSame
          split
          · refine (Rs_take hK hs).bd fun _ s2 _ g3 g4 => ?_
            exact Rs.ok' (by omega) g4
          · exact Rs.ok' (Nat.le_refl _) hs
        refine (Rs_expect hK g6).bd fun _ s4 _ g7 g8 => ?_
        exact Rs.ok' (by omega) g8
      · unfold pList
        split
        · refine (Rs_take hK g2).bd fun _ s2 _ g3 g4 => ?_
          exact Rs.ok' (by omega) g4
        refine (Rs_sep hL hK h0 g2).bd fun l s2 _ g3 g4 => ?_
        refine (Rs_expect hK g4).bd fun _ s3 _ g5 g6 => ?_
        exact Rs.ok' (by omega) g6
    rw [if_neg c8]
    have hrk : 11 ≤ g → rk g = 23 - g := by
      intro h
      unfold rk
      rw [if_neg (by omega), if_neg (by omega), if_neg (by omega), if_neg (by omega), if_neg (by omega), if_neg (by omega), if_neg (by omega), if_neg (by omega), if_neg (by omega), if_pos (by omega)]
    by_cases c9 : g ≤ 10
    · -- tags 9 and 10: level 0 takes the level 1
      have hrk2 : 6 ≤ rk g ∧ rk g = 23 - g := by
        have : rk g = 23 - g := by
          unfold rk
          rw [if_neg (by omega), if_neg (by omega), if_neg (by omega), if_neg (by omega), if_neg (by omega), if_neg (by omega), if_neg (by omega), if_neg (by omega), if_neg (by omega), if_pos (by omega)]
        omega
      unfold pLevel
      have hl : g - 10 = 0 := by omega
      rw [hl]
      have hsub : Rs L (s.1 + 1) (pSub (pAll K V n) 0 D s) := by
        unfold pSub
        rw [if_neg (by decide)]
        exact sm 11 (by rw [show rk 11 = 12 from rfl]; omega) (by decide) s hs
      refine hsub.bd fun x s1 _ g1 g2 => ?_
      split
      · exact Rs.ok' g1 g2
      rw [if_neg (by decide)]
      refine (Rs_while (fun s _ hs => ?_) FU s1 (by unfold FU; omega) g2).bd fun r s2 _ g3 g4 => Rs.ok' (by omega) g4
      unfold pOpd
      refine (Rs_take hK hs).bd fun gg s1 _ g1 g2 => ?_
      have : Rs L (s1.1 + 1) (pSub (pAll K V n) 0 D s1) := by
        unfold pSub
        rw [if_neg (by decide)]
        exact sm 11 (by rw [show rk 11 = 12 from rfl]; omega) (by decide) s1 g2
      exact this.bd fun r s2 _ g3 g4 => Rs.ok' (by omega) g4
    · have hr := hrk (by omega)
      have hsub : ∀ s : St, s.1 < L → Rs L (s.1 + 1) (pSub (pAll K V n) (g - 10) D s) := by
        intro s hs
        unfold pSub
        split
        · exact sm 7 (by rw [show rk 7 = 5 from rfl]; omega) (by decide) s hs
        · refine sm (11 + (g - 10)) ?_ (by omega) s hs
          have : rk (11 + (g - 10)) = 23 - (11 + (g - 10)) := by
            unfold rk
            rw [if_neg (by omega), if_neg (by omega), if_neg (by omega), if_neg (by omega), if_neg (by omega), if_neg (by omega), if_neg (by omega), if_neg (by omega), if_neg (by omega), if_pos (by omega)]
          omega
      unfold pLevel
      refine (hsub s hs).bd fun x s1 _ g1 g2 => ?_
      split
      · exact Rs.ok' g1 g2
      split
      · refine (Rs_take hK g2).bd fun gg s2 e g3 g4 => ?_
        refine (nx 15 (pTake_le e) (by rw [show rk 15 = 8 from rfl]; omega) (by decide) s2 g4).bd fun r s3 _ g5 g6 => ?_
        exact Rs.ok' (by omega) g6
      · refine (Rs_while (fun s _ hs => ?_) FU s1 (by unfold FU; omega) g2).bd fun r s2 _ g3 g4 => Rs.ok' (by omega) g4
        unfold pOpd
        refine (Rs_take hK hs).bd fun gg s1 _ g1 g2 => ?_
        exact (hsub s1 g2).bd fun r s2 _ g3 g4 => Rs.ok' (by omega) g4
end
