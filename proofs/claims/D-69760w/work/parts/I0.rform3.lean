/-! THE LAW OF THE READERS: forms of declarations and expressions -/
section
variable {α β : Type} {K V : Nat → Nat} {s : St} {d c t lo hi m n k mx : Nat} {x y : Tr} {Sh : Tr → Prop} {P : Nat → Nat → St → Except Nat (Tr × St)}
theorem Ok.and {P Q : β → St → Prop} {x : Except Nat (β × St)} (h1 : Ok P x) (h2 : Ok Q x) : Ok (fun y s' => P y s' ∧ Q y s') x := by
  cases x with
  | error e => trivial
  | ok y => exact ⟨h1, h2⟩
theorem Ok_more_len {sk : St → Except Nat (Bool × St)} {it : St → Except Nat (Tr × St)} : ∀ f n (s : St), n ≤ mx → Ok (fun l _ => l.length + n ≤ mx) (pMore sk it mx f n s) := by
  intro f
  induction f with
  | zero => intro n s _; trivial
  | succ f ih =>
    intro n s hn
    rw [pMore]
    cases hr : sk s with
    | error e => trivial
    | ok y =>
      obtain ⟨b, s1⟩ := y
      cases b with
      | false =>
        refine Ok.i ?_
        rw [List.length_nil]
        omega
      | true =>
        dsimp only
        split
        · trivial
        · next hne =>
          cases hr2 : it s1 with
          | error e => trivial
          | ok y =>
            obtain ⟨a, s2⟩ := y
            dsimp only
            have h3 := ih (n + 1) s2 (by omega)
            cases hr3 : pMore sk it mx f (n + 1) s2 with
            | error e => trivial
            | ok y =>
              obtain ⟨r, s3⟩ := y
              rw [hr3] at h3
              refine Ok.i ?_
              rw [List.length_cons]
              change r.length + (n + 1) ≤ mx at h3
              omega
theorem Ok_sep_len {it : St → Except Nat (Tr × St)} (hm : 1 ≤ mx) : Ok (fun l _ => l.length ≤ mx) (pSep K k d mx it s) := by
  unfold pSep
  cases hr2 : it s with
  | error e => trivial
  | ok y =>
    obtain ⟨a, s2⟩ := y
    dsimp only
    have h3 := Ok_more_len (sk := pSkip K k d) (it := it) FU 1 s2 hm
    cases hr3 : pMore (pSkip K k d) it mx FU 1 s2 with
    | error e => trivial
    | ok y =>
      obtain ⟨r, s3⟩ := y
      rw [hr3] at h3
      exact h3
theorem Ok_var : OkI (fun x => ∃ t : Nat, x = n1 57 t (.num (V t))) K s (pVar K V d s) := by
  unfold pVar
  refine Ok.bd Ok_expect fun t s1 h => ?_
  exact Ok.i ⟨by omega, ⟨t, rfl⟩, wf_mk (by decide) (fun z => absurd z (by decide)) (by omega) (by omega) (kd57 (by rw [h.1]; exact h.2.2.2)) wf_num⟩
theorem Ok_vars : Ok (fun vs s' => s.1 ≤ s'.1 ∧ vs.length ≤ 6 ∧ (∀ y, y ∈ vs → ∃ t : Nat, y = n1 57 t (.num (V t))) ∧ wf K (ls vs) s.1 s'.1) (pVars K V d s) := by
  unfold pVars
  split
  · refine Ok.bd Ok_var fun v s1 h => ?_
    refine Ok.i ⟨by omega, (show 1 ≤ 6 by decide), fun y hy => ?_, wf_cons (m := s1.1) (by omega) (Nat.le_refl _) h.2.2 wf_nil⟩
    rw [List.mem_singleton] at hy
    rw [hy]
    exact h.2.1
  · refine Ok.bd Ok_skip fun b s1 h => ?_
    rcases h with ⟨rfl, rfl⟩ | ⟨rfl, e, -⟩
    · exact Ok.i ⟨Nat.le_refl _, by decide, fun y hy => (by cases hy), wf_nil⟩
    · rw [if_neg (by decide)]
      refine Ok.bd ((Ok_sep (fun s => Ok_var) s1).and (Ok_sep_len (by decide))) fun l s2 h2 => Ok.bd Ok_expect fun _ s3 h3 => ?_
      exact Ok.i ⟨by omega, h2.2, h2.1.2.2.1, wf.mono _ _ _ _ _ h2.1.2.2.2 (by omega) (by omega)⟩
theorem Ok_con (hP : PH K V P n) : OkI (shC V 800) K s (pCon K V P d s) := by
  unfold pCon
  refine Ok.bd Ok_expect fun t s1 h1 => Ok.bd Ok_skip fun b s2 h2 => ?_
  have h281 : K t = 281 := by rw [h1.1]; exact h1.2.2.2
  rcases h2 with ⟨rfl, rfl⟩ | ⟨rfl, e, -⟩
  · rw [if_neg (by decide)]
    exact Ok.i ⟨by omega, ⟨t, _, rfl, Or.inl rfl⟩, wf_mk2 (Or.inr (Or.inr (Or.inl rfl))) (by omega) (by omega) (kd2 h281 (by decide)) (wf_add (Nat.le_refl _) (by omega) wf_num wf_num)⟩
  · rw [if_pos rfl]
    refine Ok.bd (hP.p3 (d := d + 1) s2) fun y s3 h3 => ?_
    exact Ok.i ⟨by omega, ⟨t, _, rfl, Or.inr (shT_mono _ _ h3.2.1 _ (by omega))⟩, wf_mk2 (Or.inr (Or.inr (Or.inl rfl))) (by omega) (by omega) (kd2 h281 (by decide)) (wf_add (Nat.le_refl _) (by omega) wf_num (wf.mono _ _ _ _ _ h3.2.2 (by omega) (Nat.le_refl _)))⟩
theorem Ok_data (hP : PH K V P n) : OkI (shD V 800) K s (pData K V P d s) := by
  unfold pData
  refine Ok.bd Ok_vars fun vs s1 h1 => Ok.bd Ok_expect fun t s2 h2 => Ok.bd Ok_expect fun _ s3 h3 => Ok.bd (Ok_sep (fun s => Ok_con (d := d) (s := s) hP) s3) fun cs s4 h4 => ?_
  obtain ⟨g1, ⟨a, r, s5, rfl, ea⟩, g2, g3⟩ := h4
  have h280 : K t = 280 := by rw [h2.1]; exact h2.2.2.2
  have ha := Ok_con (d := d) (s := s3) hP
  rw [ea] at ha
  obtain ⟨-, ⟨tc, yc, eca, -⟩, wa⟩ := ha
  have wa' : wf K a s3.1 s5.1 := wa
  change a = n2 56 tc (.num (V tc)) yc at eca
  have htc : s3.1 ≤ tc := by
    rw [eca] at wa'
    exact (wf_56 wa').1.1
  refine Ok.i ⟨by omega, ⟨t, vs, a :: r, rfl, h1.2.1, h1.2.2.1, g2⟩, wf_mk (y := .add (.num (V t)) (.add (ls vs) (ls (a :: r)))) (by decide) (fun z => absurd z (by decide)) (by omega) (by omega) ⟨fun _ => h280, fun z => by omega, fun z => by omega, fun _ => ?_⟩ (wf_add (Nat.le_refl _) (by omega) wf_num (wf_add (m := s1.1) (by omega) (by omega) h1.2.2.2 (wf.mono _ _ _ _ _ g3 (by omega) (Nat.le_refl _))))⟩
  rw [eca]
  show (t : Int) < (tc : Nat)
  omega
theorem Ok_clause (hV : ∀ t, K t = 280 → V t ≠ 0) (hP : PH K V P n) : Ok (fun x s' => (s.1 < s'.1 ∧ (shE V (2 * n + 801) 1 x ∧ nv1 x = V (tkN x) ∧ V (tkN x) ≠ 0) ∧ wf K x s.1 s'.1) ∧ tkN x = s.1 ∧ K s.1 = 280) (pClause K V P d s) := by
  unfold pClause
  refine Ok.bd Ok_expect fun t s1 h1 => Ok.bd (hP.p2 (d := d) (s1.1, s1.2.1, 0)) fun p s2 h2 => Ok.bd (Ok_while (hP.p2 (d := d)) FU s2) fun r s3 h3 => Ok.bd Ok_expect fun _ s4 h4 => Ok.bd (hP.e (d := d) (Or.inl rfl) s4) fun e s5 h5 => ?_
  have h280 : K t = 280 := by rw [h1.1]; exact h1.2.2.2
  have h21 : s1.1 < s2.1 := h2.1
  have hne := hV t h280
  have hfn : fnC (.add (.num t) (.add (.num (V t)) (.add (ls (p :: r)) e))) = true := by
    show (!((V t : Int) == 0)) = true
    simp
    exact hne
  have w2 : wf K p s1.1 s2.1 := h2.2.2
  refine Ok.i ⟨⟨by omega, ⟨?_, Int.toNat_natCast _, hne⟩, wf_mk2 (y := .add (.num (V t)) (.add (ls (p :: r)) e)) (Or.inr (Or.inl ⟨rfl, hfn⟩)) (by omega) (by omega) (kd1 h280 (by decide)) (wf_add (Nat.le_refl _) (by omega) wf_num (wf_add (m := s3.1) (by omega) (by omega) (wf_cons (m := s2.1) (by omega) (by omega) (wf.mono _ _ _ _ _ w2 (by omega) (Nat.le_refl _)) h3.2.2) (wf.mono _ _ _ _ _ h5.2.2 (by omega) (Nat.le_refl _))))⟩, h1.1, h1.2.2.2⟩
  unfold shE
  rw [if_neg (by decide), if_pos rfl]
  refine ⟨t, _, p :: r, e, rfl, fun y hy => ?_, h5.2.1⟩
  rcases List.mem_cons.mp hy with rfl | hy
  · exact shP_mono _ _ h2.2.1 _ (by omega)
  · exact shP_mono _ _ (h3.2.1 y hy) _ (by omega)
theorem Ok_fun (hV : ∀ t, K t = 280 → V t ≠ 0) (hP : PH K V P n) : OkI (shF V (2 * n + 801)) K s (pFun K V P d s) := by
  unfold pFun
  refine Ok.bd (Ok_sep (fun s => (Ok_clause (d := d) (s := s) hV hP).mono fun x s' h => h.1) s) fun l s1 h1 => ?_
  obtain ⟨g1, ⟨a, r, s5, rfl, ea⟩, g2, g3⟩ := h1
  have ha := Ok_clause (d := d) (s := s) hV hP
  rw [ea] at ha
  obtain ⟨-, ha1, ha2⟩ := ha
  change tkN a = s.1 at ha1
  exact Ok.i ⟨g1, ⟨s.1, a, r, rfl, ha1, g2⟩, wf_mk (y := .add (.num (V s.1)) (ls (a :: r))) (by decide) (fun z => absurd z (by decide)) (Nat.le_refl _) g1 (kd1 ha2 (by decide)) (wf_add (Nat.le_refl _) (by omega) wf_num g3)⟩
theorem Ok_dec (hV : ∀ t, K t = 280 → V t ≠ 0) (hP : PH K V P n) : OkI (shE V (2 * n + 802) 2) K s (pDec K V P d s) := by
  unfold pDec
  split
  · trivial
  · refine Ok.bd (Ok_take (s := (s.1, s.2.1 + 1, s.2.2))) fun t s1 h1 => ?_
    have e1 : t = s.1 := h1.1
    have e2 : s1.1 = s.1 + 1 := h1.2.1
    split
    · refine Ok.bd (hP.p1 (d := d) (s1.1, s1.2.1, 0)) fun p s2 h2 => Ok.bd Ok_expect fun _ s3 h3 => Ok.bd (hP.e (d := d) (Or.inl rfl) s3) fun e s4 h4 => ?_
      have h21 : s1.1 < s2.1 := h2.1
      have w2 : wf K p s1.1 s2.1 := h2.2.2
      refine Ok.i ⟨by omega, ?_, wf_mk (y := .add p e) (by decide) (fun z => absurd z (by decide)) (by omega) (by omega) (kd0 (by decide)) (wf_add (m := s2.1) (by omega) (by omega) (wf.mono _ _ _ _ _ w2 (by omega) (Nat.le_refl _)) (wf.mono _ _ _ _ _ h4.2.2 (by omega) (Nat.le_refl _)))⟩
      unfold shE
      rw [if_neg (by decide), if_neg (by decide)]
      exact Or.inl ⟨t, p, e, rfl, shP_mono _ _ h2.2.1 _ (by omega), shE_mono _ _ _ h4.2.1 _ (by omega)⟩
    split
    · refine Ok.bd (Ok_sep (fun s => Ok_fun (d := d) (s := s) hV hP) s1) fun l s2 h2 => ?_
      refine Ok.i ⟨by omega, ?_, wf_mk (by decide) (fun z => absurd z (by decide)) (by omega) (by omega) (kd0 (by decide)) (wf.mono _ _ _ _ _ h2.2.2.2 (by omega) (Nat.le_refl _))⟩
      unfold shE
      rw [if_neg (by decide), if_neg (by decide)]
      exact Or.inr (Or.inl ⟨t, l, rfl, h2.2.2.1⟩)
    · refine Ok.bd (Ok_sep (fun s => Ok_data (d := d) (s := s) hP) s1) fun l s2 h2 => ?_
      refine Ok.i ⟨by omega, ?_, wf_mk2 (Or.inr (Or.inr (Or.inr rfl))) (by omega) (by omega) (kd0 (by decide)) (wf.mono _ _ _ _ _ h2.2.2.2 (by omega) (Nat.le_refl _))⟩
      unfold shE
      rw [if_neg (by decide), if_neg (by decide)]
      refine Or.inr (Or.inr ⟨t, l, rfl, fun f hf => ?_⟩)
      obtain ⟨t', vs, cs, a1, a2, a3, a4⟩ := h2.2.2.1 f hf
      refine ⟨t', vs, cs, a1, a2, a3, fun c hc => ?_⟩
      obtain ⟨tc, y, b1, b2⟩ := a4 c hc
      exact ⟨tc, y, b1, b2.imp_right fun z => shT_mono _ _ z _ (by omega)⟩
theorem Ok_decS (hP : PH K V P n) : OkI (shE V (2 * n + 800) 2) K s (pDecS K P d s) := by
  unfold pDecS
  refine Ok.bd (hP.p6 (d := d) s) fun x s1 h1 => Ok.bd Ok_expect fun _ s2 h2 => ?_
  exact Ok.i ⟨by omega, h1.2.1, wf.mono _ _ _ _ _ h1.2.2 (Nat.le_refl _) (by omega)⟩
theorem Ok_arm (hP : PH K V P n) : OkI (shE V (2 * n + 801) 1) K s (pArm K P d s) := by
  unfold pArm
  refine Ok.bd (hP.p1 (d := d) (s.1, s.2.1, 0)) fun p s1 h1 => Ok.bd Ok_expect fun _ s2 h2 => Ok.bd (hP.e (d := d) (Or.inl rfl) s2) fun e s3 h3 => ?_
  have h11 : s.1 < s1.1 := h1.1
  have w1 : wf K p s.1 s1.1 := h1.2.2
  refine Ok.i ⟨by omega, ?_, wf_mk (y := .add (.num 0) (.add (ls [p]) e)) (by decide) (fun _ => rfl) (Nat.le_refl _) (by omega) ⟨fun z => ?_, fun z => by omega, fun z => by omega, fun z => by omega⟩ (wf_add (Nat.le_refl _) (by omega) wf_num (wf_add (m := s1.1) (by omega) (by omega) (wf_cons (m := s1.1) (by omega) (Nat.le_refl _) w1 wf_nil) (wf.mono _ _ _ _ _ h3.2.2 (by omega) (Nat.le_refl _))))⟩
  · unfold shE
    rw [if_neg (by decide), if_pos rfl]
    refine ⟨s.1, 0, [p], e, rfl, fun y hy => ?_, h3.2.1⟩
    rw [List.mem_singleton] at hy
    rw [hy]
    exact shP_mono _ _ h1.2.1 _ (by omega)
  · rcases z with z | z | z | z | z | ⟨-, z⟩
    · exact absurd z (by decide)
    · exact absurd z (by decide)
    · exact absurd z (by decide)
    · exact absurd z (by decide)
    · exact absurd z (by decide)
    · cases z
theorem Ok_match (hP : PH K V P n) : Ok (fun l s' => s.1 < s'.1 ∧ (∀ x, x ∈ l → shE V (2 * n + 801) 1 x) ∧ wf K (ls l) s.1 s'.1) (pMatch K P d s) := by
  unfold pMatch
  exact (Ok_sep (fun s => Ok_arm (d := d) (s := s) hP) s).mono fun l s' h => ⟨h.1, h.2.2.1, h.2.2.2⟩
theorem Ok_exp (hP : PH K V P n) : OkI (shE V (2 * n + 802) 0) K s (pExp K P d s) := by
  unfold pExp
  split
  · refine Ok.bd Ok_take fun t s1 h1 => Ok.bd (Ok_match hP) fun m s2 h2 => ?_
    refine Ok.i ⟨by omega, ?_, wf_mk (by decide) (fun z => absurd z (by decide)) (by omega) (by omega) (kd0 (by decide)) (wf.mono _ _ _ _ _ h2.2.2 (by omega) (Nat.le_refl _))⟩
    unfold shE
    rw [if_pos rfl]
    exact Or.inr (Or.inr (Or.inr (Or.inr (Or.inl ⟨t, m, rfl, h2.2.1⟩))))
  split
  · refine Ok.bd Ok_take fun t s1 h1 => Ok.bd (hP.e (d := d + 1) (Or.inl rfl) s1) fun e s2 h2 => Ok.bd Ok_expect fun _ s3 h3 => Ok.bd (Ok_match hP) fun m s4 h4 => ?_
    refine Ok.i ⟨by omega, ?_, wf_mk (y := .add e (ls m)) (by decide) (fun z => absurd z (by decide)) (by omega) (by omega) (kd0 (by decide)) (wf_add (m := s2.1) (by omega) (by omega) (wf.mono _ _ _ _ _ h2.2.2 (by omega) (Nat.le_refl _)) (wf.mono _ _ _ _ _ h4.2.2 (by omega) (Nat.le_refl _)))⟩
    unfold shE
    rw [if_pos rfl]
    exact Or.inr (Or.inr (Or.inr (Or.inr (Or.inr (Or.inl ⟨t, e, m, rfl, shE_mono _ _ _ h2.2.1 _ (by omega), h4.2.1⟩)))))
  split
  · refine Ok.bd Ok_take fun t s1 h1 => Ok.bd (hP.e (d := d + 1) (Or.inl rfl) s1) fun a s2 h2 => Ok.bd Ok_expect fun _ s3 h3 => Ok.bd (hP.e (d := d + 1) (Or.inl rfl) s3) fun b s4 h4 => Ok.bd Ok_expect fun _ s5 h5 => Ok.bd (hP.e (d := d + 1) (Or.inl rfl) s5) fun c s6 h6 => ?_
    refine Ok.i ⟨by omega, ?_, wf_mk (y := .add a (.add b c)) (by decide) (fun z => absurd z (by decide)) (by omega) (by omega) (kd0 (by decide)) (wf_add (m := s2.1) (by omega) (by omega) (wf.mono _ _ _ _ _ h2.2.2 (by omega) (Nat.le_refl _)) (wf_add (m := s4.1) (by omega) (by omega) (wf.mono _ _ _ _ _ h4.2.2 (by omega) (Nat.le_refl _)) (wf.mono _ _ _ _ _ h6.2.2 (by omega) (Nat.le_refl _))))⟩
    unfold shE
    rw [if_pos rfl]
    exact Or.inr (Or.inr (Or.inr (Or.inr (Or.inr (Or.inr (Or.inl ⟨t, a, b, c, rfl, shE_mono _ _ _ h2.2.1 _ (by omega), shE_mono _ _ _ h4.2.1 _ (by omega), shE_mono _ _ _ h6.2.1 _ (by omega)⟩))))))
  · exact (hP.e (d := d) (Or.inr (by decide)) s).mono fun x s' h => ⟨h.1, shE_mono _ _ _ h.2.1 _ (by omega), h.2.2⟩
end
