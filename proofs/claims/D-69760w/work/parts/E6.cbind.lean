/-! THE COMPONENT'S SCOPE: a name is bound -/
def updF (f : Nat → Nat) (t B : Nat) : Nat → Nat := fun x => if x = t then B else f x
theorem nt_nt (N : Option (Nat × Nat)) (x : Nat × Nat) : nt (nt N x) x = nt N x := by
  cases N with
  | none => unfold nt; simp
  | some y =>
    unfold nt
    by_cases c : y.1 < x.1 ∨ (y.1 = x.1 ∧ y.2 ≤ x.2)
    · simp only [if_pos c]
    · simp only [if_neg c]
      split <;> rfl
def RKb : List Nat := [3, 4, 6, 7, 13, 53, 54, 1004, 1006]
section
variable {G : Gh} {d : Nat} {W : Nat → Prop} {h h1 h2 h' : AH} {ts : List (Nat × Nat × Nat)} {t i v n nb nb' r q g fr ba : Nat} {N : Option (Nat × Nat)} {Z : (Nat → Nat) × (Nat → Nat) × (Nat → Nat)} {O : List (Nat × Nat) × List (Nat × Nat)} {s s' : RSt} {Bd' : Nat → Nat} {V' : List (Nat × Nat)}
theorem RS.mvB (k : RS G W h ts Z O s nb) (c : TkC G h' ts) (u : UK RKb h h') (bn : BNs G h' Bd' V' nb') (hN : NF G h' N) (hl : ∀ a, hK h a ≠ 0 → hK h' a = hK h a) : RS G W h' ts (Bd', Z.2) O (V', s.2.1, s.2.2.1, s.2.2.2.1, s.2.2.2.2.1, N) nb' := by
  obtain ⟨k1, k2, k3, k4, k5, k6, k7, k8, k9, k10, k11, k12⟩ := k
  have k41 : fI h' (gW G 2) 41 = fI h (gW G 2) 41 := ((u (gW G 2) (by rw [(k1.1.at (i := 2) (by decide)).1]; decide)).2.2.2.2.2 41).1
  have uR : UK [6, 7, 1004] h h' := u.sub (by decide)
  refine ⟨c, hN, k3.mv (u.sub (by decide)), bn, k5.mv (u.sub (by decide)), k6.mv (k1.1.at (by decide)) (u.sub (by decide)) k41, k7.mv uR, ?_, ?_, ?_, k11.mv k1.1 (u.sub (by decide)), k12.mv (u.sub (by decide)) hl⟩
  · obtain ⟨⟨U, -, ⟨n, k2⟩, -⟩, -⟩ := k6
    exact k8.mv k2 uR
  · obtain ⟨⟨n, k2⟩, -⟩ := k5
    exact k9.mv k2 uR
  · obtain ⟨n, k2⟩ := k7
    exact k10.mv k2 uR
/-- tokens stay when cells of some kinds do -/
theorem TkC.le (c : TkC G h ts) (l : Le h h' none) (hu : ∀ i, i = 1 ∨ i = 1024 ∨ i = 1025 ∨ i = 1026 ∨ i = 1027 → Uk h h' (gW G i)) : TkC G h' ts := ⟨c.1.le l, c.2.1.uk (c.1.at (by decide)) hu, c.2.2⟩
theorem tk_kind (s1 : So 1 (gW G) h) : ∀ i, i = 1 ∨ i = 1024 ∨ i = 1025 ∨ i = 1026 ∨ i = 1027 → hK h (gW G i) ≠ 0 ∧ hK h (gW G i) ≠ 8 ∧ hK h (gW G i) ≠ 1007 ∧ hK h (gW G i) ≠ 1006 ∧ hK h (gW G i) ≠ 6 ∧ hK h (gW G i) ≠ 1004 ∧ hK h (gW G i) ≠ 3 := by
  intro i hi
  rcases hi with rfl | rfl | rfl | rfl | rfl
  · rw [s1.1]; decide
  · rw [kw1024 s1]; decide
  · rw [kw1025 s1]; decide
  · rw [kw1026 s1]; decide
  · rw [kw1027 s1]; decide
/-- the new binding, where the row has room -/
theorem bind_put {Q : Outcome → AH → Prop} (k : RS G W h ts Z O s nb) (hl : (rV s).length < hL h ba) (ht : t < ts.length) (hk : Kd ts t = 280) (htV : ∀ x, x ∈ rV s → x.2 ≠ t) (hu : un h + 23 ≤ UB) (e82 : fR h (gW G 4) 82 = some ba)
    (hQ : ∀ q h', hK h q = 0 → RS G W h' ts (updF Z.1 t q, Z.2) O ((Vl ts t, t) :: s.1, s.2) nb → (∀ a, hK h a ≠ 0 → a ≠ gW G 4 → a ≠ ba → Uf h h' a) → un h' = un h + 23 → hK h' q = 13 → Le h h' none → fR h' (gW G 4) 82 = some ba → Q (.returned (some (.ref q))) h') :
    (hc h + 1 ≤ MC) ∧ (hs h + 7 ≤ MS) ∧ ∀ q6, hK h q6 = 0 → ∀ h8, h8 = nO h q6 12 → (vp_in (nI t) 4098 ∧ (vp_in (nI t) 4098 ∧ (C G mX14_init (d + 1) [.ref (q6), .long (aJ h8 (gW G 1026) (nI t).toNatClampNeg), .long (aJ h8 (gW G 1027) (nI t).toNatClampNeg)] h8 (KV Q (fun h13 => ∀ h15, h15 = pI h13 q6 129 (fI h13 (gW G 4) 84) → (∃ b16, fR h15 (gW G 4) 82 = some b16 ∧ (hK h15 b16 = 1007 ∧ Ns (gW G) b16 ∧ vp_in (fI h15 (gW G 4) 83) (hL h15 b16) ∧ AOK G h15 q6 7 "LetMill$Binding" ∧ ∀ h20, h20 = sR h15 b16 (fI h15 (gW G 4) 83).toNatClampNeg (some q6) → (∀ h23, h23 = pI h20 (gW G 4) 83 ((fI h20 (gW G 4) 83) + 1) → (∀ h24, h24 = pI h23 (gW G 4) 84 ((fI h23 (gW G 4) 84) + 1) → (Q (.returned (some (.ref (q6)))) h24)))))))))) := by
  obtain ⟨k1, k2, k3, k4, k5, k6, k7, k8, k9, k10, k11⟩ := id k
  obtain ⟨ba', b1, b2', b3, b5, b6, b7, b8, b9, b10, b11⟩ := id k4
  cases e82.symm.trans b1
  have hlen := k1.2.2.2.1
  have hrm := un_rm (n := 7) (h := h) (by omega)
  have s4 := k1.1.at (i := 4) (by decide)
  have h8 : hK h (gW G 4) = 8 := s4.1
  refine ⟨hrm.1, hrm.2, fun q hq => ?_⟩
  rintro _ rfl
  have nm := (k1.at ht).2 (Or.inl hk)
  have hq4 : gW G 4 ≠ q := fun e => by rw [e, hq] at h8; cases h8
  have hqb : ba ≠ q := fun e => by rw [e, hq] at b2'; cases b2'
  have hb4 : ba ≠ gW G 4 := fun e => by rw [e, h8] at b2'; cases b2'
  refine ⟨vp_in_nI (by omega) (by decide), vp_in_nI (by omega) (by decide), ?_⟩
  rw [nI_cn (by omega), aJ_nO]
  refine bX14_init G (d + 1) (Nat.le_add_left _ _) _ _ _ _ _ ⟨by rw [hK_nO, if_pos rfl], ?_⟩
  rintro _ rfl _ rfl
  refine KV.i ?_
  rintro _ rfl
  have e84 : fI (pJ (pJ (nO h q 12) q 125 (aJ h (gW G 1026) t)) q 126 (aJ h (gW G 1027) t)) (gW G 4) 84 = nI (rV s).length := by rw [fI_pJ, fI_pJ, fI_nO, if_neg hq4]; exact b10
  rw [e84]
  generalize hA : pJ (pJ (nO h q 12) q 125 (aJ h (gW G 1026) t)) q 126 (aJ h (gW G 1027) t) = hx
  have x83 : fI (pI hx q 129 (nI (rV s).length)) (gW G 4) 83 = nI (rV s).length := by rw [fI_pI, if_neg (fun e => hq4 e.1), ← hA, fI_pJ, fI_pJ, fI_nO, if_neg hq4]; exact b9
  have x84 : fI (pI hx q 129 (nI (rV s).length)) (gW G 4) 84 = nI (rV s).length := by rw [fI_pI, if_neg (fun e => hq4 e.1)]; exact (by rw [← hA]; exact e84)
  have xR : ∀ a g, a ≠ q → fR (pI hx q 129 (nI (rV s).length)) a g = fR h a g := fun a g hn => by rw [fR_pI, ← hA, fR_pJ, fR_pJ, fR_nO, if_neg hn]
  have xI : ∀ a g, a ≠ q → fI (pI hx q 129 (nI (rV s).length)) a g = fI h a g := fun a g hn => by rw [fI_pI, if_neg (fun e => hn e.1), ← hA, fI_pJ, fI_pJ, fI_nO, if_neg hn]
  have xJ : ∀ a g, a ≠ q → fJ (pI hx q 129 (nI (rV s).length)) a g = fJ h a g := fun a g hn => by rw [fJ_pI, ← hA, fJ_pJ, if_neg (fun e => hn e.1), fJ_pJ, if_neg (fun e => hn e.1), fJ_nO, if_neg hn]
  have xK : ∀ a, a ≠ q → hK (pI hx q 129 (nI (rV s).length)) a = hK h a := fun a hn => by rw [hK_pI, ← hA, hK_pJ, hK_pJ, hK_nO, if_neg hn]
  have xL : hL (pI hx q 129 (nI (rV s).length)) = hL h := by rw [hL_pI, ← hA]; rfl
  have xAI : aI (pI hx q 129 (nI (rV s).length)) = aI h := by rw [aI_pI, ← hA]; rfl
  have xAJ : aJ (pI hx q 129 (nI (rV s).length)) = aJ h := by rw [aJ_pI, ← hA]; rfl
  have xAR : aR (pI hx q 129 (nI (rV s).length)) = aR h := by rw [aR_pI, ← hA]; rfl
  have xKq : hK (pI hx q 129 (nI (rV s).length)) q = 13 := by rw [hK_pI, ← hA, hK_pJ, hK_pJ, hK_nO, if_pos rfl]
  have xNq : NmC (fJ (pI hx q 129 (nI (rV s).length)) q 125) (fJ (pI hx q 129 (nI (rV s).length)) q 126) (Vl ts t) := by
    rw [fJ_pI, ← hA, fJ_pJ, if_neg (fun e => absurd e.2 (by decide)), fJ_pJ, if_pos ⟨rfl, rfl⟩, fJ_pJ, if_pos ⟨rfl, rfl⟩]
    exact nm
  have xIq : fI (pI hx q 129 (nI (rV s).length)) q 129 = nI (rV s).length := by rw [fI_pI, if_pos ⟨rfl, rfl⟩]
  have xu : un (pI hx q 129 (nI (rV s).length)) = un h + 23 := by
    rw [un_pI, ← hA]
    show un (nO h q 12) = _
    rw [un_nO]; rfl
  have xc : hc h ≤ hc (pI hx q 129 (nI (rV s).length)) ∧ hs h ≤ hs (pI hx q 129 (nI (rV s).length)) := by
    rw [hc_pI, hs_pI, ← hA]
    exact ⟨Nat.le_succ _, Nat.le_add_right _ _⟩
  generalize pI hx q 129 (nI (rV s).length) = hy at *
  rw [x83]
  refine ⟨ba, (xR _ 82 hq4).trans b1, (xK ba hqb).trans b2', b3, by rw [xL]; exact vp_in_nI hl (by omega), Or.inl ⟨12, by decide, xKq, Or.inl rfl⟩, ?_⟩
  rw [nI_cn (by omega)]
  rintro _ rfl _ rfl
  rw [fI_sR, x83, nI_1]
  rintro _ rfl
  rw [fI_pI, if_neg (fun e => absurd e.2 (by decide)), fI_sR, x84, nI_1]
  have F : ∀ a, hK h a ≠ 0 → a ≠ gW G 4 → a ≠ ba → Uf h (pI (pI (sR hy ba (rV s).length (some q)) (gW G 4) 83 (nI ((rV s).length + 1))) (gW G 4) 84 (nI ((rV s).length + 1))) a := by
    intro a ha h4 hb
    have hna : a ≠ q := fun e => ha (by rw [e]; exact hq)
    refine ⟨by rw [hK_pI, hK_pI, hK_sR]; exact xK a hna, by rw [hL_pI, hL_pI, hL_sR, xL], by rw [aI_pI, aI_pI, aI_sR, xAI], by rw [aJ_pI, aJ_pI, aJ_sR, xAJ], ?_, fun g => ⟨?_, ?_, ?_⟩⟩
    · funext y
      rw [aR_pI, aR_pI, aR_sR, if_neg (fun e => hb e.1), xAR]
    · rw [fI_pI, if_neg (fun e => h4 e.1), fI_pI, if_neg (fun e => h4 e.1), fI_sR]; exact xI a g hna
    · rw [fJ_pI, fJ_pI, fJ_sR]; exact xJ a g hna
    · rw [fR_pI, fR_pI, fR_sR]; exact xR a g hna
  have le : Le h (pI (pI (sR hy ba (rV s).length (some q)) (gW G 4) 83 (nI ((rV s).length + 1))) (gW G 4) 84 (nI ((rV s).length + 1))) none := by
    refine ⟨xc, fun a ha => ?_⟩
    have hna : a ≠ q := fun e => ha (by rw [e]; exact hq)
    refine ⟨by rw [hK_pI, hK_pI, hK_sR]; exact xK a hna, by rw [hL_pI, hL_pI, hL_sR, xL], fun _ g hg => ⟨?_, ?_, ?_⟩⟩
    · rw [fI_pI, if_neg (fun e => by rw [e.2] at hg; exact absurd hg (by decide)), fI_pI, if_neg (fun e => by rw [e.2] at hg; exact absurd hg (by decide)), fI_sR]; exact xI a g hna
    · rw [fJ_pI, fJ_pI, fJ_sR]; exact xJ a g hna
    · rw [fR_pI, fR_pI, fR_sR]; exact xR a g hna
  have tk := tk_kind (k1.1.at (i := 1) (by decide))
  have ub : UK RKb h (pI (pI (sR hy ba (rV s).length (some q)) (gW G 4) 83 (nI ((rV s).length + 1))) (gW G 4) 84 (nI ((rV s).length + 1))) := by
    intro a ha
    refine F a (fun e => by rw [e] at ha; exact absurd ha (by decide)) (fun e => by rw [e, h8] at ha; exact absurd ha (by decide)) fun e => by rw [e, b2'] at ha; exact absurd ha (by decide)
  refine hQ q _ hq ?_ F (by rw [un_pI, un_pI, un_sR]; exact xu) (by rw [hK_pI, hK_pI, hK_sR]; exact xKq) le (by rw [fR_pI, fR_pI, fR_sR]; exact (xR _ 82 hq4).trans b1)
  refine k.mvB (V' := (Vl ts t, t) :: rV s) (Bd' := updF Z.1 t q) (k1.le le fun i hi => (F _ (tk i hi).1 (fun e => (tk i hi).2.1 (by rw [e]; exact h8)) fun e => (tk i hi).2.2.1 (by rw [e]; exact b2')).uk) ub ⟨ba, ?_, ?_, b3, ?_, ?_, ?_, ?_, ?_, ?_, fun p x hx => ?_⟩ ?_ fun a ha => (le.2 a ha).1
  · rw [fR_pI, fR_pI, fR_sR]; exact (xR _ 82 hq4).trans b1
  · rw [hK_pI, hK_pI, hK_sR]; exact (xK ba hqb).trans b2'
  · rw [hL_pI, hL_pI, hL_sR, xL, rcap_uk k5 k6 k7 (ub.sub (by decide))]; exact b5
  · rw [hL_pI, hL_pI, hL_sR, xL]; exact b6
  · rw [hL_pI, hL_pI, hL_sR, xL]; exact b7
  · rw [List.length_cons, hL_pI, hL_pI, hL_sR, xL]; omega
  · rw [fI_pI, if_neg (fun e => absurd e.2 (by decide)), fI_pI, if_pos ⟨rfl, rfl⟩]; rfl
  · rw [fI_pI, if_pos ⟨rfl, rfl⟩]; rfl
  · rw [List.length_cons]
    cases p with
    | zero =>
      cases hx
      have eu : updF Z.1 t q t = q := by unfold updF; rw [if_pos rfl]
      show aR _ ba ((rV s).length + 1 - 1 - 0) = some (updF Z.1 t q t) ∧ BO _ (updF Z.1 t q t) (Vl ts t) (nI ((rV s).length + 1 - 1 - 0))
      rw [eu, show (rV s).length + 1 - 1 - 0 = (rV s).length by omega]
      refine ⟨by rw [aR_pI, aR_pI, aR_sR, if_pos ⟨rfl, rfl⟩], by rw [hK_pI, hK_pI, hK_sR]; exact xKq, by rw [fJ_pI, fJ_pI, fJ_sR]; exact xNq, ?_⟩
      rw [fI_pI, if_neg (fun e => hq4 e.1.symm), fI_pI, if_neg (fun e => hq4 e.1.symm), fI_sR]
      exact xIq
    | succ p =>
      have hx' : (rV s)[p]? = some x := by simpa using hx
      have hpl := (List.getElem?_eq_some_iff.mp hx').1
      obtain ⟨g1, g2, g3, g4⟩ := b11 p x hx'
      have eu : updF Z.1 t q x.2 = Z.1 x.2 := by unfold updF; rw [if_neg (htV x (List.mem_of_getElem? hx'))]
      rw [eu, show (rV s).length + 1 - 1 - (p + 1) = (rV s).length - 1 - p by omega]
      have f := F (Z.1 x.2) (by rw [g2]; decide) (fun e => (by rw [e, h8] at g2; cases g2)) (fun e => (by rw [e, b2'] at g2; cases g2))
      refine ⟨?_, f.1.trans g2, by rw [(f.2.2.2.2.2 125).2.1, (f.2.2.2.2.2 126).2.1]; exact g3, (f.2.2.2.2.2 129).1.trans g4⟩
      rw [aR_pI, aR_pI, aR_sR, if_neg (fun e => by omega), xAR]
      exact g1
  · show NF G _ (rN s)
    have e91 : ∀ g, g = 91 ∨ g = 92 → fI (pI (pI (sR hy ba (rV s).length (some q)) (gW G 4) 83 (nI ((rV s).length + 1))) (gW G 4) 84 (nI ((rV s).length + 1))) (gW G 4) g = fI h (gW G 4) g := by
      intro g hg
      rw [fI_pI, if_neg (fun e => by omega), fI_pI, if_neg (fun e => by omega), fI_sR]
      exact xI _ g hq4
    cases hn : rN s with
    | none => rw [hn] at k2; exact (e91 91 (by decide)).trans k2
    | some y =>
      rw [hn] at k2
      exact ⟨(e91 91 (by decide)).trans k2.1, (e91 92 (by decide)).trans k2.2.1, k2.2.2⟩
end
