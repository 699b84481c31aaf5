/-! THE COMPONENT'S TYPER: one more name in sight -/
/-- but for the typer, rows of names and names all stays -/
def Unt (h h' : AH) : Prop := (∀ a, hK h a ≠ 0 → hK h a ≠ 10 → hK h a ≠ 1007 → hK h a ≠ 13 → Uf h h' a) ∧ Le h h' none
section
variable {G : Gh} {d M Pn m a b n ba cap q : Nat} {h h0 h1 h2 h' : AH} {τ : Tb} {fs : Nat → Nat}
theorem Unt.rf : Unt h h := ⟨fun _ _ _ _ _ => Uf.rf, Le.rf0⟩
theorem Unt.tr (u : Unt h h1) (v : Unt h1 h2) : Unt h h2 := by
  refine ⟨fun a h1 h2 h3 h4 => ?_, u.2.tr v.2⟩
  have e := (u.1 a h1 h2 h3 h4).1
  exact (u.1 a h1 h2 h3 h4).tr (v.1 a (by rw [e]; exact h1) (by rw [e]; exact h2) (by rw [e]; exact h3) (by rw [e]; exact h4))
theorem tyc_k2 (sA : SoA G h) : ∀ i, i ∈ TyC → hK h (gW G i) ≠ 0 ∧ hK h (gW G i) ≠ 10 ∧ hK h (gW G i) ≠ 1007 ∧ hK h (gW G i) ≠ 13 := fun i hi => by
  have s2 := sA.at (i := 2) (by decide)
  unfold TyC at hi
  simp only [List.mem_cons, List.not_mem_nil, or_false] at hi
  rcases hi with rfl | rfl | rfl | rfl | rfl | rfl | rfl | rfl | rfl
  · rw [s2.1]; decide
  · rw [kw1030 s2]; decide
  · rw [kw1031 s2]; decide
  · rw [kw1032 s2]; decide
  · rw [kw1033 s2]; decide
  · rw [kw1034 s2]; decide
  · rw [kw1035 s2]; decide
  · rw [kw1039 s2]; decide
  · rw [kw1046 s2]; decide
/-- the table of types stays -/
theorem TT.unt (k0 : TT G h M Pn τ m) (u : Unt h h') : TT G h' M Pn τ m ∧ Ev G h M τ h' M τ := by
  obtain ⟨fs, rt, dp, k, nm, sf, mk, hp, fl, b3⟩ := k0
  have sA := k.1
  have U : ∀ i, i ∈ TyC → Uf h h' (gW G i) := fun i hi => by
    obtain ⟨c1, c2, c3, c4⟩ := tyc_k2 sA i hi
    exact u.1 _ c1 c2 c3 c4
  have A : ∀ i, i ∈ TyC → ∀ j, aI h' (gW G i) j = aI h (gW G i) j := fun i hi j => by rw [(U i hi).2.2.1]
  have F : ∀ g, fI h' (gW G 2) g = fI h (gW G 2) g := fun g => ((U 2 (by decide)).2.2.2.2.2 g).1
  have s2 := sA.at (i := 2) (by decide)
  have u40 : Uf h h' (gW G 1040) := u.1 _ (by rw [kw1040 s2]; decide) (by rw [kw1040 s2]; decide) (by rw [kw1040 s2]; decide) (by rw [kw1040 s2]; decide)
  obtain ⟨-, e36, e37, hM, hPn, hA⟩ := id k
  refine ⟨⟨fs, rt, dp, ⟨sA.le u.2, (F 36).trans e36, (F 37).trans e37, hM, hPn, fun x hx => ?_⟩, fun x hx hn => ?_, sf, ⟨(F 38).trans mk.1, fun z hz => by rw [A 1033 (by decide)]; exact mk.2 z hz⟩, hp, ⟨fun x hx hn e => fl.1 x hx hn (by rw [← A 1032 (by decide)]; exact e), fl.2⟩, b3⟩, Nat.le_refl _, fun _ q => q, fun _ q => q, fun y s q ⟨K, g1, g2, g3⟩ => ⟨q, K, g1, g2, fun z hz hn c => by rw [A 1032 (by decide)]; exact g3 z hz hn c⟩⟩
  · obtain ⟨b1, b2, b3, b4, b5, b6⟩ := hA x hx
    rw [A 1030 (by decide), A 1031 (by decide), A 1032 (by decide)]
    exact ⟨b1, b2, b3, b4, b5, fun k p hp => by rw [A 1035 (by decide)]; exact b6 k p hp⟩
  · obtain ⟨n1, b, n3, n4, n5⟩ := nm x hx hn
    have ub := u.1 b (by rw [n4]; decide) (by rw [n4]; decide) (by rw [n4]; decide) (by rw [n4]; decide)
    exact ⟨n1, b, by rw [u40.2.2.2.2.1]; exact n3, ub.1.trans n4, (ub.2.2.2.2.2 51).1.trans n5⟩
/-- names stand in the row ba -/
def PuQ (G : Gh) (h : AH) (n ba cap b : Nat) : Outcome → AH → Prop := fun o h' => o = .returned none ∧ ∃ ba' cap', fR h' (gW G 6) 111 = some ba' ∧ (hK h' ba' = 1007 ∧ Ns (gW G) ba' ∧ hL h' ba' = cap') ∧ fI h' (gW G 6) 112 = nI (n + 1) ∧ (∀ i, i < n → aR h' ba' i = aR h ba i) ∧ aR h' ba' n = some b ∧ (∀ a, hK h a ≠ 0 → a ≠ gW G 6 → a ≠ ba → Uf h h' a) ∧ (ba' = ba ∨ hK h ba' = 0) ∧ Le h h' none ∧ ((cap' = cap ∧ n < cap ∧ un h' = un h) ∨ (cap' = 2 * cap ∧ cap = n ∧ un h' = un h + 16 + 2 * cap))
theorem c_push (hD : DW (gW G)) (sA : SoA G h) (e1 : fR h (gW G 6) 111 = some ba) (e2 : hK h ba = 1007 ∧ Ns (gW G) ba ∧ hL h ba = cap) (e3 : 64 ≤ cap ∧ cap ≤ 5200 ∧ n ≤ cap) (e4 : fI h (gW G 6) 112 = nI n) (e5 : ∀ i, i < n → ∃ x, aR h ba i = some x ∧ hK h x = 13) (hb : hK h b = 13) (hu : n = cap → un h + 16 + 2 * cap ≤ UB) : C G mX11_push d [.ref (gW G 6), .ref b] h (PuQ G h n ba cap b) := by
  have s6 := sA.at (i := 6) (by decide)
  have k6 : hK h (gW G 6) = 10 := s6.1
  have b6 : ba ≠ gW G 6 := fun e => by have := e2.1; rw [e, k6] at this; cases this
  refine bX11_push G d h _ _ s6 ⟨ba, e1, e2.1, ?_⟩
  rw [e4, e2.2.2, show Int32.ofNat cap = nI cap from rfl, nI_eq (by omega) (by omega)]
  refine ⟨fun hc => ?_, fun hc => ⟨ba, e1, e2.1, e2.2.1, by rw [e2.2.2]; exact vp_in_nI (by omega) (by omega), Or.inl ⟨12, by decide, hb, Or.inl rfl⟩, fun h9 e9 h12 e12 => ?_⟩⟩
  · have hu := hu hc
    have c2 : (2 : Int32) * nI n = nI (2 * n) := by
      rw [i_eq, show (2 : Int32) = nI 2 from rfl, i_mul, nI_toInt (by omega), nI_toInt (by omega), nI_toInt (by omega)]
      · omega
      · rw [nI_toInt (by omega), nI_toInt (by omega)]; omega
      · rw [nI_toInt (by omega), nI_toInt (by omega)]; omega
    rw [c2, nI_cn (by omega)]
    obtain ⟨r1, r2⟩ := un_rm (h := h) (n := 2 * n) (by omega)
    refine ⟨nI_pos (by omega), r1, r2, fun q hq h17 e17 => ?_⟩
    have hns : Ns (gW G) q := sA.ns hq
    have hqb : q ≠ ba := fun e => by have := e2.1; rw [← e, hq] at this; cases this
    have hq6 : q ≠ gW G 6 := fun e => by rw [← e, hq] at k6; cases k6
    have lp : ∀ f i hh, n - i < f → i ≤ n → (∀ a, hK h a ≠ 0 → Uf h hh a) → hK hh q = 1007 → hL hh q = 2 * n → (∀ j, j < i → aR hh q j = aR h ba j) → un hh = un h + 16 + 2 * n → Le h hh none → X G mX11_push d none [] 24 [(0, .ref (gW G 6)), (1, .ref b), (2, .ref q), (3, .int (nI i))] [] hh (PuQ G h n ba cap b) := by
      intro f
      induction f with
      | zero => intro i hh hf; omega
      | succ f IH =>
        intro i hh hf hi fx qk ql qe hU le
        have u6 := fx (gW G 6) (by rw [k6]; decide)
        have ub := fx ba (by rw [e2.1]; decide)
        have e1' : fR hh (gW G 6) 111 = some ba := ((u6.2.2.2.2.2 111).2.2).trans e1
        have e4' : fI hh (gW G 6) 112 = nI n := ((u6.2.2.2.2.2 112).1).trans e4
        refine bX11_push_24 G d hh _ _ _ _ ((sA.le le).at (by decide)) ?_
        rw [e4', nI_leI (by omega) (by omega)]
        refine ⟨fun hle h2 e2' => ?_, fun hle => ?_⟩
        · have ei : i = n := by omega
          have k2 : hK h2 = hK hh := by rw [e2']; rfl
          have l2 : hL h2 = hL hh := by rw [e2']; rfl
          have f2 : fI h2 = fI hh := by rw [e2']; rfl
          have a2 : aR h2 = aR hh := by rw [e2']; rfl
          rw [f2, e4', nI_cn (by omega)]
          refine ⟨q, by rw [e2', fR_pR, if_pos ⟨rfl, rfl⟩], by rw [k2]; exact qk, hns, by rw [l2, ql]; exact vp_in_nI (by omega) (by omega), Or.inl ⟨12, by decide, by rw [k2, (fx b (by rw [hb]; decide)).1]; exact hb, Or.inl rfl⟩, fun h7 e7 => ?_⟩
          have f7 : fI h7 = fI hh := by rw [e7, fI_sR, f2]
          rw [f7, e4', nI_1]
          intro h10 e10
          have le10 : Le h h10 none := le.tr (((show Le hh h2 none by rw [e2']; exact pR_le (Or.inl (by decide))).tr (show Le h2 h7 none by rw [e7]; exact sR_le)).tr (show Le h7 h10 none by rw [e10]; exact pI_le (Or.inl (by decide))))
          have kq : ∀ x, hK h10 x = hK hh x := fun x => by rw [e10, hK_pI, e7, hK_sR, k2]
          have lq : ∀ x, hL h10 x = hL hh x := fun x => by rw [e10, hL_pI, e7, hL_sR, l2]
          refine ⟨rfl, q, 2 * cap, ?_, ⟨(kq q).trans qk, hns, by rw [lq, ql, hc]⟩, ?_, fun j hj => ?_, ?_, fun x hx h6 hx2 => ?_, Or.inr hq, le10, Or.inr ⟨rfl, hc.symm, ?_⟩⟩
          · rw [e10, fR_pI, e7, fR_sR, e2', fR_pR, if_pos ⟨rfl, rfl⟩]
          · rw [e10, fI_pI, if_pos ⟨rfl, rfl⟩]
          · rw [e10, aR_pI, e7, aR_sR, if_neg (fun z => by omega), a2]
            exact qe j (by omega)
          · rw [e10, aR_pI, e7, aR_sR, if_pos ⟨rfl, rfl⟩]
          · have hxq : x ≠ q := fun e => hx (by rw [e]; exact hq)
            have u := fx x hx
            refine ⟨by rw [kq]; exact u.1, by rw [lq]; exact u.2.1, ?_, ?_, ?_, fun g => ⟨?_, ?_, ?_⟩⟩
            · rw [← u.2.2.1, e10, aI_pI, e7, aI_sR, e2', aI_pR]
            · rw [← u.2.2.2.1, e10, aJ_pI, e7, aJ_sR, e2', aJ_pR]
            · rw [← u.2.2.2.2.1]
              funext j
              rw [e10, aR_pI, e7, aR_sR, if_neg (fun z => hxq z.1), a2]
            · rw [e10, fI_pI, if_neg (fun z => h6 z.1), f7]; exact (u.2.2.2.2.2 g).1
            · rw [← (u.2.2.2.2.2 g).2.1, e10, fJ_pI, e7, fJ_sR, e2', fJ_pR]
            · rw [← (u.2.2.2.2.2 g).2.2, e10, fR_pI, e7, fR_sR, e2', fR_pR, if_neg (fun z => h6 z.1)]
          · rw [e10, un_pI, e7, un_sR, e2', un_pR, hU, hc]
        · obtain ⟨x, hx1, hx2⟩ := e5 i (by omega)
          rw [nI_cn (by omega)]
          refine ⟨ba, e1', ub.1.trans e2.1, by rw [ub.2.1, e2.2.2]; exact vp_in_nI (by omega) (by omega), x, by rw [ub.2.2.2.2.1]; exact hx1, qk, hns, by rw [ql]; exact vp_in_nI (by omega) (by omega), Or.inl ⟨12, by decide, ((fx x (by rw [hx2]; decide)).1).trans hx2, Or.inl rfl⟩, fun h22 e22 => ?_⟩
          rintro _ rfl
          rw [nI_1]
          refine IH (i + 1) h22 (by omega) (by omega) (fun y hy => ?_) (by rw [e22]; exact qk) (by rw [e22]; exact ql) (fun j hj => ?_) (by rw [e22, un_sR]; exact hU) (le.tr (by rw [e22]; exact sR_le))
          · have hyq : y ≠ q := fun e => hy (by rw [e]; exact hq)
            have u := fx y hy
            refine ⟨by rw [e22]; exact u.1, by rw [e22]; exact u.2.1, by rw [e22]; exact u.2.2.1, by rw [e22]; exact u.2.2.2.1, ?_, fun g => by rw [e22]; exact u.2.2.2.2.2 g⟩
            rw [← u.2.2.2.2.1]
            funext j
            rw [e22, aR_sR, if_neg (fun z => hyq z.1)]
          · rw [e22, aR_sR]
            by_cases c : j = i
            · rw [if_pos ⟨rfl, c⟩, c]; exact hx1.symm
            · rw [if_neg (fun z => c z.2)]; exact qe j (by omega)
    refine lp (n + 1) 0 h17 (by omega) (by omega) (fun x hx => ?_) (by rw [e17, hK_nA, if_pos rfl]) (by rw [e17, hL_nA, if_pos rfl]) (fun j hj => by omega) (by rw [e17, un_nA]) (by rw [e17]; exact nA_le hq)
    have hne : x ≠ q := fun e => hx (by rw [e]; exact hq)
    rw [e17]
    refine ⟨by rw [hK_nA, if_neg hne], by rw [hL_nA, if_neg hne], ?_, ?_, ?_, fun g => ⟨rfl, rfl, rfl⟩⟩
    · funext y; rw [aI_nA, if_neg hne]
    · funext y; rw [aJ_nA, if_neg hne]
    · funext y; rw [aR_nA, if_neg hne]
  · rw [nI_cn (by omega)] at e9
    have f9 : fI h9 = fI h := by rw [e9]; rfl
    rw [f9, e4, nI_1] at e12
    refine ⟨rfl, ba, cap, by rw [e12, fR_pI, e9]; exact e1, ⟨by rw [e12, hK_pI, e9]; exact e2.1, e2.2.1, by rw [e12, hL_pI, e9]; exact e2.2.2⟩, by rw [e12, fI_pI, if_pos ⟨rfl, rfl⟩], fun j hj => ?_, ?_, fun x hx h6 hx2 => ?_, Or.inl rfl, (show Le h h9 none by rw [e9]; exact sR_le).tr (show Le h9 h12 none by rw [e12]; exact pI_le (Or.inl (by decide))), Or.inl ⟨rfl, by omega, by rw [e12, un_pI, e9, un_sR]⟩⟩
    · rw [e12, aR_pI, e9, aR_sR, if_neg (fun z => by omega)]
    · rw [e12, aR_pI, e9, aR_sR, if_pos ⟨rfl, rfl⟩]
    · refine ⟨by rw [e12, hK_pI, e9]; rfl, by rw [e12, hL_pI, e9]; rfl, by rw [e12, aI_pI, e9]; rfl, by rw [e12, aJ_pI, e9]; rfl, ?_, fun g => ⟨?_, by rw [e12, fJ_pI, e9]; rfl, by rw [e12, fR_pI, e9]; rfl⟩⟩
      · funext j
        rw [e12, aR_pI, e9, aR_sR, if_neg (fun z => hx2 z.1)]
      · rw [e12, fI_pI, if_neg (fun z => h6 z.1), f9]
end
