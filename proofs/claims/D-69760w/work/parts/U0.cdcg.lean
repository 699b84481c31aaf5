/-! THE COMPONENT'S TYPER: names that are declared become general -/
/-- the binders of l are marked general -/
def s128 (c : Cx) (h : AH) (l : List Nat) : AH := l.foldl (fun h t => pI h (c.Z.1 t) 128 1) h
section
variable {G : Gh} {c : Cx} {P : Nat → Prop} {s1 : Sx} {D m b M Pn t : Nat} {E0 : List (Nat × Tr)} {fs rt dp sz km : Nat → Nat} {Q : Outcome → AH → Prop} {h h0 h2 h' : AH} {vs pd V A : List Nat} {τ : Tb} {m1 m2 : Nat}
theorem s128_ap {l : List Nat} : s128 c h (l ++ [t]) = pI (s128 c h l) (c.Z.1 t) 128 1 := List.foldl_append ..
theorem s128_r : ∀ (l : List Nat) (h : AH), hK (s128 c h l) = hK h ∧ hL (s128 c h l) = hL h ∧ aI (s128 c h l) = aI h ∧ aJ (s128 c h l) = aJ h ∧ aR (s128 c h l) = aR h ∧ fJ (s128 c h l) = fJ h ∧ fR (s128 c h l) = fR h ∧ un (s128 c h l) = un h ∧ Le h (s128 c h l) none := by
  intro l
  induction l with
  | nil => intro h; exact ⟨rfl, rfl, rfl, rfl, rfl, rfl, rfl, rfl, Le.rf0⟩
  | cons t l ih =>
    intro h
    obtain ⟨a1, a2, a3, a4, a5, a6, a7, a8, a9⟩ := ih (pI h (c.Z.1 t) 128 1)
    exact ⟨a1, a2, a3, a4, a5, a6, a7, a8.trans (un_pI ..), (pI_le (Or.inl (by decide))).tr a9⟩
theorem s128_fI : ∀ (l : List Nat) (h : AH) (a g : Nat), (g ≠ 128 → fI (s128 c h l) a g = fI h a g) ∧ ((∀ t, t ∈ l → a ≠ c.Z.1 t) → fI (s128 c h l) a g = fI h a g) := by
  intro l
  induction l with
  | nil => intro h a g; exact ⟨fun _ => rfl, fun _ => rfl⟩
  | cons t l ih =>
    intro h a g
    obtain ⟨i1, i2⟩ := ih (pI h (c.Z.1 t) 128 1) a g
    refine ⟨fun hg => (i1 hg).trans ?_, fun hn => (i2 fun t' ht' => hn t' (List.mem_cons_of_mem _ ht')).trans ?_⟩
    · rw [fI_pI, if_neg fun z => hg z.2]
    · rw [fI_pI, if_neg fun z => hn t (List.mem_cons_self ..) z.1]
theorem s128_1 : ∀ (l : List Nat) (h : AH) (t : Nat), t ∈ l → fI (s128 c h l) (c.Z.1 t) 128 = 1 := by
  intro l
  induction l with
  | nil => intro h t ht; cases ht
  | cons a l ih =>
    intro h t ht
    by_cases q : ∃ t', t' ∈ l ∧ c.Z.1 t = c.Z.1 t'
    · obtain ⟨t', h1, h2⟩ := q
      rw [h2]
      exact ih (pI h (c.Z.1 a) 128 1) t' h1
    · have hta : t = a := (List.mem_cons.mp ht).resolve_right fun w => q ⟨t, w, rfl⟩
      refine ((s128_fI l (pI h (c.Z.1 a) 128 1) (c.Z.1 t) 128).2 fun t' ht' e => q ⟨t', ht', e⟩).trans ?_
      rw [fI_pI, if_pos ⟨by rw [hta], rfl⟩]
theorem GI.p128 (I : GI G h0 h M Pn τ fs rt m1 m2 V A) (hk : hK h0 b = 13) : GI G (pI h0 b 128 1) (pI h b 128 1) M Pn τ fs rt m1 m2 V A := by
  obtain ⟨⟨⟨sA, e36, e37, hM, hPn, hA⟩, nm, T⟩, i2, i3, i4⟩ := I
  have f : ∀ h a g, g ≠ 128 → fI (pI h b 128 1) a g = fI h a g := fun h a g hg => by rw [fI_pI, if_neg fun z => hg z.2]
  refine ⟨⟨⟨sA.le (pI_le (Or.inl (by decide))), (f h _ 36 (by decide)).trans e36, (f h _ 37 (by decide)).trans e37, hM, hPn, hA⟩, fun x hx hn => ?_, fun a ha => ?_, ?_, ?_⟩, i2, i3, i4⟩
  · obtain ⟨n1, b', n3, n4, n5⟩ := nm x hx hn
    exact ⟨n1, b', n3, n4, (f h _ 51 (by decide)).trans n5⟩
  · have u := T.1 a ha
    refine ⟨u.1, u.2.1, u.2.2.1, u.2.2.2.1, u.2.2.2.2.1, fun g => ⟨?_, (u.2.2.2.2.2 g).2.1, (u.2.2.2.2.2 g).2.2⟩⟩
    rw [fI_pI, fI_pI]
    split
    · rfl
    · exact (u.2.2.2.2.2 g).1
  · rw [un_pI, un_pI]
    exact T.2.1
  · obtain ⟨⟨l1, l2⟩, l3⟩ := T.2.2
    refine ⟨⟨l1, l2⟩, fun a ha => ?_⟩
    obtain ⟨g1, g2, g3⟩ := l3 a ha
    refine ⟨g1, g2, fun hne g hg => ?_⟩
    have hg128 : g ≠ 128 := fun e => by rw [e] at hg; exact absurd hg (by decide)
    obtain ⟨y1, y2, y3⟩ := g3 hne g hg
    exact ⟨by rw [f h a g hg128, f h0 a g hg128]; exact y1, y2, y3⟩
/-- names become general one behind another -/
theorem dec_121 (k : XS G c P s1) (hE : s1.E = E0 ++ pd.zip (vs.map fun x => Int.Internal.Linear.Expr.var x)) (hl : vs.length = pd.length) (T2 : FTy G s1.h h2) (sf : SF s1.M s1.t rt dp) (kc : KC s1.M s1.t (· < s1.M)) (gr : ∀ x, x < s1.M → uN s1.t x = -2 → uS s1.t x = none) (hz : SZ s1.M s1.t rt sz) (k1 : ∀ x, x < s1.M → km x = km (rt x)) (k2 : ∀ x, x < s1.M → 0 ≤ uN s1.t x → ∀ p, p ∈ uP s1.t x → km p < km x)
    (hEc : ∀ z, z < s1.M → mkd G h2 m1 z → ∀ p, p ∈ pc s1.t z → mkd G h2 m1 (rt p)) (hs0 : ∀ z, z < s1.M → ¬ mkd G h2 m2 z) (fl0 : ∀ x, x < s1.M → uS s1.t x = none → aI h2 (gW G 1032) x = -2 → ¬ cln s1.M s1.t x) (hms : m1 < m2) (hm2 : m2 < 2147483648) (hvs : ∀ v, v ∈ vs → cln s1.M s1.t v ∧ sz v ≤ 60) (hD5 : 70 ≤ D)
    (hQ : ∀ h V, GI G (s128 c h2 pd) h s1.M s1.Pn s1.t fs rt m1 m2 V [] → fI h (gW G 2) 38 = nI m2 → (∀ v, v ∈ vs → rt v ∈ V ∨ mkd G h2 m1 (rt v)) → (∀ K : Nat → Prop, KC s1.M s1.t K → (∀ v, v ∈ vs → K v) → ∀ z, z ∈ V → K z) → Q (.returned none) h) :
    ∀ f i h V, vs.length - i < f → i ≤ vs.length → GI G (s128 c h2 (pd.take i)) h s1.M s1.Pn s1.t fs rt m1 m2 V [] → fI h (gW G 2) 38 = nI m2 → (∀ v, v ∈ vs.take i → rt v ∈ V ∨ mkd G h2 m1 (rt v)) → (∀ K : Nat → Prop, KC s1.M s1.t K → (∀ v, v ∈ vs.take i → K v) → ∀ z, z ∈ V → K z) → X G mX11_declared (D + 1) none [] 121 [(0, .ref (gW G 6)), (4, .int (nI m1)), (5, .int (nI m2)), (6, .int (nI (E0.length + i)))] [] h Q := by
  obtain ⟨en1, en2⟩ := k.en
  have hEl : s1.E.length = E0.length + vs.length := by rw [hE, List.length_append, List.length_zip, List.length_map, hl, Nat.min_self]
  have sA := k.sA
  have k6 : hK s1.h (gW G 6) = 10 := (sA.at (i := 6) (by decide)).1
  have v6 := fty_u sA T2 (Or.inl k6)
  have sA2 : SoA G h2 := sA.le T2.2.2
  intro f
  induction f with
  | zero => intro i h V hf; omega
  | succ f IH =>
    intro i h V hf hi I e38 hdone hmin
    obtain ⟨⟨ty, nm, T⟩, i2, i3, i4⟩ := id I
    have sAh := ty.1
    obtain ⟨a1, a2, a3, a4, a5, a6, a7, a8, a9⟩ := s128_r (c := c) (pd.take i) h2
    have sA0 : SoA G (s128 c h2 (pd.take i)) := sA2.le a9
    have u6 := fty_u sA0 T (a := gW G 6) (Or.inl (by rw [a1, v6.1]; exact k6))
    have e112 : fI h (gW G 6) 112 = nI s1.E.length := by rw [(u6.2.2.2.2.2 112).1, (s128_fI _ _ _ _).1 (by decide), (v6.2.2.2.2.2 112).1]; exact en1
    refine bX11_declared_121 G D h _ _ _ _ (sAh.at (by decide)) (sAh.at (by decide)) ?_
    rw [e112, nI_leI (by omega) (by omega)]
    refine ⟨fun hle => ?_, fun hle => ?_⟩
    · have ei : i = vs.length := by omega
      rw [ei, List.take_of_length_le (by omega)] at I
      rw [ei, List.take_of_length_le (Nat.le_refl _)] at hdone hmin
      exact hQ h V I e38 hdone hmin
    · obtain ⟨v, hv⟩ : ∃ v, vs[i]? = some v := ⟨_, List.getElem?_eq_getElem (by omega)⟩
      obtain ⟨t, ht⟩ : ∃ t, pd[i]? = some t := ⟨_, List.getElem?_eq_getElem (by omega)⟩
      obtain ⟨ba, g1, g2, g3, g3', g4, g5, g6, g7⟩ := k.nod (i := E0.length + i) (t := t) (v := v) (by
        rw [hE, List.getElem?_append_right (by omega), Nat.add_sub_cancel_left, List.getElem?_zip_eq_some]
        exact ⟨ht, by rw [List.getElem?_map, hv]; rfl⟩)
      have vb := fty_u sA T2 (Or.inr (Or.inl g2))
      have vx := fty_u sA T2 (Or.inr (Or.inr g5))
      have rd : ∀ h', FTy G (s128 c h2 (pd.take i)) h' → fR h' (gW G 6) 111 = some ba ∧ hK h' ba = 1007 ∧ hL h' ba = hL s1.h ba ∧ aR h' ba (E0.length + i) = some (c.Z.1 t) ∧ hK h' (c.Z.1 t) = 13 ∧ fI h' (c.Z.1 t) 127 = nI v := fun h' T' => by
        have w6 := fty_u sA0 T' (a := gW G 6) (Or.inl (by rw [a1, v6.1]; exact k6))
        have wb := fty_u sA0 T' (a := ba) (Or.inr (Or.inl (by rw [a1, vb.1]; exact g2)))
        have wx := fty_u sA0 T' (a := c.Z.1 t) (Or.inr (Or.inr (by rw [a1, vx.1]; exact g5)))
        refine ⟨by rw [(w6.2.2.2.2.2 111).2.2, a7, (v6.2.2.2.2.2 111).2.2]; exact g1, by rw [wb.1, a1, vb.1]; exact g2, by rw [wb.2.1, a2, vb.2.1], by rw [wb.2.2.2.2.1, a5, vb.2.2.2.2.1]; exact g4, by rw [wx.1, a1, vx.1]; exact g5, ?_⟩
        rw [(wx.2.2.2.2.2 127).1, (s128_fI _ _ _ _).1 (by decide), (vx.2.2.2.2.2 127).1]
        exact g6
      obtain ⟨r1, r2, r3, r4, r5, r6⟩ := rd h T
      obtain ⟨cv, szv⟩ := hvs v (List.mem_of_getElem? hv)
      refine ⟨ba, r1, r2, by rw [r3]; exact vp_i g3 (by omega), c.Z.1 t, by rw [nI_cn (by omega)]; exact r4, r5, ?_⟩
      rw [r6]
      have mk0 : ∀ m z, mkd G (s128 c h2 (pd.take i)) m z ↔ mkd G h2 m z := fun m z => by unfold mkd; rw [a3]
      refine C.use (c_gen (h0 := s128 c h2 (pd.take i)) (Pn := s1.Pn) (fs := fs) k.hD sf kc gr hz k1 k2 (fun z hz' hm p hp => (mk0 _ _).mpr (hEc z hz' ((mk0 _ _).mp hm) p hp)) (fun z hz' hm => hs0 z hz' ((mk0 _ _).mp hm)) (fun x hx hn e => fl0 x hx hn (by rw [← a3]; exact e)) hms hm2 60 v D h V [] szv g7 cv (by omega) (fun a ha => (by cases ha)) I) (by decide) ?_
      rintro o h9 ⟨V', I', hsub, hr, hmin', ho⟩ l -
      have e38' : fI h9 (gW G 2) 38 = nI m2 := by rw [l.fi (sAh.at (i := 2) (by decide)).1 (by decide) (by decide +kernel)]; exact e38
      obtain ⟨q1, q2, q3, q4, q5, q6⟩ := rd h9 I'.1.2.2
      have etk : ∀ (l : List Nat) (y : Nat), l[i]? = some y → l.take (i + 1) = l.take i ++ [y] := fun l y hy => by
        rw [List.take_add_one, hy]
        rfl
      have nxt : ∀ h19, h19 = pI h9 (c.Z.1 t) 128 1 → ∀ x20 : Int32, x20 = nI (E0.length + i) + 1 → X G mX11_declared (D + 1) none [] 121 [(0, .ref (gW G 6)), (4, .int (nI m1)), (5, .int (nI m2)), (6, .int x20)] [] h19 Q := by
        rintro h19 e19 _ rfl
        rw [nI_1, Nat.add_assoc]
        refine IH (i + 1) h19 V' (by omega) (by omega) ?_ (by rw [e19, fI_pI, if_neg fun z => absurd z.2 (by decide)]; exact e38') (fun w hw => ?_) (fun K hK hw z hz' => ?_)
        · rw [e19, etk pd t ht, s128_ap]
          exact I'.p128 (by rw [a1, vx.1]; exact g5)
        · rw [etk vs v hv] at hw
          rcases List.mem_append.mp hw with e | e
          · exact (hdone w e).imp (hsub _) id
          · rw [(List.mem_cons.mp e).resolve_right fun z => by cases z]
            exact hr.imp id (mk0 _ _).mp
        · rw [etk vs v hv] at hw
          rcases hmin' K hK (hw v (List.mem_append_right _ (List.mem_cons_self ..))) z hz' with e | e
          · exact hmin K hK (fun w hw' => hw w (List.mem_append_left _ hw')) z e
          · exact e
      have fin : ∃ b12, fR h9 (gW G 6) 111 = some b12 ∧ (hK h9 b12 = 1007 ∧ vp_in (nI (E0.length + i)) (hL h9 b12) ∧ ∃ b16, aR h9 b12 (nI (E0.length + i)).toNatClampNeg = some b16 ∧ (hK h9 b16 = 13 ∧ (∀ h19, h19 = pI h9 b16 128 1 → (∀ x20 : Int32, x20 = nI (E0.length + i) + 1 → (X G mX11_declared (D + 1) none [] 121 [(0, .ref (gW G 6)), (4, .int (nI m1)), (5, .int (nI m2)), (6, .int (x20))] [] h19 Q))))) := ⟨ba, q1, q2, by rw [q3]; exact vp_i g3 (by omega), c.Z.1 t, by rw [nI_cn (by omega)]; exact q4, q5, nxt⟩
      rcases ho with ⟨rfl, -⟩ | ⟨rfl, -⟩
      · exact KI.i fin
      · exact KI.i fin
end
