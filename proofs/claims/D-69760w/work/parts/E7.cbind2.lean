/-! THE COMPONENT'S SCOPE: binding, with all that it looks at -/
section
variable {G : Gh} {d : Nat} {W : Nat → Prop} {h h1 h2 h' : AH} {ts : List (Nat × Nat × Nat)} {t i v n nb nb' r q g fr ba : Nat} {N : Option (Nat × Nat)} {Z : (Nat → Nat) × (Nat → Nat) × (Nat → Nat)} {O : List (Nat × Nat) × List (Nat × Nat)} {s s' : RSt} {gs : List Nat}
theorem NF.mv (k : NF G h N) (e1 : fI h' (gW G 4) 91 = fI h (gW G 4) 91) (e2 : fI h' (gW G 4) 92 = fI h (gW G 4) 92) : NF G h' N := by
  cases N with
  | none => exact e1.trans k
  | some y => exact ⟨e1.trans k.1, e2.trans k.2.1, k.2.2⟩
theorem S4.tr (a : S4 G gs h h1) (b : S4 G gs h1 h2) : S4 G gs h h2 := by
  obtain ⟨⟨a1, ⟨a2, a3, a4, a5, a6⟩, a7⟩, a8⟩ := a
  obtain ⟨⟨b1, ⟨b2, b3, b4, b5, b6⟩, b7⟩, b8⟩ := b
  exact ⟨⟨⟨b1.1.trans a1.1, b1.2.trans a1.2⟩, ⟨b2.trans a2, b3.trans a3, b4.trans a4, b5.trans a5, b6.trans a6⟩, fun x g hx => ⟨(b7 x g hx).1.trans (a7 x g hx).1, (b7 x g hx).2.1.trans (a7 x g hx).2.1, (b7 x g hx).2.2.trans (a7 x g hx).2.2⟩⟩, fun g hg => ⟨(b8 g hg).1.trans (a8 g hg).1, (b8 g hg).2.1.trans (a8 g hg).2.1, (b8 g hg).2.2.trans (a8 g hg).2.2⟩⟩
/-- behind a binding; V0: how many names there were -/
def bdP (G : Gh) (W : Nat → Prop) (h : AH) (ts : List (Nat × Nat × Nat)) (Z : (Nat → Nat) × (Nat → Nat) × (Nat → Nat)) (O : List (Nat × Nat) × List (Nat × Nat)) (s' : RSt) (t nb V0 : Nat) : Outcome → AH → Prop := fun o h' => ∃ q nb', o = .returned (some (.ref q)) ∧ hK h q = 0 ∧ hK h' q = 13 ∧ RS G W h' ts (updF Z.1 t q, Z.2) O s' nb' ∧ (∀ a, hK h a ≠ 0 → a ≠ gW G 4 → fR h (gW G 4) 82 ≠ some a → Uf h h' a) ∧ (∀ a, fR h' (gW G 4) 82 = some a → fR h (gW G 4) 82 = some a ∨ hK h a = 0) ∧ Le h h' none ∧ un h' + 3 * nb ≤ un h + 3 * nb' + 23 ∧ (nb' = nb ∨ nb' ≤ 2 * V0 + 15600)
theorem bind_73 {Q : Outcome → AH → Prop} {U n0 : Nat} (hl : (rV s).length = n0) (hnb : n0 ≤ 1300) (ht : t < ts.length) (hk : Kd ts t = 280) (htV : ∀ x, x ∈ rV s → x.2 ≠ t) (hu : U + 23 ≤ UB) (hqf : hK h q = 0) (hNs : Ns (gW G) q)
    (hQ : ∀ B h', hK h B = 0 → RS G W h' ts (updF Z.1 t B, Z.2) O ((Vl ts t, t) :: s.1, s.2) (nb + n0) → (∀ a, hK h a ≠ 0 → a ≠ gW G 4 → Uf h h' a) → un h' = U + 23 → hK h' B = 13 → Le h h' none → fR h' (gW G 4) 82 = some q → Q (.returned (some (.ref B))) h') :
    ∀ f i h1, n0 - i < f → i ≤ n0 → RS G W h1 ts Z O s nb → fR h1 (gW G 4) 82 = some ba → hL h1 ba = n0 → hK h1 q = 1007 → hL h1 q = 2 * n0 → q ≠ ba → (∀ j, j < i → aR h1 q j = aR h1 ba j) → (∀ a, hK h a ≠ 0 → Uf h h1 a) → un h1 = U → Le h h1 none →
    X G mX9_bind (d + 2) none [] 73 [(0, .ref (gW G 4)), (1, .int (nI t)), (3, .ref q), (4, .int (nI i))] [] h1 Q := by
  intro f
  induction f with
  | zero => intro i h1 hf; omega
  | succ f IH =>
    intro i h1 hf hi k e82 bl qk ql hne qe fx hU le
    obtain ⟨k1, k2, k3, k4, k5, k6, k7, k8, k9, k10, k11⟩ := id k
    obtain ⟨ba', b1, b2', b3, b5, b6, b7, b8, b9, b10, b11⟩ := id k4
    cases e82.symm.trans b1
    have h8 : hK h1 (gW G 4) = 8 := (k1.1.at (i := 4) (by decide)).1
    have hq4 : q ≠ gW G 4 := fun e => by rw [e, h8] at qk; cases qk
    refine bX9_bind_73 G (d + 1) h1 _ _ _ _ (k1.1.at (by decide)) (k1.1.at (by decide)) ?_
    rw [b9, nI_leI (by omega) (by omega)]
    refine ⟨fun z => ?_, fun z => ?_⟩
    · intro h2 e2
      have w : WQ (gW G 4) h1 h2 := by rw [e2]; exact WQ.rf.pR
      have e82' : fR h2 (gW G 4) 82 = some q := by rw [e2, fR_pR, if_pos ⟨rfl, rfl⟩]
      have le2 : Le h1 h2 none := by rw [e2]; exact pR_le (Or.inl (by decide))
      have fI4 : ∀ g, fI h2 (gW G 4) g = fI h1 (gW G 4) g := fun g => by rw [e2, fI_pR]
      have tk := tk_kind (k1.1.at (i := 1) (by decide))
      have c2 : TkC G h2 ts := k1.le le2 fun j hj => (w.uf fun e => (tk j hj).2.1 (by rw [e]; exact h8)).uk
      have uk2 : UK RKb h1 h2 := w.UK (by rw [h8]; decide)
      have nf2 : NF G h2 (rN s) := by
        cases hn : rN s with
        | none => rw [hn] at k2; exact (fI4 91).trans k2
        | some y => rw [hn] at k2; exact ⟨(fI4 91).trans k2.1, (fI4 92).trans k2.2.1, k2.2.2⟩
      have l2 : hL h2 q = 2 * n0 := by rw [w.2.1.2.1]; exact ql
      have kR : RS G W h2 ts Z O s (nb + n0) := by
        refine k.mvB (V' := rV s) (Bd' := Z.1) c2 uk2 ⟨q, e82', by rw [w.2.1.1]; exact qk, hNs, by rw [l2, rcap_uk k5 k6 k7 (uk2.sub (by decide))]; omega, by rw [l2]; omega, by rw [l2]; omega, by rw [l2]; omega, (fI4 83).trans b9, (fI4 84).trans b10, fun p x hx => ?_⟩ nf2 fun a ha => (le2.2 a ha).1
        obtain ⟨g1, g2, g3, g4⟩ := b11 p x hx
        have hp := (List.getElem?_eq_some_iff.mp hx).1
        have f := w.uf (a := Z.1 x.2) fun e => by rw [e, h8] at g2; cases g2
        refine ⟨?_, f.1.trans g2, by rw [(f.2.2.2.2.2 125).2.1, (f.2.2.2.2.2 126).2.1]; exact g3, (f.2.2.2.2.2 129).1.trans g4⟩
        rw [w.2.1.2.2.2.2, qe _ (by omega)]
        exact g1
      have u2 : un h2 = U := by rw [w.un]; exact hU
      have put := bind_put (d := d) (Q := Q) kR (by rw [l2]; omega) ht hk htV (by omega) e82' fun B h' a1 a2 a3 a4 a5 a6 a8 => by
        refine hQ B h' ?_ a2 (fun a ha h4 => ?_) (by rw [a4, u2]) a5 ⟨⟨Nat.le_trans (Nat.le_trans le.1.1 le2.1.1) a6.1.1, Nat.le_trans (Nat.le_trans le.1.2 le2.1.2) a6.1.2⟩, fun a ha => ?_⟩ a8
        · refine Classical.byContradiction fun hn => ?_
          have := (fx B hn).1
          rw [w.2.1.1, this] at a1
          exact hn a1
        · have u1 := fx a ha
          have uw := w.uf h4
          refine (u1.tr uw).tr (a3 a ?_ h4 fun e => ha (by rw [e]; exact hqf))
          rw [uw.1, u1.1]; exact ha
        · have l1 := le.2 a ha
          have l2 := le2.2 a (by rw [l1.1]; exact ha)
          have l3 := a6.2 a (by rw [l2.1, l1.1]; exact ha)
          exact ⟨l3.1.trans (l2.1.trans l1.1), l3.2.1.trans (l2.2.1.trans l1.2.1), fun hx g hg => ⟨(l3.2.2 hx g hg).1.trans ((l2.2.2 hx g hg).1.trans (l1.2.2 hx g hg).1), (l3.2.2 hx g hg).2.1.trans ((l2.2.2 hx g hg).2.1.trans (l1.2.2 hx g hg).2.1), (l3.2.2 hx g hg).2.2.trans ((l2.2.2 hx g hg).2.2.trans (l1.2.2 hx g hg).2.2)⟩⟩
      exact put
    · have hil : i < (rV s).length := by omega
      obtain ⟨g1, g2, g3, g4⟩ := b11 ((rV s).length - 1 - i) _ (List.getElem?_eq_getElem (by omega))
      rw [show (rV s).length - 1 - ((rV s).length - 1 - i) = i by omega] at g1
      rw [nI_cn (by omega)]
      refine ⟨ba, b1, b2', vp_in_nI (by omega) (by omega), _, g1, qk, hNs, by rw [ql]; exact vp_in_nI (by omega) (by omega), Or.inl ⟨12, by decide, g2, Or.inl rfl⟩, ?_⟩
      intro h2 e2
      rintro _ rfl
      rw [nI_1]
      have AR : ∀ a j, ¬ (a = q ∧ j = i) → aR h2 a j = aR h1 a j := fun a j hn => by rw [e2, aR_sR, if_neg hn]
      have ARq : aR h2 q i = some (Z.1 (rV s)[(rV s).length - 1 - i].2) := by rw [e2, aR_sR, if_pos ⟨rfl, rfl⟩]
      have le2 : Le h1 h2 none := by rw [e2]; exact sR_le
      have F : ∀ a, a ≠ q → Uf h1 h2 a := fun a hn => ⟨by rw [e2]; rfl, by rw [e2]; rfl, by rw [e2]; rfl, by rw [e2]; rfl, funext fun y => AR a y fun e => hn e.1, fun g => by rw [e2]; exact ⟨rfl, rfl, rfl⟩⟩
      have hk2 : hK h2 = hK h1 := by rw [e2]; rfl
      have hl2 : hL h2 = hL h1 := by rw [e2]; rfl
      have fi2 : fI h2 = fI h1 := by rw [e2]; rfl
      have fr2 : fR h2 = fR h1 := by rw [e2]; rfl
      have fj2 : fJ h2 = fJ h1 := by rw [e2]; rfl
      have un2 : un h2 = un h1 := by rw [e2]; rfl
      have tk := tk_kind (k1.1.at (i := 1) (by decide))
      have kR : RS G W h2 ts Z O s nb := by
        refine k.mvB (V' := rV s) (Bd' := Z.1) (k1.le le2 fun j hj => (F _ fun e => (tk j hj).2.2.1 (by rw [e]; exact qk)).uk) (fun a ha => F a fun e => by rw [e, qk] at ha; exact absurd ha (by decide)) ⟨ba, by rw [fr2]; exact b1, by rw [hk2]; exact b2', b3, by rw [hl2, rcap_uk k5 k6 k7 (fun a ha => F a fun e => by rw [e, qk] at ha; exact absurd ha (by decide))]; exact b5, by rw [hl2]; exact b6, by rw [hl2]; exact b7, by rw [hl2]; exact b8, by rw [fi2]; exact b9, by rw [fi2]; exact b10, fun p x hx => ?_⟩ ?_ fun a ha => (le2.2 a ha).1
        · obtain ⟨g1, g2, g3, g4⟩ := b11 p x hx
          exact ⟨by rw [AR ba _ fun e => hne e.1.symm]; exact g1, by rw [hk2]; exact g2, by rw [fj2]; exact g3, by rw [fi2]; exact g4⟩
        · exact k2.mv (by rw [fi2]) (by rw [fi2])
      refine IH (i + 1) h2 (by omega) (by omega) kR (by rw [fr2]; exact e82) (by rw [hl2]; exact bl) (by rw [hk2]; exact qk) (by rw [hl2]; exact ql) hne (fun j hj => ?_) (fun a ha => (fx a ha).tr (F a fun e => ha (by rw [e]; exact hqf))) (by rw [un2]; exact hU) ?_
      · rw [AR ba j fun e => hne e.1.symm]
        by_cases ej : j = i
        · subst ej; rw [ARq, g1]
        · rw [AR q j fun e => ej e.2]; exact qe j (by omega)
      · refine ⟨⟨Nat.le_trans le.1.1 le2.1.1, Nat.le_trans le.1.2 le2.1.2⟩, fun a ha => ?_⟩
        have l1 := le.2 a ha
        have l2 := le2.2 a (by rw [l1.1]; exact ha)
        exact ⟨l2.1.trans l1.1, l2.2.1.trans l1.2.1, fun hx g hg => ⟨(l2.2.2 hx g hg).1.trans (l1.2.2 hx g hg).1, (l2.2.2 hx g hg).2.1.trans (l1.2.2 hx g hg).2.1, (l2.2.2 hx g hg).2.2.trans (l1.2.2 hx g hg).2.2⟩⟩
theorem S4.le (k : S4 G gs h h') (hg : ∀ g, g ∈ gs → gfin g = false) : Le h h' none := by
  refine ⟨⟨Nat.le_of_eq k.1.1.1.symm, Nat.le_of_eq k.1.1.2.symm⟩, fun a ha => ?_⟩
  by_cases e : a = gW G 4
  · subst e
    refine ⟨by rw [k.1.2.1.1], by rw [k.1.2.1.2.1], fun _ g hf => k.2 g fun hm => ?_⟩
    rw [hg g hm] at hf
    cases hf
  · have := k.1.uf e
    exact ⟨this.1, this.2.1, fun _ g _ => this.2.2.2.2.2 g⟩
theorem rNote_rIf {pl : Nat → Nat} {b : Bool} : rNote pl n t (rIf pl b n t s) = rNote pl n t s := by
  cases b with
  | false => rfl
  | true =>
    show rNote pl n t (rNote pl n t s) = _
    unfold rNote
    simp only [nt_nt]
theorem rIf_1 {pl : Nat → Nat} {b : Bool} : (rIf pl b n t s).1 = s.1 := by cases b <;> rfl
theorem bind_2 (k : RS G W h ts Z O s nb) (ht : t < ts.length) (hk : Kd ts t = 280) (htV : ∀ x, x ∈ rV s → x.2 ≠ t) (hu : un h + 3 * (rV s).length + 39 ≤ UB) (hnb : (rV s).length ≤ 1300) :
    ∀ f i h1, (rV s).length - i < f → fr ≤ i → i ≤ (rV s).length → S4 G [91, 92] h h1 → RS G W h1 ts Z O (rIf (Pl ts) ((((rV s).take ((rV s).length - fr)).drop ((rV s).length - i)).any fun p => p.1 == Vl ts t) 3 t s) nb →
    X G mX9_bind (d + 2) none [] 2 [(0, .ref (gW G 4)), (1, .int (nI t)), (3, .int (nI i))] [] h1 (bdP G W h ts Z O (rBind (Pl ts) fr t (Vl ts t) s) t nb (rV s).length) := by
  have h8 : hK h (gW G 4) = 8 := (k.1.1.at (i := 4) (by decide)).1
  intro f
  induction f with
  | zero => intro i h1 hf; omega
  | succ f IH =>
    intro i h1 hf hfi hi s4 k1
    obtain ⟨c1, c2, c3, c4, c5, c6, c7, c8, c9, c10, c11⟩ := id k1
    obtain ⟨ba, b1, b2', b3, b5, b6, b7, b8, b9, b10, b11⟩ := id c4
    have eV : rV (rIf (Pl ts) ((((rV s).take ((rV s).length - fr)).drop ((rV s).length - i)).any fun p => p.1 == Vl ts t) 3 t s) = rV s := rIf_1
    rw [eV] at b8 b9 b10 b11
    refine bX9_bind_2 G (d + 1) h1 _ _ _ (c1.1.at (by decide)) (c1.1.at (by decide)) ?_
    rw [b9, nI_leI (by omega) (by omega)]
    refine ⟨fun z => ⟨ba, b1, b2', ?_⟩, fun z => ?_⟩
    · have ei : i = (rV s).length := by omega
      subst ei
      rw [Nat.sub_self, List.drop_zero] at k1 eV
      have fin : ∀ B h' nb', hK h1 B = 0 → RS G W h' ts (updF Z.1 t B, Z.2) O ((Vl ts t, t) :: (rIf (Pl ts) (((rV s).take ((rV s).length - fr)).any fun p => p.1 == Vl ts t) 3 t s).1, (rIf (Pl ts) (((rV s).take ((rV s).length - fr)).any fun p => p.1 == Vl ts t) 3 t s).2) nb' → (∀ a, hK h1 a ≠ 0 → a ≠ gW G 4 → a ≠ ba → Uf h1 h' a) → un h' + 3 * nb ≤ un h + 3 * nb' + 23 → hK h' B = 13 → Le h1 h' none → (∀ a, fR h' (gW G 4) 82 = some a → a = ba ∨ hK h1 a = 0) → (nb' = nb ∨ nb' ≤ 2 * (rV s).length + 15600) → bdP G W h ts Z O (rBind (Pl ts) fr t (Vl ts t) s) t nb (rV s).length (.returned (some (.ref B))) h' := by
        intro B h' nb' a1 a2 a3 a4 a5 a6 a8 a7
        have e82 : fR h (gW G 4) 82 = some ba := (s4.2 82 (by decide)).2.2.symm.trans b1
        refine ⟨B, nb', rfl, by rw [← s4.1.2.1.1]; exact a1, a5, ?_, fun a ha hn4 h7' => ?_, fun a ha => ?_, (s4.le (by decide)).tr a6, a4, a7⟩
        · rw [rIf_1] at a2; exact a2
        · have u1 := s4.1.uf hn4
          exact u1.tr (a3 a (by rw [u1.1]; exact ha) hn4 fun e => h7' (by rw [e]; exact e82))
        · rcases a8 a ha with e | e
          · exact Or.inl (by rw [e]; exact e82)
          · exact Or.inr (by rw [← s4.1.2.1.1]; exact e)
      have htV1 : ∀ x, x ∈ rV (rIf (Pl ts) (((rV s).take ((rV s).length - fr)).any fun p => p.1 == Vl ts t) 3 t s) → x.2 ≠ t := by rw [eV]; exact htV
      have u1 : un h1 = un h := s4.1.un
      rw [show Int32.ofNat (hL h1 ba) = nI (hL h1 ba) from rfl, nI_eq (by omega) (by omega)]
      refine ⟨fun z => ?_, fun z => ?_⟩
      · have e2 : (2 : Int32) * nI (rV s).length = nI (2 * (rV s).length) := by
          rw [i_eq, i_mul, nI_toInt (by omega), nI_toInt (by omega)]
          · show (2 : Int) * _ = _; omega
          · rw [nI_toInt (by omega)]; show _ ≤ (2 : Int) * _; omega
          · rw [nI_toInt (by omega)]; show (2 : Int) * _ ≤ _; omega
        rw [e2, nI_cn (by omega)]
        have hr := un_rm (n := 2 * (rV s).length) (h := h1) (by omega)
        refine ⟨by rw [Int32.lt_iff_toInt_lt, nI_toInt (by omega)]; show ¬ (_ : Int) < 0; omega, hr.1, hr.2, fun q hq => ?_⟩
        intro h2 e2
        have hne : q ≠ ba := fun e => by rw [e, b2'] at hq; cases hq
        have pA : KP h1 h2 := by rw [e2]; exact KP.rf.nA hq
        have F : ∀ a, hK h1 a ≠ 0 → Uf h1 h2 a := by
          intro a ha
          have hn : a ≠ q := fun e => ha (by rw [e]; exact hq)
          obtain ⟨p1, p2, p3, p4, p5, p6⟩ := pA.2 a ha
          exact ⟨p1, p2, p3, p4, p5, fun g => by rw [e2]; exact ⟨rfl, rfl, rfl⟩⟩
        have le2 : Le h1 h2 none := by rw [e2]; exact nA_le hq
        have tk := tk_kind (c1.1.at (i := 1) (by decide))
        have g4 := F (gW G 4) (by rw [(c1.1.at (i := 4) (by decide)).1]; decide)
        have kR := k1.mv (c1.le le2 fun j hj => (F _ (tk j hj).1).uk) (fun a ha => F a fun e => by rw [e] at ha; exact absurd ha (by decide)) (g4.2.2.2.2.2 82).2.2 (g4.2.2.2.2.2 83).1 (g4.2.2.2.2.2 84).1 (s' := rIf (Pl ts) (((rV s).take ((rV s).length - fr)).any fun p => p.1 == Vl ts t) 3 t s) ?_ ⟨rfl, rfl, rfl, rfl, rfl⟩ fun a ha => (le2.2 a ha).1
        · refine bind_73 (h := h1) (U := un h1 + 16 + 2 * (rV s).length) (n0 := (rV s).length) (by rw [eV]) (by omega) ht hk htV1 (by omega) hq (c1.1.ns hq) (fun B h' a1 a2 a3 a4 a5 a6 a8 => ?_) ((rV s).length + 1) 0 h2 (by omega) (by omega) kR ((g4.2.2.2.2.2 82).2.2.trans b1) (by rw [(F ba (by rw [b2']; decide)).2.1]; exact z.symm) (by rw [e2, hK_nA, if_pos rfl]) (by rw [e2, hL_nA, if_pos rfl]) hne (fun j hj => by omega) F (by rw [e2, un_nA]) le2
          have hcap : rcap G h1 ≤ 15600 := by
            have := c8.cap
            have := c9.cap
            have := c10.cap
            unfold rcap
            omega
          exact fin B h' (nb + (rV s).length) a1 a2 (fun a ha h4' _ => a3 a ha h4') (by rw [a4, u1]; omega) a5 a6 (fun a e => by cases e.symm.trans a8; exact Or.inr hq) (Or.inr (by omega))
        · rw [Nat.sub_self, List.drop_zero] at c2
          cases hn : rN (rIf (Pl ts) (((rV s).take ((rV s).length - fr)).any fun p => p.1 == Vl ts t) 3 t s) with
          | none => rw [hn] at c2; exact (g4.2.2.2.2.2 91).1.trans c2
          | some y => rw [hn] at c2; exact ⟨(g4.2.2.2.2.2 91).1.trans c2.1, (g4.2.2.2.2.2 92).1.trans c2.2.1, c2.2.2⟩
      · refine bind_put (d := d) k1 (by rw [eV]; omega) ht hk htV1 (by omega) b1 fun B h' a1 a2 a3 a4 a5 a6 a8 => ?_
        exact fin B h' nb a1 a2 (fun a ha h4' h7' => a3 a ha h4' h7') (by rw [a4, u1]; omega) a5 a6 (fun a e => by cases e.symm.trans a8; exact Or.inl rfl) (Or.inl rfl)
    · have hil : i < (rV s).length := by omega
      have hpl : (rV s).length - (i + 1) < (rV s).length := by omega
      obtain ⟨g1, g2, g3, g4⟩ := b11 ((rV s).length - (i + 1)) _ (List.getElem?_eq_getElem hpl)
      rw [show (rV s).length - 1 - ((rV s).length - (i + 1)) = i by omega] at g1
      have hv : vp_in (nI i) (hL h1 ba) := vp_in_nI (by omega) (by omega)
      have hd : ((rV s).take ((rV s).length - fr)).drop ((rV s).length - (i + 1)) = (rV s)[(rV s).length - (i + 1)] :: ((rV s).take ((rV s).length - fr)).drop ((rV s).length - i) := by
        rw [List.drop_eq_getElem_cons (by rw [List.length_take]; omega), List.getElem_take, show (rV s).length - (i + 1) + 1 = (rV s).length - i by omega]
      rw [nI_cn (by omega)]
      refine ⟨ba, b1, b2', hv, _, g1, g2, ba, b1, b2', hv, _, g1, g2, C.ri (c_is c1 ht (Or.inl hk) g3) ?_⟩
      rw [b2_0]
      refine ⟨fun z1 => ?_, fun z1 => ?_⟩
      · rintro _ rfl
        rw [nI_1]
        refine IH (i + 1) h1 (by omega) (by omega) (by omega) s4 ?_
        rw [hd, List.any_cons, z1, Bool.false_or]
        exact k1
      · refine C.mono (r_found (n := 3) k1 ht (by decide)) ?_
        rintro _ h2 ⟨rfl, w2, k2⟩
        refine KV.i ?_
        rintro _ rfl
        rw [nI_1]
        refine IH (i + 1) h2 (by omega) (by omega) (by omega) (s4.tr w2) ?_
        rw [hd, List.any_cons, bt z1, Bool.true_or]
        rw [rNote_rIf] at k2
        exact k2
/-- a name is bound -/
theorem c_bind (k : RS G W h ts Z O s nb) (ht : t < ts.length) (hk : Kd ts t = 280) (htV : ∀ x, x ∈ rV s → x.2 ≠ t) (hfr : fr ≤ (rV s).length) (hu : un h + 3 * (rV s).length + 39 ≤ UB) (hnb : (rV s).length ≤ 1300) : C G mX9_bind (d + 2) [.ref (gW G 4), .int (nI t), .int (nI fr)] h (bdP G W h ts Z O (rBind (Pl ts) fr t (Vl ts t) s) t nb (rV s).length) := by
  refine bX9_bind G (d + 1) h _ _ _ (bind_2 k ht hk htV hu hnb ((rV s).length + 1) fr h (by omega) (Nat.le_refl _) hfr S4.rf ?_)
  rw [show ((rV s).take ((rV s).length - fr)).drop ((rV s).length - fr) = [] from List.drop_eq_nil_of_le (by rw [List.length_take]; omega)]
  exact k
end
