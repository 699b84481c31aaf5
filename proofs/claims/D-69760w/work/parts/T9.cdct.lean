/-! THE COMPONENT'S TYPER: names that are declared; the older names' types are marked -/
/-- the types at xs have the mark m1, all that they are made of and nothing else -/
def T78 (G : Gh) (h0 h : AH) (M Pn : Nat) (τ : Tb) (fs rt : Nat → Nat) (m1 : Nat) (xs : List Nat) : Prop := (TyS G h M Pn τ fs ∧ FTy G h0 h ∧ fI h (gW G 2) 38 = nI m1) ∧ (∀ z, aI h (gW G 1032) z = aI h0 (gW G 1032) z) ∧ (∀ z, aI h (gW G 1033) z = nI m1 ∨ aI h (gW G 1033) z = aI h0 (gW G 1033) z) ∧ (∀ x, x ∈ xs → mkd G h m1 (rt x)) ∧ (∀ z, z < M → mkd G h m1 z → ∀ p, p ∈ pc τ z → mkd G h m1 (rt p)) ∧ ∀ K : Nat → Prop, KC M τ K → (∀ x, x ∈ xs → K x) → ∀ z, z < M → mkd G h m1 z → K z
def ndT (c : Cx) (h : AH) (t : Nat) : Nat := (fI h (c.Z.1 t) 127).toInt.toNat
section
variable {G : Gh} {c : Cx} {P : Nat → Prop} {s1 : Sx} {D m : Nat} {E0 E1 : List (Nat × Tr)} {fs rt dp : Nat → Nat} {Q : Outcome → AH → Prop} {h h' : AH}
theorem XS.nodG (k : XS G c P s1) {i : Nat} {y : Nat × Tr} (hi : s1.E[i]? = some y) : ∃ ba, fR s1.h (gW G 6) 111 = some ba ∧ hK s1.h ba = 1007 ∧ (i < hL s1.h ba ∧ hL s1.h ba < 100000) ∧ aR s1.h ba i = some (c.Z.1 y.1) ∧ hK s1.h (c.Z.1 y.1) = 13 ∧ fI s1.h (c.Z.1 y.1) 127 = nI (ndT c s1.h y.1) ∧ ndT c s1.h y.1 < s1.M ∧ ((fI s1.h (c.Z.1 y.1) 128 = 0 ∧ y.2 = .var (ndT c s1.h y.1) ∧ cln s1.M s1.t (ndT c s1.h y.1)) ∨ (fI s1.h (c.Z.1 y.1) 128 = 1 ∧ SE s1.M s1.t (ndT c s1.h y.1) y.2 ∧ FL2 G s1.h s1.M s1.t (ndT c s1.h y.1) ∧ gsz y.2 ≤ 60)) := by
  obtain ⟨ba, g1, g2, g5, g8, g9⟩ := k.1.2.2.1
  obtain ⟨y1, e1, e2, z, e3, e4, e5⟩ := g9 i _ hi
  have hil := (List.getElem?_eq_some_iff.mp hi).1
  obtain ⟨fs, rt, dp, ty, -⟩ := k.tt
  have hM := ty.2.2.2.1
  have ez : ndT c s1.h y.1 = z := by
    unfold ndT
    rw [e3, nI_toInt (by omega)]
    rfl
  rw [ez]
  exact ⟨ba, g1, g2.1, ⟨by rw [g2.2.2]; omega, by rw [g2.2.2]; omega⟩, y1, e1, e3, e4, e5⟩
theorem fty_u (sA : SoA G h) (T : FTy G h h') {a : Nat} (h0 : hK h a = 10 ∨ hK h a = 1007 ∨ hK h a = 13) : Uf h h' a := T.1 a fun i hi e => by
  obtain ⟨-, c2, c3, c4⟩ := tyc_k2 sA i hi
  rw [e] at h0
  rcases h0 with w | w | w
  · exact c2 w
  · exact c3 w
  · exact c4 w
theorem dec_78 (k : XS G c P s1) (hE : s1.E = E0 ++ E1) (nm : NmS G s1.h s1.M s1.t) (r : RTs s1.M s1.t rt dp) (hm : m + 1 < 2147483648) (hD5 : 70 ≤ D)
    (hQ : ∀ h, T78 G s1.h h s1.M s1.Pn s1.t fs rt (m + 1) (E0.map fun y => ndT c s1.h y.1) → C G mX3_mark D [.ref (gW G 2)] h (KI Q fun x4 h2 => X G mX11_declared (D + 1) none [] 121 [(0, .ref (gW G 6)), (4, .int (nI (m + 1))), (5, .int x4), (6, .int (nI E0.length))] [] h2 Q)) :
    ∀ f i h, E0.length - i < f → i ≤ E0.length → T78 G s1.h h s1.M s1.Pn s1.t fs rt (m + 1) ((E0.take i).map fun y => ndT c s1.h y.1) → X G mX11_declared (D + 1) none [] 78 [(0, .ref (gW G 6)), (1, .int (nI E0.length)), (4, .int (nI (m + 1))), (5, .int (nI i))] [] h Q := by
  obtain ⟨en1, en2⟩ := k.en
  have hEl : s1.E.length = E0.length + E1.length := by rw [hE, List.length_append]
  have sA := k.sA
  intro f
  induction f with
  | zero => intro i h hf; omega
  | succ f IH =>
    intro i h hf hi T
    obtain ⟨⟨ty, T1, e38⟩, t2, t3, t4, t5, t6⟩ := id T
    have s1' := ty.1
    refine bX11_declared_78 G D h _ _ _ _ (s1'.at (by decide)) (s1'.at (by decide)) ?_
    rw [nI_leI (by omega) (by omega)]
    refine ⟨fun hle => ?_, fun hle => ?_⟩
    · refine hQ h ?_
      rw [List.take_of_length_le (by omega)] at T
      exact T
    · obtain ⟨y, hy⟩ : ∃ y, E0[i]? = some y := ⟨_, List.getElem?_eq_getElem (by omega)⟩
      obtain ⟨ba, g1, g2, g3, g4, g5, g6, g7, -⟩ := k.nodG (i := i) (y := y) (by rw [hE, List.getElem?_append_left (by omega)]; exact hy)
      have k6 : hK s1.h (gW G 6) = 10 := (sA.at (i := 6) (by decide)).1
      have u6 := fty_u sA T1 (Or.inl k6)
      have ub := fty_u sA T1 (Or.inr (Or.inl g2))
      have ux := fty_u sA T1 (Or.inr (Or.inr g5))
      refine ⟨ba, (u6.2.2.2.2.2 111).2.2.trans g1, ub.1.trans g2, by rw [ub.2.1]; exact vp_i g3.1 (by omega), c.Z.1 y.1, by rw [nI_cn (by omega), ub.2.2.2.2.1]; exact g4, ux.1.trans g5, ?_⟩
      rw [(ux.2.2.2.2.2 127).1, g6]
      refine C.use ((c_tch (d := 0) k.hD ty (nm.mv T1 sA k.hD) r hm g7 t5).up (by omega)) (by decide) ?_
      rintro _ h12 ⟨rfl, ⟨q1, q2⟩, q3, q4, q5, q6⟩ l -
      refine KV.i ?_
      rintro _ rfl
      rw [nI_1]
      have s2 := s1'.at (i := 2) (by decide)
      have a32 := (l.a k.hD (kw1032 s2) (by decide) (by decide +kernel) (by decide) (by decide +kernel) (by decide +kernel)).1
      have etk : E0.take (i + 1) = E0.take i ++ [y] := by
        rw [List.take_add_one, hy]
        rfl
      have mono : ∀ z, mkd G h (m + 1) z → mkd G h12 (m + 1) z := fun z hz => by
        rcases q3 z with w | w
        · exact w
        · unfold mkd
          rw [w]
          exact hz
      refine IH (i + 1) h12 (by omega) (by omega) ⟨⟨q1, T1.tr q2, by rw [l.fi s2.1 (by decide) (by decide +kernel)]; exact e38⟩, fun z => by rw [a32]; exact t2 z, fun z => ?_, fun x hx => ?_, q5, fun K hK hx z hz hz2 => ?_⟩
      · rcases q3 z with w | w
        · exact Or.inl w
        · rw [w]
          exact t3 z
      · rw [etk, List.map_append] at hx
        rcases List.mem_append.mp hx with w | w
        · exact mono _ (t4 x w)
        · rw [(List.mem_cons.mp w).resolve_right fun z => by cases z]
          exact q4
      · rw [etk, List.map_append] at hx
        rcases q6 K hK (hx _ (List.mem_append_right _ (List.mem_cons_self ..))) z hz2 with w | w
        · exact t6 K hK (fun x hx' => hx x (List.mem_append_left _ hx')) z hz w
        · exact w
end
