/-! THE COMPONENT'S TYPES: write and writeOn -/
/-- what was there stays, but for the table -/
def FWr (G : Gh) (h h' : AH) : Prop := (∀ a, hK h a ≠ 0 → (∀ i, i ∈ TyC → a ≠ gW G i) → Uf h h' a) ∧ Le h h' none
section
variable {G : Gh} {d M Pn m x q n : Nat} {h h1 h2 h' : AH} {τ : Tb} {fs rt dp sz : Nat → Nat} {Nv : List Nat}
theorem FTy.fw (T : FTy G h h') : FWr G h h' := ⟨fun a _ ha => T.1 a ha, T.2.2⟩
theorem FWr.tr (a : FWr G h h1) (b : FWr G h1 h') : FWr G h h' := ⟨fun x hx hy => (a.1 x hx hy).tr (b.1 x (by rw [(a.1 x hx hy).1]; exact hx) hy), a.2.tr b.2⟩
theorem FWr.nA (hq : hK h q = 0) : FWr G h (nA h q 0 n) := by
  refine ⟨fun x hx _ => ?_, nA_le hq⟩
  have hne : x ≠ q := fun e => hx (by rw [e]; exact hq)
  refine ⟨by rw [hK_nA, if_neg hne], by rw [hL_nA, if_neg hne], ?_, ?_, ?_, fun g => ⟨rfl, rfl, rfl⟩⟩
  · funext y; rw [aI_nA, if_neg hne]
  · funext y; rw [aJ_nA, if_neg hne]
  · funext y; rw [aR_nA, if_neg hne]
theorem FTa.fw {arr : Nat} (T : FTa G arr h1 h') (hq : hK h arr = 0) (F : FWr G h h1) : FWr G h h' := by
  refine ⟨fun a ha hb => ?_, F.2.tr T.2.2⟩
  have u := F.1 a ha hb
  exact u.tr (T.1 a (fun e => ha (by rw [e]; exact hq)) hb)
theorem tyc_k (sA : SoA G h) : ∀ i, i ∈ TyC → hK h (gW G i) ≠ 0 := fun i hi => by
  have s2 := sA.at (i := 2) (by decide)
  unfold TyC at hi
  simp only [List.mem_cons, List.not_mem_nil, or_false] at hi
  rcases hi with rfl | rfl | rfl | rfl | rfl | rfl | rfl | rfl | rfl
  · rw [s2.1]; decide
  · rw [kw1030 s2]; decide
  · rw [kw1031 s2]; decide
  · rw [kw1032 s2]; decide
  · rw [kw1033 s2]; decide
  · rw [kw1034 s2]; decide
  · rw [kw1035 s2]; decide
  · rw [kw1039 s2]; decide
  · rw [kw1046 s2]; decide
theorem TyS.nA (k : TyS G h M Pn τ fs) (hq : hK h q = 0) : TyS G (nA h q 0 n) M Pn τ fs := by
  obtain ⟨sA, e36, e37, hM, hPn, hA⟩ := k
  have ne : ∀ i, i ∈ TyC → gW G i ≠ q := fun i hi e => tyc_k sA i hi (by rw [e]; exact hq)
  have A : ∀ i, i ∈ TyC → ∀ j, aI (_root_.Jvm.Pilot.CLetMillLaw_law_r2819_317265.nA h q 0 n) (gW G i) j = aI h (gW G i) j := fun i hi j => by rw [aI_nA, if_neg (ne i hi)]
  refine ⟨sA.le (nA_le hq), e36, e37, hM, hPn, fun z hz => ?_⟩
  obtain ⟨b1, b2, b3, b4, b5, b6⟩ := hA z hz
  rw [A 1030 (by decide), A 1031 (by decide), A 1032 (by decide)]
  exact ⟨b1, b2, b3, b4, b5, fun k p hp => by rw [A 1035 (by decide)]; exact b6 k p hp⟩
theorem NmS.mvw (nm : NmS G h M τ) (T : FWr G h h') (sA : SoA G h) (hD : DW (gW G)) : NmS G h' M τ := by
  intro x hx hn
  obtain ⟨n1, b, n3, n4, n5⟩ := nm x hx hn
  have s2 := sA.at (i := 2) (by decide)
  have u40 := T.1 (gW G 1040) (by rw [kw1040 s2]; decide) fun i hi z => by
    have : 1040 = i := hD 1040 i (by decide) (by unfold TyC at hi; simp only [List.mem_cons, List.not_mem_nil, or_false] at hi; rcases hi with rfl | rfl | rfl | rfl | rfl | rfl | rfl | rfl | rfl <;> decide) z
    rw [← this] at hi
    exact absurd hi (by decide)
  have kinds : ∀ i, i ∈ TyC → hK h (gW G i) ≠ 4 := fun i hi => by
    unfold TyC at hi
    simp only [List.mem_cons, List.not_mem_nil, or_false] at hi
    rcases hi with rfl | rfl | rfl | rfl | rfl | rfl | rfl | rfl | rfl
    · rw [s2.1]; decide
    · rw [kw1030 s2]; decide
    · rw [kw1031 s2]; decide
    · rw [kw1032 s2]; decide
    · rw [kw1033 s2]; decide
    · rw [kw1034 s2]; decide
    · rw [kw1035 s2]; decide
    · rw [kw1039 s2]; decide
    · rw [kw1046 s2]; decide
  have ub := T.1 b (by rw [n4]; decide) fun i hi z => kinds i hi (by rw [← z]; exact n4)
  exact ⟨n1, b, by rw [u40.2.2.2.2.1]; exact n3, ub.1.trans n4, (ub.2.2.2.2.2 51).1.trans n5⟩
/-- variables that have come: their marks, their numbers -/
def WO (G : Gh) (h : AH) (M w : Nat) (Nv : List Nat) : Prop := fI h (gW G 2) 47 = nI w ∧ fI h (gW G 2) 48 = nI Nv.length ∧ (∀ z, z < M → (z ∈ Nv ↔ aI h (gW G 1033) z = nI w) ∧ (z ∈ Nv → aI h (gW G 1034) z = nI (Nv.idxOf z))) ∧ Nv.Nodup ∧ ∀ z, z ∈ Nv → z < M
/-- a type was written: the array q holds s -/
def wrQ (G : Gh) (h : AH) (M Pn : Nat) (τ : Tb) (rt : Nat → Nat) (m' w f x n : Nat) (Nv : List Nat) : Outcome → AH → Prop := fun o h' => ∃ q, o = .returned (some (.ref q)) ∧ hK h q = 0 ∧ (hK h' q = 1000 ∧ Ns (gW G) q ∧ hL h' q = n ∧ (enc (pT τ rt f x Nv).1).length = n ∧ RwA h' q 0 (enc (pT τ rt f x Nv).1)) ∧ FWr G h h' ∧ un h' = un h + 16 + n ∧ TT G h' M Pn τ m' ∧ WO G h' M w (pT τ rt f x Nv).2 ∧ ∀ z, aI h' (gW G 1032) z = aI h (gW G 1032) z
theorem wr_core {w f : Nat} {D m' : Nat} (hD : DW (gW G)) (k0 : TT G h M Pn τ m) (r : RTs M τ rt dp) (hz : SZ M τ rt sz) (hx : x < M) (hs : sz x ≤ f) (hs2 : sz x ≤ 200) (hDp : sz x + 3 ≤ D) (hq : hK h q = 0) (hw : w ≤ m' ∧ m ≤ m' ∧ m' < 2147483648) (F1 : FWr G h h1) (u1 : un h1 = un h + 16 + sz x) (k1 : TyS G h1 M Pn τ fs) (e1 : hK h1 q = 1000 ∧ Ns (gW G) q ∧ hL h1 q = sz x) (f1 : fI h1 (gW G 2) 45 = 0 ∧ fI h1 (gW G 2) 38 = nI m') (wo : WO G h1 M w Nv) (a33 : ∀ z, z < M → aI h1 (gW G 1033) z = aI h (gW G 1033) z) (a32 : ∀ z, aI h1 (gW G 1032) z = aI h (gW G 1032) z) : C G mX3_put D [.ref (gW G 2), .int (nI x), .ref q] h1 (KV (wrQ G h M Pn τ rt m' w f x (sz x) Nv) fun h16 => wrQ G h M Pn τ rt m' w f x (sz x) Nv (.returned (some (.ref q))) h16) := by
  obtain ⟨fs0, rt0, dp0, k, nm, sf, mk, hp, fl, b3⟩ := id k0
  have kc := k.kc
  have har : ∀ i, i ∈ TyC → q ≠ gW G i := fun i hi e => tyc_k k.1 i hi (by rw [← e]; exact hq)
  have I : WI G h1 h1 q M Pn τ fs w Nv [] := ⟨⟨k1, nm.mvw F1 k.1 hD, ⟨fun _ _ _ => Uf.rf, rfl, Le.rf0⟩, rfl⟩, ⟨f1.1, wo.1, wo.2.1⟩, fun z hz => ⟨(wo.2.2.1 z hz).1, (wo.2.2.1 z hz).2, Or.inr rfl⟩, wo.2.2.2, ⟨e1.1, rfl⟩, fun j v hv => (by cases hv), fun _ => rfl⟩
  refine C.mono (c_put hD har e1.2.1 r kc hz (by omega) (by rw [e1.2.2]; omega) (sz x) x D h1 Nv [] f (Nat.le_refl _) hs hx hDp I (by rw [e1.2.2]; show 0 + sz x ≤ sz x; omega)) ?_
  rintro _ h2 ⟨rfl, I2, hl⟩
  obtain ⟨⟨k2, nm2, T2, g38⟩, ⟨g45, g47, g48⟩, hm, nd, ⟨hka, hla⟩, ho, h32⟩ := I2
  rw [List.nil_append] at ho
  refine KV.i ⟨q, rfl, hq, ⟨hka, e1.2.1, hla.trans e1.2.2, hl, fun j v hv => by rw [Nat.zero_add]; exact ho j v hv⟩, T2.fw hq F1, T2.2.1.trans u1, ⟨fs, rt0, dp0, k2, nm2, sf, ⟨g38.trans f1.2, fun z hz => ?_⟩, hp, ⟨fun y hy hn e => fl.1 y hy hn (by rw [← a32, ← h32]; exact e), fl.2⟩, b3⟩, ⟨g47, g48, fun z hz => ⟨(hm z hz).1, (hm z hz).2.1⟩, nd⟩, fun z => (h32 z).trans (a32 z)⟩
  rcases (hm z hz).2.2 with e | e
  · exact ⟨w, hw.1, e⟩
  · obtain ⟨j, h1, h2⟩ := mk.2 z hz
    exact ⟨j, by omega, by rw [e, a33 z hz]; exact h2⟩
theorem o_write {D f : Nat} (hD : DW (gW G)) (k0 : TT G h M Pn τ m) (r : RTs M τ rt dp) (hz : SZ M τ rt sz) (hx : x < M) (hs : sz x ≤ f) (hs2 : sz x ≤ 200) (hDp : 204 ≤ D) (hm : m + 1 < 2147483648) (hu : un h + 16 + sz x ≤ UB) : C G mX3_write D [.ref (gW G 2), .int (nI x)] h (wrQ G h M Pn τ rt (m + 1) (m + 1) f x (sz x) []) := by
  obtain ⟨D, rfl⟩ : ∃ D', D = D' + 1 := ⟨D - 1, by omega⟩
  obtain ⟨fs0, rt0, dp0, k, nm, sf, mk, hp, fl, b3⟩ := id k0
  refine bX3_write G D h _ _ (k.1.at (by decide)) (C.ri (c_size k nm r hz 201 200 x D (by omega) (by omega) hx (by omega)) ?_)
  rw [show min (sz x) (200 + 1) = sz x by omega, nI_cn (by omega)]
  obtain ⟨r1, r2⟩ := un_rm hu
  refine ⟨nI_pos (by omega), r1, r2, fun q hq h6 e6 => ?_⟩
  have F6 : FWr G h h6 := by rw [e6]; exact FWr.nA hq
  have k6 : TyS G h6 M Pn τ fs0 := by rw [e6]; exact k.nA hq
  have a6 : ∀ i, i ∈ TyC → ∀ j, aI h6 (gW G i) j = aI h (gW G i) j := fun i hi j => by rw [e6, aI_nA, if_neg (fun e => tyc_k k.1 i hi (by rw [e]; exact hq))]
  have mk6 : MK G h6 M m := ⟨by rw [e6]; exact mk.1, fun z hz => by rw [a6 1033 (by decide)]; exact mk.2 z hz⟩
  refine C.mono (c_mk k6 mk6) ?_
  rintro _ h10 ⟨rfl, k10, T10, e10, a10⟩
  refine KI.i fun h13 e13 h14 e14 h15 e15 => ?_
  obtain ⟨k13, T13⟩ := k10.pf (Or.inr (Or.inr (Or.inl rfl))) e13
  obtain ⟨k14, T14⟩ := k13.pf (Or.inr (Or.inl rfl)) e14
  obtain ⟨k15, T15⟩ := k14.pf (Or.inr (Or.inr (Or.inr rfl))) e15
  have T := ((T10.tr T13).tr T14).tr T15
  have aa : ∀ i, i ∈ TyC → ∀ j, aI h15 (gW G i) j = aI h (gW G i) j := fun i hi j => by rw [e15, aI_pI, e14, aI_pI, e13, aI_pI, a10, a6 i hi]
  have har : ∀ i, i ∈ TyC → q ≠ gW G i := fun i hi e => tyc_k k.1 i hi (by rw [← e]; exact hq)
  have uq := T.1 q har
  have hns : Ns (gW G) q := k.1.ns hq
  refine wr_core (fs := fs0) hD k0 r hz hx hs hs2 (by omega) hq ⟨Nat.le_refl _, by omega, hm⟩ (F6.tr T.fw) (by rw [T.2.1, e6, un_nA]) k15 ⟨by rw [uq.1, e6, hK_nA, if_pos rfl], hns, by rw [uq.2.1, e6, hL_nA, if_pos rfl]⟩ ⟨?_, ?_⟩ ⟨?_, ?_, fun z hz => ⟨⟨fun w => (by cases w), fun w => ?_⟩, fun w => (by cases w)⟩, List.nodup_nil, fun z w => (by cases w)⟩ (fun z _ => aa 1033 (by decide) z) (fun z => aa 1032 (by decide) z)
  · rw [e15, fI_pI, if_neg (fun z => absurd z.2 (by decide)), e14, fI_pI, if_pos ⟨rfl, rfl⟩]
  · rw [e15, fI_pI, if_neg (fun z => absurd z.2 (by decide)), e14, fI_pI, if_neg (fun z => absurd z.2 (by decide)), e13, fI_pI, if_neg (fun z => absurd z.2 (by decide))]
    exact e10
  · rw [e15, fI_pI, if_neg (fun z => absurd z.2 (by decide)), e14, fI_pI, if_neg (fun z => absurd z.2 (by decide)), e13, fI_pI, if_pos ⟨rfl, rfl⟩]
  · rw [e15, fI_pI, if_pos ⟨rfl, rfl⟩]
    rfl
  · rw [aa 1033 (by decide)] at w
    obtain ⟨j, h1, h2⟩ := mk.2 z hz
    rw [h2, nI_eq (by omega) (by omega)] at w
    omega
theorem o_writeOn {D f w : Nat} (hD : DW (gW G)) (k0 : TT G h M Pn τ m) (r : RTs M τ rt dp) (hz : SZ M τ rt sz) (hx : x < M) (hs : sz x ≤ f) (hs2 : sz x ≤ 200) (hDp : 204 ≤ D) (hm : m < 2147483648) (hw : w ≤ m) (wo : WO G h M w Nv) (hu : un h + 16 + sz x ≤ UB) : C G mX3_writeOn D [.ref (gW G 2), .int (nI x)] h (wrQ G h M Pn τ rt m w f x (sz x) Nv) := by
  obtain ⟨D, rfl⟩ : ∃ D', D = D' + 1 := ⟨D - 1, by omega⟩
  obtain ⟨fs0, rt0, dp0, k, nm, sf, mk, hp, fl, b3⟩ := id k0
  refine bX3_writeOn G D h _ _ (k.1.at (by decide)) (C.ri (c_size k nm r hz 201 200 x D (by omega) (by omega) hx (by omega)) ?_)
  rw [show min (sz x) (200 + 1) = sz x by omega, nI_cn (by omega)]
  obtain ⟨r1, r2⟩ := un_rm hu
  refine ⟨nI_pos (by omega), r1, r2, fun q hq h6 e6 h10 e10 => ?_⟩
  have F6 : FWr G h h6 := by rw [e6]; exact FWr.nA hq
  have k6 : TyS G h6 M Pn τ fs0 := by rw [e6]; exact k.nA hq
  have a6 : ∀ i, i ∈ TyC → ∀ j, aI h6 (gW G i) j = aI h (gW G i) j := fun i hi j => by rw [e6, aI_nA, if_neg (fun e => tyc_k k.1 i hi (by rw [e]; exact hq))]
  obtain ⟨k10, T10⟩ := k6.pf (Or.inr (Or.inl rfl)) e10
  have aa : ∀ i, i ∈ TyC → ∀ j, aI h10 (gW G i) j = aI h (gW G i) j := fun i hi j => by rw [e10, aI_pI, a6 i hi]
  have har : ∀ i, i ∈ TyC → q ≠ gW G i := fun i hi e => tyc_k k.1 i hi (by rw [← e]; exact hq)
  have uq := T10.1 q har
  have hns : Ns (gW G) q := k.1.ns hq
  have ff : ∀ g, g ≠ 45 → fI h10 (gW G 2) g = fI h (gW G 2) g := fun g hg => by rw [e10, fI_pI, if_neg (fun z => hg z.2), e6]; rfl
  exact wr_core (fs := fs0) hD k0 r hz hx hs hs2 (by omega) hq ⟨hw, Nat.le_refl _, hm⟩ (F6.tr T10.fw) (by rw [T10.2.1, e6, un_nA]) k10 ⟨by rw [uq.1, e6, hK_nA, if_pos rfl], hns, by rw [uq.2.1, e6, hL_nA, if_pos rfl]⟩ ⟨by rw [e10, fI_pI, if_pos ⟨rfl, rfl⟩], (ff 38 (by decide)).trans mk.1⟩ ⟨(ff 47 (by decide)).trans wo.1, (ff 48 (by decide)).trans wo.2.1, fun z hz => by rw [aa 1033 (by decide), aa 1034 (by decide)]; exact wo.2.2.1 z hz, wo.2.2.2⟩ (fun z _ => aa 1033 (by decide) z) (fun z => aa 1032 (by decide) z)
end
