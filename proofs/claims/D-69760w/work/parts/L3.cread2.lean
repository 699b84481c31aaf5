/-! THE COMPONENT'S TYPES: read and readOn, over the whole state -/
section
variable {G : Gh} {d M M' Pn Pn' m arr : Nat} {h h1 h' : AH} {τ τ' : Tb} {fs rt dp : Nat → Nat} {s : Tr} {mv mv' : Nat → Option Nat} {ρ : Nat → Tr}
theorem TT.b3 (k0 : TT G h M Pn τ m) : ∀ i, i < 3 → cln M τ i := by
  obtain ⟨fs, rt, dp, k, nm, sf, mk, hp, fl, b3⟩ := k0
  have kc := k.kc
  have hM := b3.1
  have key : ∀ i, i < M → 0 ≤ uN τ i → uP τ i = [] → cln M τ i := fun i hi hn hP => by
    have hr := (sf.1 i hi).1
    have nr : uS τ (rt i) = none := sf.1.none _ i (Nat.lt_succ_self _) hi
    have e := sf.2.1 i hi hn
    refine (cln_rt sf kc fl.2 hi).mp (cln_mk sf kc fl.2 hr nr (by omega) fun p hp => ?_)
    have hl := nm.len hr hi (by omega) e
    rw [hP] at hl
    unfold pc at hp
    rw [if_pos (by omega), List.eq_nil_of_length_eq_zero hl] at hp
    cases hp
  obtain ⟨-, ⟨c1, c2, c3⟩, c4, c5, c6⟩ := b3
  intro i hi
  have : i = 0 ∨ i = 1 ∨ i = 2 := by omega
  rcases this with e | e | e <;> rw [e]
  · exact key 0 (by omega) (by omega) c4
  · exact key 1 (by omega) (by omega) c5
  · exact key 2 (by omega) (by omega) c6
theorem B3.val (b3 : B3 M τ) (h : Sl M τ ρ) : ρ 0 = gt 7 [] ∧ ρ 1 = gt 8 [] ∧ ρ 2 = gt 9 [] := by
  obtain ⟨hM, ⟨c1, c2, c3⟩, c4, c5, c6⟩ := b3
  refine ⟨?_, ?_, ?_⟩
  · rw [(h 0 (by omega)).2 (by omega), c1, c4]; rfl
  · rw [(h 1 (by omega)).2 (by omega), c2, c5]; rfl
  · rw [(h 2 (by omega)).2 (by omega), c3, c6]; rfl
theorem RdN.gw (r : RdN M τ M' τ' mv mv') (h3 : ∀ i, i < 3 → cln M τ i) (hm : ∀ k x, mv k = some x → cln M τ x) : Gw M τ M' τ' := by
  obtain ⟨r1, r2, r3, -⟩ := r
  refine ⟨r1, r2, fun w h1 h2 => ?_, fun w => if uN τ' w < 0 then 0 else M' + 1 - w, fun w h1 h2 hn p hp hpM => ?_⟩
  · obtain ⟨c1, c2⟩ := r3 w h1 h2
    refine ⟨c1, ?_, fun p hp => ?_⟩
    · rcases c2 with ⟨c2, -⟩ | ⟨c2, -⟩
      · rw [c2]; decide
      · omega
    · rcases c2 with ⟨-, c2⟩ | ⟨-, c2⟩
      · rw [c2] at hp; cases hp
      · obtain ⟨d1, d2, -⟩ := c2 p hp
        exact ⟨d1, fun q => (d2 q).elim (h3 p) fun ⟨k, hk⟩ => hm k p hk⟩
  · dsimp only
    have hw : ¬ uN τ' w < 0 := by omega
    rw [if_neg hw]
    rcases (r3 w h1 h2).2 with ⟨c2, -⟩ | ⟨-, c2⟩
    · omega
    · obtain ⟨d1, -, d3⟩ := c2 p hp
      by_cases c : uN τ' p < 0
      · rw [if_pos c]; omega
      · rw [if_neg c]
        have := d3 hpM (by omega)
        omega
/-- a scheme was read: the node t, its variables made by mv' -/
def rdQ (G : Gh) (h : AH) (M Pn : Nat) (τ : Tb) (m : Nat) (mv : Nat → Option Nat) (s : Tr) : Outcome → AH → Prop := fun o h' => ∃ t M' Pn' τ' mv', o = .returned (some (.int (nI t))) ∧ TGr G h h' M τ M' Pn' τ' m ∧ cln M' τ' t ∧ (M' ≤ M + (enc s).length ∧ Pn' ≤ Pn + (enc s).length) ∧ (MDm G h' mv' ∧ (∀ k x, mv' k = some x → cln M' τ' x) ∧ (∀ k x, mv k = some x → mv' k = some x) ∧ ∀ k, gV s k → mv' k.toNat ≠ none) ∧
  (∀ ρ, Sl M' τ' ρ → ρ t = ins (fun k => ρ ((mv' k.toNat).getD 0)) (fun _ => gt 9 []) s) ∧ ∀ ρ, Sl M τ ρ → ∀ θ : Nat → Tr, (∀ k x, mv k = some x → ρ x = θ k) → ∃ ρ', Sl M' τ' ρ' ∧ (∀ x, x < M → ρ' x = ρ x) ∧ ∀ k x, mv' k = some x → ρ' x = θ k
theorem o_nx {n D i : Nat} (hD : DW (gW G)) (har : ∀ i, i ∈ TyC → arr ≠ gW G i) (k0 : TT G h M Pn τ m) (hs : sOK G h n s) (hDp : n + 3 ≤ D) (f42 : fI h (gW G 2) 42 = nI 0 ∧ fI h (gW G 2) 43 = nI 1 ∧ fI h (gW G 2) 44 = nI 2) (f45 : fI h (gW G 2) 45 = nI i) (hk : hK h arr = 1000) (hl : i + (enc s).length ≤ hL h arr) (hl2 : hL h arr < 100000) (hrw : RwA h arr i (enc s)) (md : MDm G h mv) (hm : ∀ k x, mv k = some x → cln M τ x) (hBM : M + (enc s).length ≤ 150000) (hBP : Pn + (enc s).length ≤ 150000) : C G mX3_next D [.ref (gW G 2), .ref arr] h (rdQ G h M Pn τ m mv s) := by
  obtain ⟨fs, rt, dp, k, nm, sf, mk, hp, fl, b3⟩ := id k0
  have c3 := k0.b3
  refine C.use (c_nx hD har n s D h M Pn τ fs mv i hs hDp k f42 f45 hk hl hl2 hrw md (fun q x hx => (hm q x hx).lt) b3.1 hBM hBP) (by decide) ?_
  rintro _ h2 ⟨t, M2, P2, τ2, f2, m2, rfl, ⟨k2, T2, -, md2, hm2⟩, rd, ⟨ht1, ht2⟩, -, ⟨ar1, ar2⟩, ⟨p5, p6, p7, p8⟩, nm2, val, hgv⟩ lm -
  have gw := rd.gw c3 hm
  have kc := k.kc
  obtain ⟨-, rdb, -, rdd, rde, rdf⟩ := id rd
  have tg : TGr G h h2 M τ M2 P2 τ2 m := by
    refine k0.add k2 (fun x hx hn => ?_) T2 gw (fun z hz => (ar1 z hz).1) (fun z h1 h2 => (ar2 z h1 h2).1) ⟨(lm.fi (k.1.at (i := 2) (by decide)).1 (by decide) (by decide)).trans mk.1, fun z hz => ?_⟩ (by omega)
    · by_cases c : x < M
      · obtain ⟨e1, e2, -⟩ := rdb x c
        rw [e1] at hn ⊢
        rw [e2]
        exact nm.mv T2 k.1 hD x c hn
      · obtain ⟨e1, e2⟩ := (nm2 x (by omega) hx hn).mv T2 k.1 hD
        exact ⟨⟨e1.2.1, e1.2.2⟩, e2⟩
    · by_cases c : z < M
      · rw [(ar1 z c).2]; exact mk.2 z c
      · rw [(ar2 z (by omega) hz).2]; exact ⟨0, by omega, rfl⟩
  have cmv : ∀ q x, m2 q = some x → cln M2 τ2 x := fun q x hx => by
    cases e : mv q with
    | none => obtain ⟨c1, c2, -⟩ := rde q x e hx; exact gw.new c1 c2
    | some y =>
      have := rdd q y e
      rw [hx] at this
      cases this
      exact gw.cl (hm q x e)
  refine ⟨t, M2, P2, τ2, m2, rfl, tg, ?_, ⟨p7, by omega⟩, ⟨md2, cmv, rdd, hgv⟩, fun ρ h1 => val ρ ?_ fun w h2 h3 h4 => (h1 w h3).2 h4, fun ρ h1 θ hθ => ?_⟩
  · by_cases c : t < M
    · rcases ht2 c with q | ⟨q, hq⟩
      · exact gw.cl (c3 t q)
      · exact gw.cl (hm q t hq)
    · exact gw.new (by omega) ht1
  · exact b3.val ((gw.sl kc).mp h1).1
  · obtain ⟨ρ', g1, g2, g3⟩ := gw.ext sf kc h1 (fun w => @dite _ (∃ q, mv q = none ∧ m2 q = some w) (Classical.propDecidable _) (fun e => θ e.choose) fun _ => gt 9 [])
    refine ⟨ρ', g1, g2, fun q x hx => ?_⟩
    cases e : mv q with
    | none =>
      obtain ⟨c1, c2, c4⟩ := rde q x e hx
      have hex : ∃ q, mv q = none ∧ m2 q = some x := ⟨q, e, hx⟩
      rw [g3 x c1 c2 (by rw [c4]; decide), dif_pos hex, rdf _ q x hex.choose_spec.1 e hex.choose_spec.2 hx]
    | some y =>
      have := rdd q y e
      rw [hx] at this
      cases this
      rw [g2 x (hm q x e).lt]
      exact hθ q x e
theorem TT.mvq (k0 : TT G h M Pn τ m) (hD : DW (gW G)) (k : ∀ fs, TyS G h M Pn τ fs → TyS G h' M Pn τ fs) (T : FTy G h h') (e38 : fI h' (gW G 2) 38 = fI h (gW G 2) 38) (e32 : ∀ z, aI h' (gW G 1032) z = aI h (gW G 1032) z) (e33 : ∀ z, aI h' (gW G 1033) z = aI h (gW G 1033) z) : TT G h' M Pn τ m := by
  obtain ⟨fs, rt, dp, k1, nm, sf, mk, hp, fl, b3⟩ := k0
  exact ⟨fs, rt, dp, k fs k1, nm.mv T k1.1 hD, sf, ⟨e38.trans mk.1, fun z hz => by rw [e33]; exact mk.2 z hz⟩, hp, ⟨fun x hx hn e => fl.1 x hx hn (by rw [← e32]; exact e), fl.2⟩, b3⟩
theorem TT.sA (k0 : TT G h M Pn τ m) : SoA G h := by
  obtain ⟨fs, rt, dp, k1, -⟩ := k0
  exact k1.1
theorem rdQ.fr {o : Outcome} {h2 : AH} (T : FTy G h h1) (e32 : ∀ z, aI h1 (gW G 1032) z = aI h (gW G 1032) z) (q : rdQ G h1 M Pn τ m mv s o h2) : rdQ G h M Pn τ m mv s o h2 := by
  obtain ⟨t, M2, P2, τ2, m2, e, ⟨g1, g2, g3, g4⟩, rest⟩ := q
  exact ⟨t, M2, P2, τ2, m2, e, ⟨T.tr g1, g2, g3, fun z hz => (g4 z hz).trans (e32 z)⟩, rest⟩
theorem o_readOn {n D : Nat} (hD : DW (gW G)) (har : ∀ i, i ∈ TyC → arr ≠ gW G i) (k0 : TT G h M Pn τ m) (hs : sOK G h n s) (hDp : n + 4 ≤ D) (f42 : fI h (gW G 2) 42 = nI 0 ∧ fI h (gW G 2) 43 = nI 1 ∧ fI h (gW G 2) 44 = nI 2) (hk : hK h arr = 1000) (hl : (enc s).length ≤ hL h arr) (hl2 : hL h arr < 100000) (hrw : RwA h arr 0 (enc s)) (md : MDm G h mv) (hm : ∀ k x, mv k = some x → cln M τ x) (hBM : M + (enc s).length ≤ 150000) (hBP : Pn + (enc s).length ≤ 150000) : C G mX3_readOn D [.ref (gW G 2), .ref arr] h (rdQ G h M Pn τ m mv s) := by
  obtain ⟨D, rfl⟩ : ∃ D', D = D' + 1 := ⟨D - 1, by omega⟩
  have sA := k0.sA
  refine bX3_readOn G D h _ _ (sA.at (by decide)) fun h1 e1 => ?_
  have T1 : FTy G h h1 := FTy.rf.p2 e1 (by decide)
  have a1 : ∀ b j, aI h1 b j = aI h b j := fun b j => by rw [e1, aI_pI]
  have f1 : ∀ g, g ≠ 45 → fI h1 (gW G 2) g = fI h (gW G 2) g := fun g hg => by rw [e1, fI_pI, if_neg (fun z => hg z.2)]
  have k1 : TT G h1 M Pn τ m := k0.mvq hD (fun fs k => (k.pf (Or.inr (Or.inl rfl)) e1).1) T1 (f1 38 (by decide)) (fun z => a1 _ z) (fun z => a1 _ z)
  have u := T1.1 arr har
  refine C.mono (o_nx (i := 0) hD har k1 (sOK.mv T1 sA hD n s hs) (by omega) (by rw [f1 42 (by decide), f1 43 (by decide), f1 44 (by decide)]; exact f42) (by rw [e1, fI_pI, if_pos ⟨rfl, rfl⟩]; rfl) (by rw [u.1]; exact hk) (by rw [u.2.1]; omega) (by rw [u.2.1]; exact hl2) (fun j v hv => by rw [a1]; exact hrw j v hv) (fun q hq => by rw [a1]; exact md q hq) hm hBM hBP) ?_
  rintro o h2 q
  have q' := rdQ.fr T1 (fun z => a1 _ z) q
  obtain ⟨t, M2, P2, τ2, m2, rfl, -⟩ := id q
  exact KI.i q'
theorem o_read {n D : Nat} (hD : DW (gW G)) (har : ∀ i, i ∈ TyC → arr ≠ gW G i) (k0 : TT G h M Pn τ m) (hs : sOK G h n s) (hDp : n + 4 ≤ D) (f42 : fI h (gW G 2) 42 = nI 0 ∧ fI h (gW G 2) 43 = nI 1 ∧ fI h (gW G 2) 44 = nI 2) (hk : hK h arr = 1000) (hl : (enc s).length ≤ hL h arr) (hl2 : hL h arr < 100000) (hrw : RwA h arr 0 (enc s)) (hBM : M + (enc s).length ≤ 150000) (hBP : Pn + (enc s).length ≤ 150000) : C G mX3_read D [.ref (gW G 2), .ref arr] h (rdQ G h M Pn τ m (fun _ => none) s) := by
  obtain ⟨D, rfl⟩ : ∃ D', D = D' + 1 := ⟨D - 1, by omega⟩
  refine bX3_read G D h _ _ ?_
  have lp : ∀ f i h1, 200 - i < f → i ≤ 200 → TT G h1 M Pn τ m → FTy G h h1 → (∀ b j, b ≠ gW G 1046 → aI h1 b j = aI h b j) → fI h1 (gW G 2) = fI h (gW G 2) → (∀ j, j < i → aI h1 (gW G 1046) j = -1) → X G mX3_read (D + 1) none [] 2 [(0, .ref (gW G 2)), (1, .ref arr), (2, .int (nI i))] [] h1 (rdQ G h M Pn τ m (fun _ => none) s) := by
    intro f
    induction f with
    | zero => intro i h1 hf; omega
    | succ f IH =>
      intro i h1 hf hi k1 T1 a1 f1 m1
      have sA := k1.sA
      have s2 := sA.at (i := 2) (by decide)
      refine bX3_read_2 G D h1 _ _ _ s2 ?_
      rw [lw1046 s2, show (Int32.ofNat 200) = nI 200 from rfl, nI_leI (by omega) (by omega)]
      refine ⟨fun hle h2 e2 => ?_, fun hle => ⟨vp_in_nI (by omega) (by decide), fun h8 e8 => ?_⟩⟩
      · have T2 : FTy G h1 h2 := FTy.rf.p2 e2 (by decide)
        have a2 : ∀ b j, aI h2 b j = aI h1 b j := fun b j => by rw [e2, aI_pI]
        have f2 : ∀ g, g ≠ 45 → fI h2 (gW G 2) g = fI h (gW G 2) g := fun g hg => by rw [e2, fI_pI, if_neg (fun z => hg z.2), f1]
        have k2 : TT G h2 M Pn τ m := k1.mvq hD (fun fs k => (k.pf (Or.inr (Or.inl rfl)) e2).1) T2 (by rw [f2 38 (by decide), f1]) (fun z => a2 _ z) (fun z => a2 _ z)
        have T := T1.tr T2
        have u := T.1 arr har
        have n32 : gW G 1032 ≠ gW G 1046 := fun w => absurd (hD 1032 1046 (by decide) (by decide) w) (by decide)
        refine C.mono (o_nx (i := 0) (mv := fun _ => none) hD har k2 (sOK.mv T k0.sA hD n s hs) (by omega) (by rw [f2 42 (by decide), f2 43 (by decide), f2 44 (by decide)]; exact f42) (by rw [e2, fI_pI, if_pos ⟨rfl, rfl⟩]; rfl) (by rw [u.1]; exact hk) (by rw [u.2.1]; omega) (by rw [u.2.1]; exact hl2) (fun j v hv => by rw [u.2.2.1]; exact hrw j v hv) (fun q hq => ⟨fun x hx => (by cases hx), fun _ => by rw [a2, m1 q (by omega)]; decide⟩) (fun q x hx => (by cases hx)) hBM hBP) ?_
        rintro o h3 q
        have q' := rdQ.fr T (fun z => by rw [a2, a1 _ z n32]) q
        obtain ⟨t, M2, P2, τ2, m2, rfl, -⟩ := id q
        exact KI.i q'
      · rw [nI_cn (by omega)] at e8
        rintro _ rfl
        rw [nI_1]
        have T8 : FTy G h1 h8 := by rw [e8]; exact FTy.rf.sI (by decide)
        have a8 : ∀ b j, b ≠ gW G 1046 → aI h8 b j = aI h1 b j := fun b j hb => by rw [e8, aI_sI, if_neg (fun w => hb w.1)]
        have n32 : gW G 1032 ≠ gW G 1046 := fun w => absurd (hD 1032 1046 (by decide) (by decide) w) (by decide)
        have n33 : gW G 1033 ≠ gW G 1046 := fun w => absurd (hD 1033 1046 (by decide) (by decide) w) (by decide)
        have f8 : fI h8 = fI h1 := by rw [e8]; rfl
        refine IH (i + 1) h8 (by omega) (by omega) (k1.mvq hD (fun fs k => (k.ot hD (Or.inr (Or.inr (Or.inr rfl))) e8).1) T8 (by rw [f8]) (fun z => a8 _ z n32) (fun z => a8 _ z n33)) (T1.tr T8) (fun b j hb => by rw [a8 b j hb]; exact a1 b j hb) (by rw [f8]; exact f1) fun j hj => ?_
        rw [e8, aI_sI]
        by_cases c : j = i
        · rw [if_pos ⟨rfl, c⟩]
        · rw [if_neg (fun w => c w.2)]
          exact m1 j (by omega)
  exact lp 201 0 h (by omega) (by omega) k0 FTy.rf (fun _ _ _ => rfl) rfl (fun j hj => by omega)
end
