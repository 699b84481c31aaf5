/-! THE COMPONENT'S TYPES: the copy of a scheme, over the whole state -/
section
variable {G : Gh} {M Pn m x : Nat} {h h1 h' : AH} {τ : Tb} {s : Tr}
theorem TT.mk1 (k0 : TT G h M Pn τ m) (hD : DW (gW G)) {fs' : Nat → Nat} (k : TyS G h' M Pn τ fs') (T : FTy G h h') (e38 : fI h' (gW G 2) 38 = nI (m + 1)) (a : ∀ i j, aI h' i j = aI h i j) : TT G h' M Pn τ (m + 1) := by
  obtain ⟨fs, rt, dp, k1, nm, sf, mk, hp, fl, b3⟩ := k0
  exact ⟨fs', rt, dp, k, nm.mv T k1.1 hD, sf, ⟨e38, fun z hz => by obtain ⟨j, h1, h2⟩ := mk.2 z hz; exact ⟨j, by omega, by rw [a]; exact h2⟩⟩, hp, ⟨fun x hx hn e => fl.1 x hx hn (by rw [← a]; exact e), fl.2⟩, b3⟩
/-- the end of a copy -/
def cQ (G : Gh) (h : AH) (M Pn : Nat) (τ : Tb) (m : Nat) (s : Tr) : Outcome → AH → Prop := fun o h' => ∃ t, o = .returned (some (.int (nI t))) ∧ RsT G h M Pn τ m h' [t] (gsz s) 1 fun ρ u => ∃ v, u = [v] ∧ sg s ρ v
theorem o_cpd {D : Nat} (hD : DW (gW G)) (k0 : TT G h M Pn τ m) (hm : m + 1 < 2147483648) (se : SE M τ x s) (f2 : FL2 G h M τ x) (hsz : gsz s + 5 ≤ D) (hBM : M + gsz s ≤ 150000) (hBP : Pn + gsz s ≤ 150000) : C G mX3_mark D [.ref (gW G 2)] h (fun o h1 => o = .returned (some (.int (nI (m + 1)))) ∧ C G mX3_copied D [.ref (gW G 2), .int (nI x), .int (nI (m + 1))] h1 (cQ G h M Pn τ m s)) := by
  obtain ⟨fs, rt, dp, k, nm, sf, mk, hp, fl, b3⟩ := id k0
  refine C.mono (c_mk k mk) ?_
  rintro _ h1 ⟨rfl, k1, T1, e1, a1⟩
  refine ⟨rfl, ?_⟩
  have kc := k.kc
  have hx := se.1
  obtain ⟨km, q1, q2⟩ := sf.kmx
  have hz := sc_sz sf kc fl.2 q1 q2
  obtain ⟨F, F1, F2, F3⟩ := f2
  have es : scF M τ rt (km x + 1) x = s := by
    obtain ⟨f, hf⟩ := se.use sf.1 kc
    rw [← hf (f + km x + 1) (by omega)]
    exact sc_fuel sf kc q1 q2 _ _ x hx (by omega) (by omega)
  have ez : (fun x => gsz (scF M τ rt (km x + 1) x)) x = gsz s := by dsimp only; rw [es]
  have nm1 := nm.mv T1 k.1 hD
  have I0 : CI G h1 h1 M Pn τ rt (m + 1) [] [] := by
    refine ⟨⟨⟨fs, ?_⟩, nm1.cg' fun y hy => ⟨cp_N hy, cp_P hy⟩, FTy.rf⟩, ⟨fun z hz => ?_, fun z h1 h2 => ?_⟩, ⟨fun _ _ => rfl, fun z h1 h2 => ?_⟩, fun z hz => (by cases hz), List.nodup_nil, fun i z hz => (by cases hz)⟩
    · exact k1.cg fun y hy => ⟨cp_N hy, cp_P hy, by rw [cp_S, if_pos hy]⟩
    · rw [if_neg (fun w => w.elim (fun w => (by cases w)) fun w => (by cases w))]
    · change z < M + 0 at h2; omega
    · change z < M + 0 at h2; omega
  refine C.use (c_cpd hD sf kc fl.2 hz q1 q2 F1 (fun z hz hn => ⟨fun e => ?_, fun c => ?_⟩) (fun z hz e => ?_) (by omega) hm (gsz s) x D h1 [] [] (Nat.le_of_eq ez) hx F2 (by omega) (fun a ha => (by cases ha)) I0 (by rw [es]; exact hBM) (by rw [es]; exact hBP)) (by decide) ?_
  · rw [a1] at e
    exact fl.1 z (F1 z hz).1 hn e
  · rw [a1]
    exact F3 z hz hn c
  · unfold mkd at e
    rw [a1] at e
    obtain ⟨j, hj, ej⟩ := mk.2 z hz
    rw [ej, nI_eq (by omega) (by omega)] at e
    omega
  rintro _ h2 ⟨W, I, rfl, c3, -, -, c6, c7⟩ lm -
  rw [List.nil_append] at I c3 ⊢
  obtain ⟨⟨⟨fs2, k2⟩, nm2, T2⟩, ⟨m1, m2⟩, ⟨f3, f4⟩, -, co⟩ := I
  rw [ez] at c6 c7
  have hnv : ∀ z, z ∈ W → uN τ z ≠ -1 := fun z hz e => by
    obtain ⟨d1, d2, d3, -⟩ := co.mem hz
    refine d3 (cln_mk sf kc fl.2 d1 d2 (by omega) fun p hp => ?_)
    unfold pc at hp
    rw [if_neg (by omega)] at hp
    cases hp
  have gw := co.gw sf.1 kc hnv
  have k01 := k0.mk1 hD k1 T1 e1 a1
  have hpS : pS (uP (cpT M τ rt W)) (M + W.length) ≤ Pn + pv τ W := by
    have : ∀ n, n ≤ W.length → pS (uP (cpT M τ rt W)) (M + n) ≤ Pn + pv τ (W.take n) := by
      intro n
      induction n with
      | zero =>
        intro _
        rw [Nat.add_zero, pS_cg M fun y hy => cp_P hy]
        show _ ≤ Pn + 0
        omega
      | succ n ih =>
        intro hn
        have := ih (by omega)
        obtain ⟨z, hz⟩ : ∃ z, W[n]? = some z := ⟨_, List.getElem?_eq_getElem (by omega)⟩
        show pS (uP (cpT M τ rt W)) (M + n) + (uP (cpT M τ rt W) (M + n)).length ≤ _
        rw [cp_P' hz, List.length_map, List.take_add_one, hz, pv_app]
        show _ ≤ Pn + (_ + pv τ [z])
        rw [pv_one]
        omega
    have := this W.length (Nat.le_refl _)
    rw [List.take_length] at this
    exact this
  have tg : TGr G h1 h2 M τ (M + W.length) (Pn + pv τ W) (cpT M τ rt W) (m + 1) := by
    refine k01.add k2 nm2 T2 gw f3 f4 ⟨(lm.fi (k1.1.at (i := 2) (by decide)).1 (by decide) (by decide)).trans e1, fun z hz => ?_⟩ hpS
    by_cases c : z < M
    · rw [m1 z c]
      split
      · exact ⟨m + 1, Nat.le_refl _, rfl⟩
      · obtain ⟨j, hj, ej⟩ := mk.2 z c
        exact ⟨j, by omega, by rw [a1]; exact ej⟩
    · rw [m2 z (by omega) hz]
      exact ⟨0, by omega, rfl⟩
  have hrx := (sf.1 x hx).1
  have cpl : cln (M + W.length) (cpT M τ rt W) (cpn M W (rt x)) := by
    rcases c3 with c | c
    · rw [cpn_cln co c]; exact gw.cl c
    · obtain ⟨d1, d2, -⟩ := cpn_mem (M0 := M) c
      rw [d1]
      exact gw.new (by omega) (by omega)
  have ev0 : Ev G h M τ h1 M τ := ⟨Nat.le_refl _, fun _ q => q, fun _ q => q, fun y s q ⟨F, g1, g2, g3⟩ => ⟨q, F, g1, g2, fun z hz hn c => by rw [a1]; exact g3 z hz hn c⟩⟩
  refine ⟨cpn M W (rt x), rfl, M + W.length, Pn + pv τ W, _, m + 1, ⟨ev0.tr (TGr.ev k01 tg), T1.tr tg.1⟩, tg.2.1, fun t ht => ?_, ⟨by omega, by omega, Nat.le_refl _⟩, fun ρ hρ => ?_, fun ρ hρ u hu => ?_⟩
  · rw [(List.mem_cons.mp ht).resolve_right fun w => by cases w]
    exact cpl
  · have := (cp_val sf kc q1 q2 fl.2 co gw hρ (km x + 1) x hx (by omega) c3).1
    rw [es] at this
    exact ⟨_, rfl, _, this⟩
  · obtain ⟨v, rfl, θ, rfl⟩ := hu
    obtain ⟨ρ', g1, g2, g3⟩ := gw.ext sf kc hρ (fun w => θ ((W.getD (w - M) 0 : Nat) : Int))
    refine ⟨ρ', g1, g2, ?_⟩
    obtain ⟨v1, v2⟩ := cp_val sf kc q1 q2 fl.2 co gw g1 (km x + 1) x hx (by omega) c3
    rw [es] at v1 v2
    show [ρ' (cpn M W (rt x))] = [ins θ ρ s]
    have w1 : ins (fun g => ρ' (cpn M W g.toNat)) ρ' s = ins θ ρ' s := by
      refine ins_ck s fun g hg => ?_
      obtain ⟨y, rfl, hyW, hyn⟩ := v2 g hg
      obtain ⟨d1, d2, d3⟩ := cpn_mem (M0 := M) hyW
      rw [Int.toNat_natCast, d1, g3 (M + W.idxOf y) (by omega) (by omega) (by rw [cp_N' d3, if_pos hyn]; decide), Nat.add_sub_cancel_left, List.getD, d3]
      rfl
    have w2 : ins θ ρ' s = ins θ ρ s := by
      refine ins_cg s fun y hy => g2 y ?_
      rw [← es] at hy
      exact (sc_nd sf.1 kc (km x + 1) x hx (by omega) q1 q2 y hy).lt
    rw [v1, w1, w2]
end
