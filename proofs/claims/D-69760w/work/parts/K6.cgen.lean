/-! THE COMPONENT'S TYPES: variables become general -/
section
variable {G : Gh} {d M Pn m s x : Nat} {h h0 h1 h' : AH} {τ : Tb} {fs rt dp sz : Nat → Nat} {V V' A : List Nat} {v : Int32}
def setN (τ : Tb) (x : Nat) (n : Int) : Tb := (fun z => if z = x then n else uN τ z, τ.2.1, τ.2.2)
theorem gn_set (hn : uN τ x < 0) : gnT τ (x :: V) = setN (gnT τ V) x (-2) := by
  show ((fun z => if z ∈ x :: V ∧ uN τ z < 0 then (-2 : Int) else uN τ z), τ.2.1, τ.2.2) = ((fun z => if z = x then (-2 : Int) else if z ∈ V ∧ uN τ z < 0 then (-2 : Int) else uN τ z), τ.2.1, τ.2.2)
  congr 1
  funext z
  by_cases c : z = x
  · rw [if_pos c, if_pos ⟨by rw [c]; exact List.mem_cons_self .., by rw [c]; exact hn⟩]
  · rw [if_neg c]
    by_cases c2 : z ∈ V ∧ uN τ z < 0
    · rw [if_pos c2, if_pos ⟨List.mem_cons_of_mem _ c2.1, c2.2⟩]
    · rw [if_neg c2, if_neg (fun q => c2 ⟨(List.mem_cons.mp q.1).resolve_left c, q.2⟩)]
theorem TyS.name (k : TyS G h M Pn τ fs) (hD : DW (gW G)) (e : h' = sI h (gW G 1030) x v) : TyS G h' M Pn (setN τ x v.toInt) fs ∧ FTy G h h' := by
  obtain ⟨sA, e36, e37, hM, hPn, hA⟩ := k
  have T : FTy G h h' := by rw [e]; exact FTy.rf.sI (by decide)
  have ne : ∀ i', (i' = 1031 ∨ i' = 1032 ∨ i' = 1035) → gW G i' ≠ gW G 1030 := fun i' hi' z => by
    have := hD i' 1030 (by rcases hi' with rfl | rfl | rfl <;> decide) (by decide) z
    omega
  have B : ∀ i', (i' = 1031 ∨ i' = 1032 ∨ i' = 1035) → ∀ j, aI h' (gW G i') j = aI h (gW G i') j := fun i' hi' j => by rw [e, aI_sI, if_neg (fun z => ne i' hi' z.1)]
  have f : fI h' = fI h := by rw [e]; rfl
  refine ⟨⟨sA.le T.2.2, by rw [f]; exact e36, by rw [f]; exact e37, hM, hPn, fun z hz => ?_⟩, T⟩
  obtain ⟨b1, b2, b3, b4, b5, b6⟩ := hA z hz
  rw [B 1031 (by decide), B 1032 (by decide)]
  refine ⟨?_, b2, b3, b4, b5, fun k p hp => by rw [B 1035 (by decide)]; exact b6 k p hp⟩
  show _ = if z = x then v.toInt else uN τ z
  rw [e, aI_sI]
  by_cases c : z = x
  · rw [if_pos ⟨rfl, c⟩, if_pos c]
  · rw [if_neg (fun w => c w.2), if_neg c]
    exact b1
theorem TyS.flag (k : TyS G h M Pn τ fs) (hD : DW (gW G)) (nx : uS τ x = none) (hv : v.toInt < 0) (e : h' = sI h (gW G 1032) x v) : TyS G h' M Pn τ fs ∧ FTy G h h' := by
  obtain ⟨sA, e36, e37, hM, hPn, hA⟩ := k
  have T : FTy G h h' := by rw [e]; exact FTy.rf.sI (by decide)
  have ne : ∀ i', (i' = 1030 ∨ i' = 1031 ∨ i' = 1035) → gW G i' ≠ gW G 1032 := fun i' hi' z => by
    have := hD i' 1032 (by rcases hi' with rfl | rfl | rfl <;> decide) (by decide) z
    omega
  have B : ∀ i', (i' = 1030 ∨ i' = 1031 ∨ i' = 1035) → ∀ j, aI h' (gW G i') j = aI h (gW G i') j := fun i' hi' j => by rw [e, aI_sI, if_neg (fun z => ne i' hi' z.1)]
  have f : fI h' = fI h := by rw [e]; rfl
  refine ⟨⟨sA.le T.2.2, by rw [f]; exact e36, by rw [f]; exact e37, hM, hPn, fun z hz => ?_⟩, T⟩
  obtain ⟨b1, b2, b3, b4, b5, b6⟩ := hA z hz
  rw [B 1030 (by decide), B 1031 (by decide)]
  refine ⟨b1, fun y hy => ?_, fun hn => ?_, b4, b5, fun k p hp => by rw [B 1035 (by decide)]; exact b6 k p hp⟩
  · rw [e, aI_sI, if_neg (fun w => (by rw [w.2, nx] at hy; cases hy))]
    exact b2 y hy
  · rw [e, aI_sI]
    split
    · exact hv
    · exact b3 hn
theorem NmS.gn (nm : NmS G h M τ) : NmS G h M (gnT τ V) := by
  intro x hx hn
  have hn' := gn_pos.mp hn
  rw [gn_eq hn']
  exact nm x hx hn'
/-- what holds on the way: V are done, A are open -/
def GI (G : Gh) (h0 h : AH) (M Pn : Nat) (τ : Tb) (fs rt : Nat → Nat) (m s : Nat) (V A : List Nat) : Prop :=
  (TyS G h M Pn (gnT τ V) fs ∧ NmS G h M (gnT τ V) ∧ FTy G h0 h) ∧ (∀ z, z < M → aI h (gW G 1033) z = if z ∈ V ∨ z ∈ A then nI s else aI h0 (gW G 1033) z) ∧ (∀ z, z < M → uS τ z = none → (z ∈ V → (aI h (gW G 1032) z = -2 ↔ ¬ cln M (gnT τ V) z)) ∧ (z ∉ V → aI h (gW G 1032) z = aI h0 (gW G 1032) z)) ∧ (∀ z, z ∈ V → (uS τ z = none ∧ z < M ∧ ¬ mkd G h0 m z) ∧ (z ∉ A) ∧ ∀ p, p ∈ pc τ z → rt p ∈ V ∨ mkd G h0 m (rt p))
def gnQ (G : Gh) (h0 : AH) (M Pn : Nat) (τ : Tb) (fs rt : Nat → Nat) (m s : Nat) (V A : List Nat) (t : Nat) : Outcome → AH → Prop := fun o h' => ∃ V', GI G h0 h' M Pn τ fs rt m s V' A ∧ (∀ z, z ∈ V → z ∈ V') ∧ (rt t ∈ V' ∨ mkd G h0 m (rt t)) ∧ (∀ K : Nat → Prop, KC M τ K → K t → ∀ z, z ∈ V' → z ∈ V ∨ K z) ∧ ((o = .returned (some (.int 1)) ∧ ¬ cln M (gnT τ V') (rt t)) ∨ (o = .returned (some (.int 0)) ∧ cln M (gnT τ V') (rt t)))
theorem c_gen (hD : DW (gW G)) (sf : SF M τ rt dp) (kc : KC M τ (· < M)) (gr : ∀ x, x < M → uN τ x = -2 → uS τ x = none) (hz : SZ M τ rt sz) {km : Nat → Nat} (k1 : ∀ x, x < M → km x = km (rt x)) (k2 : ∀ x, x < M → 0 ≤ uN τ x → ∀ p, p ∈ uP τ x → km p < km x)
    (hE : ∀ z, z < M → mkd G h0 m z → ∀ p, p ∈ pc τ z → mkd G h0 m (rt p)) (hs0 : ∀ z, z < M → ¬ mkd G h0 s z) (fl0 : ∀ x, x < M → uS τ x = none → aI h0 (gW G 1032) x = -2 → ¬ cln M τ x) (hms : m < s) (hs : s < 2147483648) :
    ∀ n t D h V A, sz t ≤ n → t < M → cln M τ t → n + 3 ≤ D → (∀ a, a ∈ A → km (rt t) < km a) → GI G h0 h M Pn τ fs rt m s V A → C G mX3_generalise D [.ref (gW G 2), .int (nI t), .int (nI m), .int (nI s)] h (gnQ G h0 M Pn τ fs rt m s V A t) := by
  have r := sf.1
  intro n
  induction n with
  | zero =>
    intro t D h V A hn ht
    have := (hz t ht).1
    have := (hz t ht).2
    omega
  | succ n ih =>
    intro t D h V A hn ht ct hDp hA I
    obtain ⟨D, rfl⟩ : ∃ D', D = D' + 1 := ⟨D - 1, by omega⟩
    obtain ⟨⟨k, nm, T⟩, hmk, hfl, hV⟩ := id I
    have s2 := k.1.at (i := 2) (by decide)
    have hM := k.2.2.2.1
    have hr := (r t ht).1
    have nr : uS τ (rt t) = none := r.none _ t (Nat.lt_succ_self _) ht
    have rr : rt (rt t) = rt t := r.id ht
    have cr : cln M τ (rt t) := ct.rtt r
    refine bX3_generalise G D h _ _ _ _ s2 (C.ri (c_fd k (gn_rts.mpr r) ht) ?_)
    rw [nI_cn (by omega)]
    have sm : nI m ≠ nI s := fun e => by
      have := (nI_eq (by omega) (by omega)).mp e
      omega
    refine ⟨vp_in_nI (by omega) (by decide), fun e => ?_, fun e => ⟨vp_in_nI (by omega) (by decide), fun e2 => ⟨vp_in_nI (by omega) (by decide), ?_⟩, fun e2 => ⟨vp_in_nI (by omega) (by decide), fun h9 e9 => ⟨vp_in_nI (by omega) (by decide), ?_⟩⟩⟩⟩
    · have hmx : mkd G h0 m (rt t) := by
        rw [hmk _ hr] at e
        by_cases c : rt t ∈ V ∨ rt t ∈ A
        · rw [if_pos c] at e; exact absurd e.symm sm
        · rw [if_neg c] at e; exact e
      refine ⟨V, I, fun z hz => hz, Or.inr hmx, fun K _ _ z hz => Or.inl hz, Or.inr ⟨rfl, ?_⟩⟩
      refine (cln_V (V := []) sf kc hE (fun z hz => (by cases hz)) (fun z hz => (hV z hz).1) (fun z hz => (by cases hz)) hr (Or.inr (by rw [rr]; exact hmx))).mpr ?_
      rw [gn_nil]
      exact cr
    · have hin : rt t ∈ V := by
        rw [hmk _ hr] at e2
        by_cases c : rt t ∈ V ∨ rt t ∈ A
        · exact c.resolve_right fun q => by have := hA _ q; omega
        · rw [if_neg c] at e2; exact absurd e2 (hs0 _ hr)
      have f := (hfl _ hr nr).1 hin
      refine ⟨fun q => ⟨V, I, fun z hz => hz, Or.inl hin, fun K _ _ z hz => Or.inl hz, Or.inl ⟨rfl, f.mp q⟩⟩, fun q => ⟨V, I, fun z hz => hz, Or.inl hin, fun K _ _ z hz => Or.inl hz, Or.inr ⟨rfl, Classical.byContradiction fun w => q (f.mpr w)⟩⟩⟩
    · have hnV : rt t ∉ V := fun q => e2 (by rw [hmk _ hr, if_pos (Or.inl q)])
      have hnA : rt t ∉ A := fun q => e2 (by rw [hmk _ hr, if_pos (Or.inr q)])
      have hnE : ¬ mkd G h0 m (rt t) := fun q => e (by rw [hmk _ hr, if_neg (fun w => w.elim hnV hnA)]; exact q)
      obtain ⟨k9, T9⟩ := k.ot hD (Or.inl rfl) e9
      have nm9 := nm.mv T9 k.1 hD
      have a1 := (k9.2.2.2.2.2 (rt t) hr).1
      have m9 : ∀ z, aI h9 (gW G 1033) z = if z = rt t then nI s else aI h (gW G 1033) z := fun z => by
        rw [e9, aI_sI]
        by_cases q : z = rt t
        · rw [if_pos ⟨rfl, q⟩, if_pos q]
        · rw [if_neg (fun w => q w.2), if_neg q]
      have f9 : ∀ z, aI h9 (gW G 1032) z = aI h (gW G 1032) z := fun z => by
        rw [e9, aI_sI, if_neg (fun w => absurd (hD 1032 1033 (by decide) (by decide) w.1) (by decide))]
      rw [Int32.le_iff_toInt_le, a1]
      refine ⟨fun hp => ?_, fun hp => ⟨vp_in_nI (by omega) (by decide), fun h19 e19 => ?_⟩⟩
      · change (0 : Int) ≤ _ at hp
        have hp' : 0 ≤ uN τ (rt t) := gn_pos.mp hp
        refine C.ri (c_hm k9 nm9 hr) ?_
        rw [if_pos hp, gn_uP]
        have hpc : pc τ (rt t) = uP τ (rt t) := by unfold pc; rw [if_pos hp']
        have hl6 : (uP τ (rt t)).length ≤ 6 := (nm9 _ hr hp).1.2
        have szx := (hz t ht).2
        have szt := (hz t ht).1
        rw [hpc] at szx
        have lp : ∀ f i h V1 (b : Nat), (uP τ (rt t)).length - i < f → i ≤ (uP τ (rt t)).length → GI G h0 h M Pn τ fs rt m s V1 (rt t :: A) → (∀ z, z ∈ V → z ∈ V1) → (∀ K : Nat → Prop, KC M τ K → K t → ∀ z, z ∈ V1 → z ∈ V ∨ K z) → (∀ j p, j < i → (uP τ (rt t))[j]? = some p → rt p ∈ V1 ∨ mkd G h0 m (rt p)) → (b = 0 ∨ b = 1) → (b = 1 ↔ ∃ j p, j < i ∧ (uP τ (rt t))[j]? = some p ∧ ¬ cln M (gnT τ V1) (rt p)) →
            X G mX3_generalise (D + 1) none [] 99 [(0, .ref (gW G 2)), (2, .int (nI m)), (3, .int (nI s)), (4, .int (nI (rt t))), (5, .int (nI b)), (6, .int (nI (uP τ (rt t)).length)), (7, .int (nI i))] [] h (gnQ G h0 M Pn τ fs rt m s V A t) := by
          intro f
          induction f with
          | zero => intro i h V1 b hf; omega
          | succ f IH =>
            intro i h V1 b hf hi I1 hVV hKV hdone hb hbi
            obtain ⟨⟨k1', nm1, T1⟩, hmk1, hfl1, hV1⟩ := id I1
            have hx1 : rt t ∉ V1 := fun q => (hV1 _ q).2.1 (List.mem_cons_self ..)
            refine bX3_generalise_99 G D h _ _ _ _ _ _ _ (k1'.1.at (by decide)) ?_
            rw [nI_leI (by omega) (by omega)]
            refine ⟨fun hle => ?_, fun hle => ?_⟩
            · have ei : i = (uP τ (rt t)).length := by omega
              have all : ∀ p, p ∈ pc τ (rt t) → rt p ∈ V1 ∨ mkd G h0 m (rt p) := fun p hpp => by
                rw [hpc] at hpp
                obtain ⟨j, hj⟩ := List.getElem?_of_mem hpp
                have := (List.getElem?_eq_some_iff.mp hj).1
                exact hdone j p (by omega) hj
              have gc : gnT τ (rt t :: V1) = gnT τ V1 := gn_cons hp'
              have sf1 : SF M (gnT τ V1) rt dp := gn_sf sf
              have kc1 : KC M (gnT τ V1) (· < M) := gn_kc.mpr kc
              have gr1 : ∀ x, x < M → uN (gnT τ V1) x = -2 → uS (gnT τ V1) x = none := fun x hx hn => by
                rw [gn_uN] at hn
                by_cases c : x ∈ V1 ∧ uN τ x < 0
                · exact (hV1 x c.1).1.1
                · rw [if_neg c] at hn; exact gr x hx hn
              have fin : ∀ h4, (h4 = h ∧ b = 0 ∨ h4 = sI h (gW G 1032) (rt t) (-2) ∧ b = 1) → gnQ G h0 M Pn τ fs rt m s V A t (.returned (some (.int (nI b)))) h4 := by
                intro h4 hc
                have cl : b = 0 ↔ cln M (gnT τ V1) (rt t) := by
                  refine ⟨fun b0 => cln_mk sf1 kc1 gr1 hr nr (fun q => by rw [gn_eq hp'] at q; omega) fun p hpp => ?_, fun c => ?_⟩
                  · refine Classical.byContradiction fun w => ?_
                    rw [gn_pc, hpc] at hpp
                    obtain ⟨j, hj⟩ := List.getElem?_of_mem hpp
                    have := (List.getElem?_eq_some_iff.mp hj).1
                    have := hbi.mpr ⟨j, p, by omega, hj, w⟩
                    omega
                  · rcases hb with q | q
                    · exact q
                    · obtain ⟨j, p, -, hj, w⟩ := hbi.mp q
                      exact absurd ((c.part (by rw [gn_pc, hpc]; exact List.mem_of_getElem? hj)).rtt (gn_rts.mpr r)) w
                have mem : ∀ z, (z ∈ rt t :: V1 ∨ z ∈ A) ↔ (z ∈ V1 ∨ z ∈ rt t :: A) := fun z => by
                  simp only [List.mem_cons]
                  constructor
                  · rintro ((q | q) | q)
                    · exact Or.inr (Or.inl q)
                    · exact Or.inl q
                    · exact Or.inr (Or.inr q)
                  · rintro (q | q | q)
                    · exact Or.inl (Or.inr q)
                    · exact Or.inl (Or.inl q)
                    · exact Or.inr q
                have k4 : TyS G h4 M Pn (gnT τ V1) fs ∧ FTy G h h4 := by
                  rcases hc with ⟨q, -⟩ | ⟨q, -⟩
                  · rw [q]; exact ⟨k1', FTy.rf⟩
                  · exact k1'.flag hD nr (by decide) q
                have m4 : ∀ z, aI h4 (gW G 1033) z = aI h (gW G 1033) z := fun z => by
                  rcases hc with ⟨q, -⟩ | ⟨q, -⟩
                  · rw [q]
                  · rw [q, aI_sI, if_neg (fun w => absurd (hD 1033 1032 (by decide) (by decide) w.1) (by decide))]
                have f4 : ∀ z, z ≠ rt t → aI h4 (gW G 1032) z = aI h (gW G 1032) z := fun z hz => by
                  rcases hc with ⟨q, -⟩ | ⟨q, -⟩
                  · rw [q]
                  · rw [q, aI_sI, if_neg (fun w => hz w.2)]
                refine ⟨rt t :: V1, ⟨⟨by rw [gc]; exact k4.1, by rw [gc]; exact nm1.mv k4.2 k1'.1 hD, T1.tr k4.2⟩, fun z hz => ?_, fun z hz hn => ⟨fun q => ?_, fun q => ?_⟩, fun z hz => ?_⟩, fun z hz => List.mem_cons_of_mem _ (hVV z hz), Or.inl (List.mem_cons_self ..), fun K c1 c2 z hz => ?_, ?_⟩
                · rw [m4, hmk1 z hz]
                  by_cases c : z ∈ V1 ∨ z ∈ rt t :: A
                  · rw [if_pos c, if_pos ((mem z).mpr c)]
                  · rw [if_neg c, if_neg (fun w => c ((mem z).mp w))]
                · rw [gc]
                  by_cases c : z = rt t
                  · rw [c]
                    rcases hc with ⟨q1, q2⟩ | ⟨q1, q2⟩
                    · rw [q1, (hfl1 _ hr nr).2 hx1]
                      exact ⟨fun w => absurd cr (fl0 _ hr nr w), fun w => absurd (cl.mp q2) w⟩
                    · rw [q1, aI_sI, if_pos ⟨rfl, rfl⟩]
                      exact ⟨fun _ w => by have := cl.mpr w; omega, fun _ => rfl⟩
                  · rw [f4 z c]
                    exact (hfl1 z hz hn).1 ((List.mem_cons.mp q).resolve_left c)
                · rw [f4 z (fun c => q (by rw [c]; exact List.mem_cons_self ..))]
                  exact (hfl1 z hz hn).2 fun w => q (List.mem_cons_of_mem _ w)
                · rcases List.mem_cons.mp hz with c | c
                  · rw [c]
                    exact ⟨⟨nr, hr, hnE⟩, hnA, fun p hpp => (all p hpp).imp (List.mem_cons_of_mem _) id⟩
                  · obtain ⟨c1, c2, c3⟩ := hV1 z c
                    exact ⟨c1, fun q => c2 (List.mem_cons_of_mem _ q), fun p hpp => (c3 p hpp).imp (List.mem_cons_of_mem _) id⟩
                · rcases List.mem_cons.mp hz with c | c
                  · rw [c]; exact Or.inr (c1.rtt r _ t (Nat.lt_succ_self _) ht c2)
                  · exact hKV K c1 c2 z c
                · rw [gc]
                  rcases hb with q | q
                  · rw [q]; exact Or.inr ⟨rfl, cl.mp q⟩
                  · rw [q]; exact Or.inl ⟨rfl, fun w => by have := cl.mpr w; omega⟩
              refine ⟨fun b0 => ⟨Or.inl b0, fin h (Or.inl ⟨rfl, ?_⟩)⟩, fun b0 => ⟨vp_in_nI (by omega) (by decide), fun h4 e4 => ?_⟩⟩
              · rcases hb with q | q
                · exact q
                · rw [q] at b0; exact absurd b0 (by decide)
              · have b1 : b = 1 := hb.resolve_left fun q => b0 (by rw [q]; rfl)
                rw [nI_cn (by omega)] at e4
                exact ⟨Or.inr (by rw [b1]; rfl), fin h4 (Or.inr ⟨e4, b1⟩)⟩
            · have hil : i < (uP τ (rt t)).length := by omega
              obtain ⟨p, hpi⟩ : ∃ p, (uP τ (rt t))[i]? = some p := ⟨_, List.getElem?_eq_getElem hil⟩
              have hpm : p ∈ pc τ (rt t) := by rw [hpc]; exact List.mem_of_getElem? hpi
              have hpM : p < M := (kc _ hr).2.2 hp' p (List.mem_of_getElem? hpi)
              obtain ⟨D', rfl⟩ : ∃ D', D = D' + 1 := ⟨D - 1, by omega⟩
              refine C.ri (c_pt k1' (gn_rts.mpr r) hr hpi) ?_
              have kmx := k2 _ hr hp' p (List.mem_of_getElem? hpi)
              have hszp : sz p ≤ ((uP τ (rt t)).map sz).sum := by
                have h1 := sum_take sz _ _ _ hpi
                have h2 := sum_le sz (uP τ (rt t)) (i + 1)
                omega
              have rrp := r.id hpM
              refine C.mono (ih (rt p) _ h V1 (rt t :: A) (by have := (hz p hpM).1; omega) (r p hpM).1 ((cr.part hpm).rtt r) (by omega) (fun a ha => ?_) I1) ?_
              · rw [rrp, ← k1 p hpM]
                rcases List.mem_cons.mp ha with q | q
                · rw [q]; exact kmx
                · exact Nat.lt_trans kmx (hA a q)
              · rintro o h2 ⟨V2, I2, s1, s2', s3, s4⟩
                rw [rrp] at s2' s4
                have eqv : ∀ j q, j < i → (uP τ (rt t))[j]? = some q → (cln M (gnT τ V2) (rt q) ↔ cln M (gnT τ V1) (rt q)) := fun j q hj hq => by
                  have hqM : q < M := (kc _ hr).2.2 hp' q (List.mem_of_getElem? hq)
                  exact cln_V sf kc hE (fun z hz => (hV1 z hz).2.2) (fun z hz => (I2.2.2.2 z hz).1) s1 (r q hqM).1 (by rw [r.id hqM]; exact hdone j q hj hq)
                have next : ∀ b', (b' = 0 ∨ b' = 1) → (b' = 1 ↔ (b = 1 ∨ ¬ cln M (gnT τ V2) (rt p))) → X G mX3_generalise (D' + 1 + 1) none [] 99 [(0, .ref (gW G 2)), (2, .int (nI m)), (3, .int (nI s)), (4, .int (nI (rt t))), (5, .int (nI b')), (6, .int (nI (uP τ (rt t)).length)), (7, .int (nI (i + 1)))] [] h2 (gnQ G h0 M Pn τ fs rt m s V A t) := by
                  intro b' hb' hbb
                  refine IH (i + 1) h2 V2 b' (by clear hbi hbb; omega) (by clear hbi hbb; omega) I2 (fun z hz => s1 z (hVV z hz)) (fun K c1 c2 z hz => ?_) (fun j q hj hq => ?_) hb' ?_
                  · have kp : K (rt p) := c1.rtt r _ p (Nat.lt_succ_self _) hpM ((c1 _ (c1.rtt r _ t (Nat.lt_succ_self _) ht c2)).2.2 hp' p (List.mem_of_getElem? hpi))
                    rcases s3 K c1 kp z hz with q | q
                    · exact hKV K c1 c2 z q
                    · exact Or.inr q
                  · by_cases hji : j = i
                    · rw [hji, hpi] at hq
                      cases hq
                      exact s2'
                    · exact (hdone j q (by omega) hq).imp (s1 _) id
                  · rw [hbb, hbi]
                    constructor
                    · rintro (⟨j, q, h1, h2, h3⟩ | h1)
                      · exact ⟨j, q, by omega, h2, fun w => h3 ((eqv j q h1 h2).mp w)⟩
                      · exact ⟨i, p, by omega, hpi, h1⟩
                    · rintro ⟨j, q, h1, h2, h3⟩
                      by_cases hji : j = i
                      · rw [hji, hpi] at h2
                        cases h2
                        exact Or.inr h3
                      · exact Or.inl ⟨j, q, by omega, h2, fun w => h3 ((eqv j q (by omega) h2).mpr w)⟩
                rcases s4 with ⟨rfl, s4⟩ | ⟨rfl, s4⟩
                · refine KI.i ⟨fun q => absurd q (by decide), fun _ => ?_⟩
                  rintro _ rfl
                  rw [nI_1]
                  exact next 1 (Or.inr rfl) ⟨fun _ => Or.inr s4, fun _ => rfl⟩
                · refine KI.i ⟨fun _ => ⟨fun b0 => ?_, fun b0 => ?_⟩, fun q => absurd rfl q⟩
                  · rintro _ rfl
                    rw [nI_1]
                    have hb0 : b = 0 := hb.resolve_right fun q => by rw [q] at b0; exact absurd b0 (by decide)
                    exact next 0 (Or.inl rfl) ⟨fun w => absurd w (by decide), fun w => w.elim (fun q => by omega) fun q => absurd s4 q⟩
                  · rintro _ rfl
                    rw [nI_1]
                    have hb1 : b = 1 := hb.resolve_left fun q => b0 (by rw [q]; rfl)
                    exact next 1 (Or.inr rfl) ⟨fun _ => Or.inl hb1, fun _ => rfl⟩
        refine lp ((uP τ (rt t)).length + 1) 0 h9 V 0 (by omega) (by omega) ⟨⟨k9, nm9, T.tr T9⟩, fun z hz => ?_, fun z hz hn => by rw [f9]; exact hfl z hz hn, fun z hz => ⟨(hV z hz).1, fun q => ?_, (hV z hz).2.2⟩⟩ (fun z hz => hz) (fun K _ _ z hz => Or.inl hz) (fun j p hj => by omega) (Or.inl rfl) ⟨fun q => absurd q (by decide), fun ⟨j, p, hj, _⟩ => by omega⟩
        · rw [m9]
          by_cases q : z = rt t
          · rw [if_pos q, if_pos (Or.inr (by rw [q]; exact List.mem_cons_self ..))]
          · rw [if_neg q, hmk z hz]
            by_cases c : z ∈ V ∨ z ∈ A
            · rw [if_pos c, if_pos (c.imp id (List.mem_cons_of_mem _))]
            · rw [if_neg c, if_neg (fun w => c (w.imp id fun w => (List.mem_cons.mp w).resolve_left q))]
        · rcases List.mem_cons.mp q with q | q
          · rw [q] at hz; exact hnV hz
          · exact (hV z hz).2.1 q
      · change ¬ (0 : Int) ≤ _ at hp
        have hp' : uN τ (rt t) < 0 := by
          refine Classical.byContradiction fun w => hp (gn_pos.mpr ?_)
          omega
        obtain ⟨k19, T19⟩ := k9.name hD e19
        rw [show ((-2 : Int32)).toInt = -2 from rfl, ← gn_set hp'] at k19
        have nm19 : NmS G h19 M (gnT τ (rt t :: V)) := by
          have h1 := nm9.mv T19 k9.1 hD
          intro y hy hn
          have hn' := gn_pos.mp hn
          have := h1 y hy (gn_pos.mpr hn')
          rw [gn_eq hn'] at this
          rw [gn_eq hn']
          exact this
        refine C.ri (c_hm k19 nm19 hr) ?_
        rw [if_neg (fun q => by have := gn_pos.mp q; omega)]
        refine bX3_generalise_99 G D h19 _ _ _ _ _ _ _ (k19.1.at (by decide)) ⟨fun _ => ⟨fun q => absurd q (by decide), fun _ => ⟨vp_in_nI (by omega) (by decide), fun h4 e4 => ⟨Or.inr rfl, ?_⟩⟩⟩, fun q => absurd (nI_le (a := 0) (b := 0) (by omega) (by decide)) q⟩
        rw [nI_cn (by omega)] at e4
        obtain ⟨k4, T4⟩ := k19.flag hD nr (by decide) e4
        have m4 : ∀ z, aI h4 (gW G 1033) z = if z = rt t then nI s else aI h (gW G 1033) z := fun z => by
          rw [e4, aI_sI, if_neg (fun w => absurd (hD 1033 1032 (by decide) (by decide) w.1) (by decide)), e19, aI_sI, if_neg (fun w => absurd (hD 1033 1030 (by decide) (by decide) w.1) (by decide)), m9]
        have f4 : ∀ z, aI h4 (gW G 1032) z = if z = rt t then -2 else aI h (gW G 1032) z := fun z => by
          rw [e4, aI_sI]
          by_cases q : z = rt t
          · rw [if_pos ⟨rfl, q⟩, if_pos q]
          · rw [if_neg (fun w => q w.2), if_neg q, e19, aI_sI, if_neg (fun w => absurd (hD 1032 1030 (by decide) (by decide) w.1) (by decide)), f9]
        have hpc : pc τ (rt t) = [] := by unfold pc; rw [if_neg (by omega)]
        have hV2 : ∀ z, z ∈ rt t :: V → (uS τ z = none ∧ z < M ∧ ¬ mkd G h0 m z) := fun z hz => by
          rcases List.mem_cons.mp hz with c | c
          · rw [c]; exact ⟨nr, hr, hnE⟩
          · exact (hV z c).1
        have hno : ¬ cln M (gnT τ (rt t :: V)) (rt t) := by
          rintro ⟨K, -, c2, c3⟩
          refine c3 _ c2 ?_
          rw [gn_uN, if_pos ⟨List.mem_cons_self .., hp'⟩]
        refine ⟨rt t :: V, ⟨⟨k4, nm19.mv T4 k19.1 hD, ((T.tr T9).tr T19).tr T4⟩, fun z hz => ?_, fun z hz hn => ⟨fun q => ?_, fun q => ?_⟩, fun z hz => ?_⟩, fun z hz => List.mem_cons_of_mem _ hz, Or.inl (List.mem_cons_self ..), fun K c1 c2 z hz => ?_, Or.inl ⟨rfl, hno⟩⟩
        · rw [m4]
          by_cases q : z = rt t
          · rw [if_pos q, if_pos (Or.inl (by rw [q]; exact List.mem_cons_self ..))]
          · rw [if_neg q, hmk z hz]
            by_cases c : z ∈ V ∨ z ∈ A
            · rw [if_pos c, if_pos (c.imp (List.mem_cons_of_mem _) id)]
            · rw [if_neg c, if_neg (fun w => c (w.imp (fun w => (List.mem_cons.mp w).resolve_left q) id))]
        · rw [f4]
          by_cases c : z = rt t
          · rw [if_pos c, c]
            exact ⟨fun _ => hno, fun _ => rfl⟩
          · rw [if_neg c]
            have hzV := (List.mem_cons.mp q).resolve_left c
            rw [cln_V sf kc hE (fun z hz => (hV z hz).2.2) hV2 (fun z hz => List.mem_cons_of_mem _ hz) hz (Or.inl (by rw [(r z hz).2.2 hn]; exact hzV))]
            exact (hfl z hz hn).1 hzV
        · rw [f4, if_neg (fun c => q (by rw [c]; exact List.mem_cons_self ..))]
          exact (hfl z hz hn).2 fun w => q (List.mem_cons_of_mem _ w)
        · refine ⟨hV2 z hz, fun q => ?_, fun p hpp => ?_⟩
          · rcases List.mem_cons.mp hz with c | c
            · rw [c] at q; exact hnA q
            · exact (hV z c).2.1 q
          · rcases List.mem_cons.mp hz with c | c
            · rw [c, hpc] at hpp; cases hpp
            · exact ((hV z c).2.2 p hpp).imp (List.mem_cons_of_mem _) id
        · rcases List.mem_cons.mp hz with c | c
          · rw [c]; exact Or.inr (c1.rtt r _ t (Nat.lt_succ_self _) ht c2)
          · exact Or.inl c
end
