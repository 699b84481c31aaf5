/-! THE COMPONENT'S TYPES: marks of all that a type is made of -/
/-- the pile holds L, the first on top -/
def P1 (G : Gh) (h : AH) (L : List Nat) : Prop := ∀ i x, L[i]? = some x → aI h (gW G 1039) (L.length - 1 - i) = nI x
section
variable {G : Gh} {d M Pn m t j Vs0 : Nat} {h h0 h1 h' : AH} {τ : Tb} {fs rt dp : Nat → Nat} {L Vs E : List Nat} {v : Int32}
theorem P1.pop {x : Nat} (k : P1 G h (x :: L)) : P1 G h L ∧ aI h (gW G 1039) L.length = nI x := by
  refine ⟨fun i y hy => ?_, ?_⟩
  · have hi := (List.getElem?_eq_some_iff.mp hy).1
    have := k (i + 1) y (by simpa using hy)
    rw [List.length_cons, show L.length + 1 - 1 - (i + 1) = L.length - 1 - i by omega] at this
    exact this
  · have := k 0 x rfl
    rw [List.length_cons, show L.length + 1 - 1 - 0 = L.length by omega] at this
    exact this
theorem P1.push {x : Nat} (k : P1 G h L) (e : h' = sI h (gW G 1039) L.length (nI x)) : P1 G h' (x :: L) := by
  intro i y hy
  rw [e, aI_sI, List.length_cons]
  cases i with
  | zero =>
    cases hy
    rw [if_pos ⟨rfl, by omega⟩]
  | succ i =>
    have hy' : L[i]? = some y := by simpa using hy
    have hi := (List.getElem?_eq_some_iff.mp hy').1
    rw [if_neg (fun z => by omega), show L.length + 1 - 1 - (i + 1) = L.length - 1 - i by omega]
    exact k i y hy'
theorem P1.ot {i : Nat} (k : P1 G h L) (hD : DW (gW G)) (hi : i = 1033 ∨ i = 1034 ∨ i = 1046) (e : h' = sI h (gW G i) j v) : P1 G h' L := by
  intro n p hp
  have ne : gW G 1039 ≠ gW G i := fun z => by
    have := hD 1039 i (by decide) (by rcases hi with rfl | rfl | rfl <;> decide) z
    omega
  rw [e, aI_sI, if_neg (fun z => ne z.1)]
  exact k n p hp
/-- nodes with the mark m -/
def mkd (G : Gh) (h : AH) (m z : Nat) : Prop := aI h (gW G 1033) z = nI m
/-- what holds on the way: Vs have been marked, E have parts that may not be -/
def TV (G : Gh) (h0 h : AH) (M Pn : Nat) (τ : Tb) (fs rt : Nat → Nat) (m t : Nat) (L E Vs : List Nat) : Prop :=
  (TyS G h M Pn τ fs ∧ NmS G h M τ ∧ P1 G h L ∧ FTy G h0 h) ∧ (∀ z, aI h (gW G 1033) z = if z ∈ Vs then nI m else aI h0 (gW G 1033) z) ∧ ((Vs.Nodup ∧ rt t ∈ Vs) ∧ L.length ≤ Vs.length ∧ ∀ z, z ∈ Vs → z < M ∧ uS τ z = none) ∧ (∀ z, z ∈ L → z ∈ Vs) ∧ (∀ z, z < M → mkd G h m z → z ∉ E → ∀ p, p ∈ pc τ z → mkd G h m (rt p)) ∧ ∀ K : Nat → Prop, KC M τ K → K t → ∀ z, z ∈ Vs → K z
def tchQ (G : Gh) (h0 : AH) (M Pn : Nat) (τ : Tb) (fs rt : Nat → Nat) (m t : Nat) : Outcome → AH → Prop := fun o h' => o = .returned none ∧ (TyS G h' M Pn τ fs ∧ FTy G h0 h') ∧ (∀ z, aI h' (gW G 1033) z = nI m ∨ aI h' (gW G 1033) z = aI h0 (gW G 1033) z) ∧ mkd G h' m (rt t) ∧ (∀ z, z < M → mkd G h' m z → ∀ p, p ∈ pc τ z → mkd G h' m (rt p)) ∧ ∀ K : Nat → Prop, KC M τ K → K t → ∀ z, mkd G h' m z → mkd G h0 m z ∨ K z
theorem tch_68 (hD : DW (gW G)) (r : RTs M τ rt dp) (hm : m < 2147483648) {Q : Outcome → AH → Prop} {x : Nat} (hx : x < M) (hxV : ∀ K : Nat → Prop, KC M τ K → K t → K x)
    (hQ : ∀ h2 L Vs, Vs0 ≤ 2 * Vs.length - L.length → TV G h0 h2 M Pn τ fs rt m t L L Vs → X G mX3_touch (d + 2) none [] 42 [(0, .ref (gW G 2)), (2, .int (nI m)), (3, .int (nI L.length))] [] h2 Q) :
    ∀ f i h1 L Vs, (pc τ x).length - i < f → i ≤ (pc τ x).length → Vs0 ≤ 2 * Vs.length - L.length → TV G h0 h1 M Pn τ fs rt m t L (x :: L) Vs → (∀ j p, j < i → (pc τ x)[j]? = some p → mkd G h1 m (rt p)) →
    X G mX3_touch (d + 2) none [] 68 [(0, .ref (gW G 2)), (2, .int (nI m)), (3, .int (nI L.length)), (4, .int (nI x)), (5, .int (nI (pc τ x).length)), (6, .int (nI i))] [] h1 Q := by
  intro f
  induction f with
  | zero => intro i h1 L Vs hf; omega
  | succ f IH =>
    intro i h1 L Vs hf hi hV V hdone
    obtain ⟨⟨k, nm, pl, T⟩, hmk, ⟨⟨nd, htV⟩, hLV, hVs⟩, hLs, hcl, hmin⟩ := id V
    have hM := k.2.2.2.1
    have hlen := nodup_lt M Vs nd fun z hz => (hVs z hz).1
    have hl6 : (pc τ x).length ≤ 6 := by
      unfold pc
      by_cases c : 0 ≤ uN τ x
      · rw [if_pos c]; exact (nm x hx c).1.2
      · rw [if_neg c]; exact Nat.zero_le _
    refine bX3_touch_68 G (d + 1) h1 _ _ _ _ _ _ (k.1.at (by decide)) ?_
    rw [nI_leI (by omega) (by omega)]
    refine ⟨fun z => ?_, fun z => ?_⟩
    · refine hQ h1 L Vs hV ⟨⟨k, nm, pl, T⟩, hmk, ⟨⟨nd, htV⟩, hLV, hVs⟩, hLs, fun z hz hk hE p hp => ?_, hmin⟩
      by_cases c : z = x
      · rw [c] at hp
        obtain ⟨j, hj⟩ := List.getElem?_of_mem hp
        have := (List.getElem?_eq_some_iff.mp hj).1
        exact hdone j p (by omega) hj
      · refine hcl z hz hk (fun w => ?_) p hp
        rcases List.mem_cons.mp w with w | w
        · exact c w
        · exact hE w
    · have hil : i < (pc τ x).length := by omega
      obtain ⟨p, hp⟩ : ∃ p, (pc τ x)[i]? = some p := ⟨_, List.getElem?_eq_getElem hil⟩
      obtain ⟨hn0, hpu, hpM⟩ := pc_lt k hx (List.mem_of_getElem? hp)
      have hpu' : (uP τ x)[i]? = some p := by
        unfold pc at hp
        rw [if_pos hn0] at hp
        exact hp
      refine C.ri (c_pt k r hx hpu') ?_
      have hrp := (r p hpM).1
      have nrp : uS τ (rt p) = none := r.none _ p (Nat.lt_succ_self _) hpM
      rw [nI_cn (by omega)]
      refine ⟨vp_in_nI (by omega) (by decide), fun ec => ?_, fun ec => ⟨vp_in_nI (by omega) (by decide), fun h8 e8 => ⟨vp_in_nI (by omega) (by decide), fun h11 e11 => ?_⟩⟩⟩
      · rintro _ rfl
        rw [nI_1]
        refine IH (i + 1) h1 L Vs (by omega) (by omega) hV V fun j q hj hq => ?_
        by_cases hji : j = i
        · rw [hji, hp] at hq
          cases hq
          exact ec
        · exact hdone j q (by omega) hq
      · rintro _ rfl _ rfl
        rw [nI_1, nI_1]
        rw [nI_cn (by omega)] at e11
        obtain ⟨k8, T8⟩ := k.ot hD (Or.inl rfl) e8
        obtain ⟨k11, T11⟩ := k8.ot hD (Or.inr (Or.inr (Or.inl rfl))) e11
        have hnew : rt p ∉ Vs := fun w => ec (by rw [hmk, if_pos w])
        have m11 : ∀ z, aI h11 (gW G 1033) z = if z = rt p then nI m else aI h1 (gW G 1033) z := fun z => by
          rw [e11, aI_sI, if_neg (fun w => absurd (hD 1033 1039 (by decide) (by decide) w.1) (by decide)), e8, aI_sI]
          by_cases q : z = rt p
          · rw [if_pos ⟨rfl, q⟩, if_pos q]
          · rw [if_neg (fun w => q w.2), if_neg q]
        have mon : ∀ z, mkd G h1 m z → mkd G h11 m z := fun z hz => by
          unfold mkd
          rw [m11]
          by_cases q : z = rt p
          · rw [if_pos q]
          · rw [if_neg q]; exact hz
        refine IH (i + 1) h11 (rt p :: L) (rt p :: Vs) (by omega) (by omega) (by rw [List.length_cons, List.length_cons]; omega) ⟨⟨k11, (nm.mv T8 k.1 hD).mv T11 k8.1 hD, (pl.ot hD (Or.inl rfl) e8).push e11, (T.tr T8).tr T11⟩, fun z => ?_, ⟨⟨List.nodup_cons.mpr ⟨hnew, nd⟩, List.mem_cons_of_mem _ htV⟩, by rw [List.length_cons, List.length_cons]; omega, fun z hz => ?_⟩, fun z hz => ?_, fun z hz hk hE q hq => ?_, fun K h1 h2 z hz => ?_⟩ fun j q hj hq => ?_
        · rw [m11]
          by_cases q : z = rt p
          · rw [if_pos q, if_pos (by rw [q]; exact List.mem_cons_self ..)]
          · rw [if_neg q, hmk]
            by_cases q2 : z ∈ Vs
            · rw [if_pos q2, if_pos (List.mem_cons_of_mem _ q2)]
            · rw [if_neg q2, if_neg (fun w => q2 ((List.mem_cons.mp w).resolve_left q))]
        · rcases List.mem_cons.mp hz with w | w
          · rw [w]; exact ⟨hrp, nrp⟩
          · exact hVs z w
        · rcases List.mem_cons.mp hz with w | w
          · rw [w]; exact List.mem_cons_self ..
          · exact List.mem_cons_of_mem _ (hLs z w)
        · have hz1 : z ≠ rt p := fun w => hE (by rw [w]; exact List.mem_cons_of_mem _ (List.mem_cons_self ..))
          refine mon _ (hcl z hz ?_ (fun w => hE ?_) q hq)
          · unfold mkd at hk ⊢
            rw [m11, if_neg hz1] at hk
            exact hk
          · rcases List.mem_cons.mp w with w | w
            · rw [w]; exact List.mem_cons_self ..
            · exact List.mem_cons_of_mem _ (List.mem_cons_of_mem _ w)
        · rcases List.mem_cons.mp hz with w | w
          · rw [w]
            exact h1.rtt r _ p (Nat.lt_succ_self _) hpM ((h1 x (hxV K h1 h2)).2.2 hn0 p hpu)
          · exact hmin K h1 h2 z w
        · by_cases hji : j = i
          · rw [hji, hp] at hq
            cases hq
            unfold mkd
            rw [m11, if_pos rfl]
          · exact mon _ (hdone j q (by omega) hq)
theorem tch_42 (hD : DW (gW G)) (r : RTs M τ rt dp) (hm : m < 2147483648) (ht : t < M) : ∀ n h L Vs, 2 * M + L.length < n + 2 * Vs.length → TV G h0 h M Pn τ fs rt m t L L Vs → X G mX3_touch (d + 2) none [] 42 [(0, .ref (gW G 2)), (2, .int (nI m)), (3, .int (nI L.length))] [] h (tchQ G h0 M Pn τ fs rt m t) := by
  intro n
  induction n with
  | zero =>
    intro h L Vs hn V
    obtain ⟨-, -, ⟨⟨nd, -⟩, hLV, hVs⟩, -⟩ := V
    have hlen := nodup_lt M Vs nd fun z hz => (hVs z hz).1
    omega
  | succ n IH =>
    intro h L Vs hn V
    obtain ⟨⟨k, nm, pl, T⟩, hmk, ⟨⟨nd, htV⟩, hLV, hVs⟩, hLs, hcl, hmin⟩ := id V
    have hM := k.2.2.2.1
    have s2 := k.1.at (i := 2) (by decide)
    have hlen := nodup_lt M Vs nd fun z hz => (hVs z hz).1
    cases L with
    | nil =>
      refine bX3_touch_42 G (d + 1) h _ _ _ s2 ⟨fun _ => ⟨rfl, ⟨k, T⟩, fun z => ?_, ?_, fun z hz hk p hp => hcl z hz hk (fun w => (by cases w)) p hp, fun K h1 h2 z hz => ?_⟩, fun z => absurd ?_ z⟩
      · rw [hmk]
        split
        · exact Or.inl rfl
        · exact Or.inr rfl
      · unfold mkd
        rw [hmk, if_pos htV]
      · by_cases q : z ∈ Vs
        · exact Or.inr (hmin K h1 h2 z q)
        · unfold mkd at hz ⊢
          rw [hmk, if_neg q] at hz
          exact Or.inl hz
      · exact nI_le (a := 0) (b := 0) (by omega) (by decide)
    | cons x L =>
      rw [List.length_cons] at hn hLV
      have hxV := hLs x (List.mem_cons_self ..)
      obtain ⟨hx, nx⟩ := hVs x hxV
      obtain ⟨pl1, q1⟩ := pl.pop
      refine bX3_touch_42 G (d + 1) h _ _ _ s2 ⟨fun z => absurd z (nI_nle (by rw [List.length_cons]; omega) (by rw [List.length_cons]; omega)), fun _ => ?_⟩
      have e1 : nI (x :: L).length + (-1) = nI L.length := by
        rw [List.length_cons, ← Int32.sub_eq_add_neg]
        exact nI_sub1 (by omega)
      rintro _ rfl
      rw [e1, nI_cn (by omega), q1]
      refine ⟨vp_in_nI (by omega) (by decide), ?_⟩
      rintro _ rfl
      refine C.ri (c_hm k nm hx) ?_
      have ehm : (if 0 ≤ uN τ x then (uP τ x).length else 0) = (pc τ x).length := by
        unfold pc
        split <;> rfl
      rw [ehm]
      refine tch_68 (Vs0 := 2 * Vs.length - L.length) hD r hm hx (fun K h1 h2 => hmin K h1 h2 x hxV) (fun h2 L2 Vs2 hV2 V2 => ?_) ((pc τ x).length + 1) 0 h L Vs (by omega) (by omega) (Nat.le_refl _) ⟨⟨k, nm, pl1, T⟩, hmk, ⟨⟨nd, htV⟩, by omega, hVs⟩, fun z hz => hLs z (List.mem_cons_of_mem _ hz), hcl, hmin⟩ fun j p hj => by omega
      obtain ⟨-, hmk2, ⟨⟨nd2, -⟩, hLV2, hVs2⟩, -⟩ := id V2
      have hlen2 := nodup_lt M Vs2 nd2 fun z hz => (hVs2 z hz).1
      exact IH h2 L2 Vs2 (by omega) V2
/-- all that t is made of gets the mark m; what has it already is closed -/
theorem c_tch (hD : DW (gW G)) (k : TyS G h M Pn τ fs) (nm : NmS G h M τ) (r : RTs M τ rt dp) (hm : m < 2147483648) (ht : t < M) (hcl : ∀ z, z < M → mkd G h m z → ∀ p, p ∈ pc τ z → mkd G h m (rt p)) : C G mX3_touch (d + 2) [.ref (gW G 2), .int (nI t), .int (nI m)] h (tchQ G h M Pn τ fs rt m t) := by
  have hM := k.2.2.2.1
  have hrt := (r t ht).1
  have nrt : uS τ (rt t) = none := r.none _ t (Nat.lt_succ_self _) ht
  refine bX3_touch G (d + 1) h _ _ _ (k.1.at (by decide)) (C.ri (c_fd k r ht) ?_)
  rw [nI_cn (by omega)]
  refine ⟨vp_in_nI (by omega) (by decide), fun e => ⟨rfl, ⟨k, FTy.rf⟩, fun z => Or.inr rfl, e, hcl, fun K h1 h2 z hz => Or.inl hz⟩, fun e => C.ri (c_fd k r ht) ⟨(vp_in_nI (n := 0) (by decide) (by decide)), fun h10 e10 => ⟨(vp_in_nI (n := 0) (by decide) (by decide)), ?_⟩⟩⟩
  have e10' : h10 = sI h (gW G 1039) ([] : List Nat).length (nI (rt t)) := e10
  have q : aI h10 (gW G 1039) (0 : Int32).toNatClampNeg = nI (rt t) := by
    rw [e10, aI_sI, if_pos ⟨rfl, rfl⟩]
  rw [q, nI_cn (by omega)]
  refine ⟨vp_in_nI (by omega) (by decide), fun h14 e14 => ?_⟩
  obtain ⟨k10, T10⟩ := k.ot hD (Or.inr (Or.inr (Or.inl rfl))) e10
  obtain ⟨k14, T14⟩ := k10.ot hD (Or.inl rfl) e14
  have pl : P1 G h14 [rt t] := (P1.push (L := []) (fun i x hx => (by cases hx)) e10').ot hD (Or.inl rfl) e14
  have m14 : ∀ z, aI h14 (gW G 1033) z = if z ∈ [rt t] then nI m else aI h (gW G 1033) z := fun z => by
    rw [e14, aI_sI]
    by_cases q : z = rt t
    · rw [if_pos ⟨rfl, q⟩, if_pos (by rw [q]; exact List.mem_cons_self ..)]
    · rw [if_neg (fun w => q w.2), if_neg (fun w => q ((List.mem_cons.mp w).resolve_right fun w2 => (by cases w2))), e10, aI_sI, if_neg (fun w => absurd (hD 1033 1039 (by decide) (by decide) w.1) (by decide))]
  have one : ∀ z, z ∈ [rt t] → z = rt t := fun z w => (List.mem_cons.mp w).resolve_right fun w2 => by cases w2
  refine tch_42 hD r hm ht _ h14 [rt t] [rt t] (Nat.lt_of_lt_of_le (Nat.lt_succ_self _) (Nat.le_add_right _ _)) ⟨⟨k14, (nm.mv T10 k.1 hD).mv T14 k10.1 hD, pl, T10.tr T14⟩, m14, ⟨⟨by simp, List.mem_cons_self ..⟩, Nat.le_refl _, fun z hz => by rw [one z hz]; exact ⟨hrt, nrt⟩⟩, fun z hz => hz, fun z hz hk hE p hp => ?_, fun K h1 h2 z hz => by rw [one z hz]; exact h1.rtt r _ t (Nat.lt_succ_self _) ht h2⟩
  unfold mkd at hk ⊢
  rw [m14, if_neg hE] at hk
  have := hcl z hz hk p hp
  rw [m14]
  split
  · rfl
  · exact this
end
