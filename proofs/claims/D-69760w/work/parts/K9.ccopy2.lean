/-! THE COMPONENT'S TYPES: a copy of a scheme, walked -/
section
variable {G : Gh} {d M Pn t mk : Nat} {h0 : AH} {τ : Tb} {rt dp sz km : Nat → Nat} {F : Nat → Prop}
theorem RTs.cg {M : Nat} {τ τ' : Tb} {rt dp : Nat → Nat} (r : RTs M τ rt dp) (e : ∀ x, x < M → uS τ' x = uS τ x) : RTs M τ' rt dp := by
  intro x hx
  rw [e x hx]
  exact r x hx
theorem pv_app {V W : List Nat} : pv τ (V ++ W) = pv τ V + pv τ W := by
  unfold pv
  rw [List.map_append, List.sum_append]
theorem pv_one {x : Nat} : pv τ [x] = (pc τ x).length := by
  unfold pv
  show (pc τ x).length + 0 = _
  omega
theorem cpn_new {M0 x : Nat} {V : List Nat} (h : x ∉ V) : cpn M0 (V ++ [x]) x = M0 + V.length := by
  unfold cpn
  rw [if_pos (List.mem_append_right _ (List.mem_cons_self ..)), List.idxOf_append, if_neg h, List.idxOf_cons_self]
  omega
theorem cpn_cln {M0 y : Nat} {V : List Nat} (co : CpO M0 τ rt V) (h : cln M0 τ y) : cpn M0 V y = y := by
  unfold cpn
  rw [if_neg (fun q => (co.mem q).2.2.1 h)]
theorem CpO.app {M0 x : Nat} {V : List Nat} (co : CpO M0 τ rt V) (hx : x < M0) (nx : uS τ x = none) (hn : x ∉ V) (hc : ¬ cln M0 τ x) (hp : ∀ p, p ∈ pc τ x → cln M0 τ (rt p) ∨ rt p ∈ V) : CpO M0 τ rt (V ++ [x]) := by
  refine ⟨?_, fun i z hz => ?_⟩
  · rw [List.nodup_append]
    refine ⟨co.1, by simp, fun a ha b hb => ?_⟩
    rw [(List.mem_cons.mp hb).resolve_right fun w => by cases w]
    exact fun e => hn (by rw [← e]; exact ha)
  · by_cases c : i < V.length
    · rw [List.getElem?_append_left c] at hz
      obtain ⟨h1, h2, h3, h4⟩ := co.2 i z hz
      refine ⟨h1, h2, h3, fun p hp => (h4 p hp).imp id fun ⟨j, h5, h6⟩ => ⟨j, h5, ?_⟩⟩
      rw [List.getElem?_append_left (by omega)]
      exact h6
    · have hi := (List.getElem?_eq_some_iff.mp hz).1
      rw [List.length_append, List.length_singleton] at hi
      have ei : i = V.length := by omega
      rw [ei, List.getElem?_append_right (Nat.le_refl _), Nat.sub_self] at hz
      cases hz
      refine ⟨hx, nx, hc, fun p hpp => (hp p hpp).imp id fun q => ?_⟩
      obtain ⟨-, c2, c3⟩ := cpn_mem (M0 := M0) q
      refine ⟨V.idxOf (rt p), by omega, ?_⟩
      rw [List.getElem?_append_left c2]
      exact c3
/-- the sizes of schemes -/
def SZu (M : Nat) (τ : Tb) (rt sz : Nat → Nat) : Prop := ∀ x, x < M → sz x = sz (rt x) ∧ 1 ≤ sz x ∧ (¬ cln M τ (rt x) → sz (rt x) = 1 + ((pc τ (rt x)).map sz).sum)
theorem c_cpd (hD : DW (gW G)) (sf : SF M τ rt dp) (kc : KC M τ (· < M)) (gr : ∀ x, x < M → uN τ x = -2 → uS τ x = none) (hz : SZu M τ rt sz) (k1 : ∀ x, x < M → km x = km (rt x)) (k2 : ∀ x, x < M → 0 ≤ uN τ x → ∀ p, p ∈ uP τ x → km p < km x)
    (hF : KC M τ F) (hfl : ∀ z, F z → uS τ z = none → (aI h0 (gW G 1032) z = -2 ↔ ¬ cln M τ z)) (hs0 : ∀ z, z < M → ¬ mkd G h0 mk z) (hmk0 : 0 < mk) (hmk : mk < 2147483648) :
    ∀ n t D h V A, sz t ≤ n → t < M → F t → n + 4 ≤ D → (∀ a, a ∈ A → km (rt t) < km a) → CI G h0 h M Pn τ rt mk V A → M + V.length + sz t ≤ 150000 → Pn + pv τ V + sz t ≤ 150000 → C G mX3_copied D [.ref (gW G 2), .int (nI t), .int (nI mk)] h (cpQ G h0 h M Pn τ rt sz mk V A t) := by
  have r := sf.1
  intro n
  induction n with
  | zero =>
    intro t D h V A hn ht
    have := (hz t ht).2.1
    omega
  | succ n ih =>
    intro t D h V A hn ht hFt hDp hA I hBM hBP
    obtain ⟨D, rfl⟩ : ∃ D', D = D' + 2 := ⟨D - 2, by omega⟩
    obtain ⟨⟨⟨fs, k⟩, nm, T⟩, ⟨hm1, hm2⟩, ⟨hf1, hf2⟩, hcp, co⟩ := id I
    have s2 := k.1.at (i := 2) (by decide)
    have hM := k.2.2.2.1
    have hr := (r t ht).1
    have nr : uS τ (rt t) = none := r.none _ t (Nat.lt_succ_self _) ht
    have rr : rt (rt t) = rt t := r.id ht
    have hFr : F (rt t) := hF.rtt r _ t (Nat.lt_succ_self _) ht hFt
    have rC : rtC M rt t = rt t := by unfold rtC; rw [if_pos ht]
    have rcs := rtC_rts (V := V) r V.length
    have sz1 := (hz t ht).2.1
    have szt := (hz t ht).1
    refine bX3_copied G (D + 1) h _ _ _ s2 (C.ri (c_fd k rcs (by omega)) ?_)
    rw [rC, nI_cn (by omega), hf1 _ hr]
    have f0 := hfl _ hFr nr
    refine ⟨vp_in_nI (by omega) (by decide), fun e => ⟨vp_in_nI (by omega) (by decide), fun e2 => ⟨vp_in_nI (by omega) (by decide), ?_⟩, fun e2 => ⟨vp_in_nI (by omega) (by decide), fun h9 e9 => ⟨vp_in_nI (by omega) (by decide), fun h12 e12 => ⟨vp_in_nI (by omega) (by decide), ?_⟩⟩⟩⟩, fun e => ⟨vp_in_nI (by omega) (by decide), fun h34 e34 => ?_⟩⟩
    · have hin : rt t ∈ V := by
        rw [hm1 _ hr] at e2
        by_cases c : rt t ∈ V ∨ rt t ∈ A
        · exact c.resolve_right fun q => by have := hA _ q; omega
        · rw [if_neg c] at e2; exact absurd e2 (hs0 _ hr)
      rw [(hcp _ hin).1]
      refine ⟨[], by rw [List.append_nil]; exact I, by rw [List.append_nil], Or.inr (by rw [List.append_nil]; exact hin), by rw [List.append_nil]; exact (hcp _ hin).1, fun y _ _ hy => hy, Nat.zero_le _, ?_⟩
      show 0 + 1 ≤ sz t
      omega
    · have hunc := f0.mp e
      have hnV : rt t ∉ V := fun q => e2 (by rw [hm1 _ hr, if_pos (Or.inl q)])
      have hnA : rt t ∉ A := fun q => e2 (by rw [hm1 _ hr, if_pos (Or.inr q)])
      obtain ⟨k9, T9⟩ := k.ot hD (Or.inl rfl) e9
      obtain ⟨k12, T12⟩ := k9.ot hD (Or.inr (Or.inl rfl)) e12
      have nm12 := (nm.mv T9 k.1 hD).mv T12 k9.1 hD
      have a1 := (k12.2.2.2.2.2 (rt t) (by omega)).1
      rw [cp_N hr] at a1
      have m12 : ∀ z, aI h12 (gW G 1033) z = if z = rt t then nI mk else aI h (gW G 1033) z := fun z => by
        rw [e12, aI_sI, if_neg (fun w => absurd (hD 1033 1034 (by decide) (by decide) w.1) (by decide)), e9, aI_sI]
        by_cases q : z = rt t
        · rw [if_pos ⟨rfl, q⟩, if_pos q]
        · rw [if_neg (fun w => q w.2), if_neg q]
      have f12 : ∀ z, aI h12 (gW G 1032) z = aI h (gW G 1032) z := fun z => by
        rw [e12, aI_sI, if_neg (fun w => absurd (hD 1032 1034 (by decide) (by decide) w.1) (by decide)), e9, aI_sI, if_neg (fun w => absurd (hD 1032 1033 (by decide) (by decide) w.1) (by decide))]
      have c12 : ∀ z, z ≠ rt t → aI h12 (gW G 1034) z = aI h (gW G 1034) z := fun z hz => by
        rw [e12, aI_sI, if_neg (fun w => hz w.2), e9, aI_sI, if_neg (fun w => absurd (hD 1034 1033 (by decide) (by decide) w.1) (by decide))]
      have hn1 : (aI h12 (gW G 1030) (rt t) = -2) ↔ uN τ (rt t) < 0 := by
        rw [i_eq, a1]
        refine ⟨fun q => by rw [q]; decide, fun q => ?_⟩
        refine Classical.byContradiction fun w => hunc (cln_mk sf kc gr hr nr w fun p hp => ?_)
        unfold pc at hp
        rw [if_neg (by omega)] at hp
        cases hp
      refine ⟨fun en => ?_, fun en => ?_⟩
      · -- a general variable
        have hv := hn1.mp en
        have hpc : pc τ (rt t) = [] := by unfold pc; rw [if_neg (by omega)]
        refine C.use (c_var (d := D) k12 hD (by omega)) (by decide) ?_
        rintro _ h21 ⟨rfl, k21, T21, nd⟩ - -
        refine KI.i ⟨vp_in_nI (by omega) (by decide), fun h25 e25 => ?_⟩
        have cg : ∀ x, x < M + V.length + 1 → uN (cpT M τ rt (V ++ [rt t])) x = uN (tNew (cpT M τ rt V) (M + V.length) (-1)) x ∧ uP (cpT M τ rt (V ++ [rt t])) x = uP (tNew (cpT M τ rt V) (M + V.length) (-1)) x ∧ uS (cpT M τ rt (V ++ [rt t])) x = uS (tNew (cpT M τ rt V) (M + V.length) (-1)) x := fun x hx => by
          show uN (cpT M τ rt (V ++ [rt t])) x = (if x = M + V.length then -1 else uN (cpT M τ rt V) x) ∧ uP (cpT M τ rt (V ++ [rt t])) x = (if x = M + V.length then [] else uP (cpT M τ rt V) x) ∧ uS (cpT M τ rt (V ++ [rt t])) x = (if x = M + V.length then none else uS (cpT M τ rt V) x)
          by_cases q : x = M + V.length
          · rw [if_pos q, if_pos q, if_pos q, q]
            have hi : (V ++ [rt t])[V.length]? = some (rt t) := by rw [List.getElem?_append_right (Nat.le_refl _), Nat.sub_self]; rfl
            rw [cp_N' hi, cp_P' hi, if_pos hv, hpc, cp_S, if_neg (by omega)]
            exact ⟨rfl, rfl, rfl⟩
          · rw [if_neg q, if_neg q, if_neg q]
            exact cpT_app co hunc hnV (by omega)
        have k21' := k21.cg cg
        have nm21 : NmS G h21 (M + V.length + 1) (cpT M τ rt (V ++ [rt t])) := by
          have h1 := nm12.mv T21 k12.1 hD
          intro x hx hn
          obtain ⟨g1, g2, -⟩ := cg x hx
          by_cases q : x = M + V.length
          · have : uN (tNew (cpT M τ rt V) (M + V.length) (-1)) x = -1 := by
              show (if x = M + V.length then -1 else _) = _
              rw [if_pos q]
            rw [g1, this] at hn
            exact absurd hn (by decide)
          · obtain ⟨g3, g4, -⟩ := cpT_app (w := x) co hunc hnV (by omega)
            rw [g3] at hn ⊢
            rw [g4]
            exact h1 x (by omega) hn
        obtain ⟨k25, T25⟩ := k21'.ot hD (Or.inr (Or.inl rfl)) e25
        refine C.ri (c_hm k25 (nm21.mv T25 k21.1 hD) (by omega)) ?_
        rw [cp_N hr, if_neg (by omega)]
        refine ⟨fun _ => ⟨vp_in_nI (by omega) (by decide), ?_⟩, fun q => absurd rfl q⟩
        have mM : M + (V ++ [rt t]).length = M + V.length + 1 := by rw [List.length_append, List.length_singleton]; omega
        have ePv : pv τ (V ++ [rt t]) = pv τ V := by rw [pv_app, pv_one, hpc]; rfl
        have q25 : ∀ i, (i = 1033 ∨ i = 1032) → ∀ z, aI h25 (gW G i) z = aI h21 (gW G i) z := fun i hi z => by
          rw [e25, aI_sI, if_neg (fun w => by
            have := hD i 1034 (by rcases hi with rfl | rfl <;> decide) (by decide) w.1
            omega)]
        have x25 : aI h25 (gW G 1034) (rt t) = nI (M + V.length) := by rw [e25, aI_sI, if_pos ⟨rfl, rfl⟩]
        have c25 : ∀ z, z ≠ rt t → aI h25 (gW G 1034) z = aI h (gW G 1034) z := fun z hz => by
          rw [e25, aI_sI, if_neg (fun w => hz w.2), nd.2.2, c12 z hz]
        refine ⟨[rt t], ⟨⟨⟨updF fs (M + V.length) (Pn + pv τ V), by rw [mM, ePv]; exact k25⟩, by rw [mM]; exact nm21.mv T25 k21.1 hD, ((T.tr T9).tr T12).tr (T21.tr T25)⟩, ⟨fun z hz => ?_, fun z h1 h2 => ?_⟩, ⟨fun z hz => ?_, fun z h1 h2 => ?_⟩, fun z hz => ?_, co.app hr nr hnV hunc fun p hp => (by rw [hpc] at hp; cases hp)⟩, by rw [x25, cpn_new hnV], Or.inr (List.mem_append_right _ (List.mem_cons_self ..)), by rw [x25, cpn_new hnV], fun y h1 h2 h3 => ?_, ?_, ?_⟩
        · rw [q25 1033 (Or.inl rfl), nd.1, if_neg (by omega), m12]
          by_cases q : z = rt t
          · rw [if_pos q, if_pos (Or.inl (List.mem_append_right _ (by rw [q]; exact List.mem_cons_self ..)))]
          · rw [if_neg q, hm1 z hz]
            by_cases c : z ∈ V ∨ z ∈ A
            · rw [if_pos c, if_pos (c.imp (List.mem_append_left _) id)]
            · rw [if_neg c, if_neg (fun w => c (w.imp (fun w => (List.mem_append.mp w).resolve_right fun w => q ((List.mem_cons.mp w).resolve_right fun w => (by cases w))) id))]
        · rw [mM] at h2
          rw [q25 1033 (Or.inl rfl), nd.1]
          by_cases q : z = M + V.length
          · rw [if_pos q]; rfl
          · rw [if_neg q, m12, if_neg (by omega)]
            exact hm2 z h1 (by omega)
        · rw [q25 1032 (Or.inr rfl), nd.2.1, if_neg (by omega), f12]
          exact hf1 z hz
        · rw [mM] at h2
          rw [q25 1032 (Or.inr rfl), nd.2.1]
          by_cases q : z = M + V.length
          · rw [if_pos q]
          · rw [if_neg q, f12]
            exact hf2 z h1 (by omega)
        · by_cases q : z = rt t
          · rw [q, x25, cpn_new hnV]
            exact ⟨rfl, hnA⟩
          · have hzV : z ∈ V := (List.mem_append.mp hz).resolve_right fun w => q ((List.mem_cons.mp w).resolve_right fun w => (by cases w))
            rw [c25 z q, cpn_app (Or.inl hzV)]
            exact hcp z hzV
        · rw [c25 y (fun q => hunc (by rw [← q]; exact h2))]
          exact h3
        · show 1 ≤ sz t
          omega
        · rw [pv_one, hpc]
          show 0 + 1 ≤ sz t
          omega
      · -- a type with a name
        have hp' : 0 ≤ uN τ (rt t) := by
          refine Classical.byContradiction fun w => en (hn1.mpr ?_)
          omega
        have hpc : pc τ (rt t) = uP τ (rt t) := by unfold pc; rw [if_pos hp']
        have szx := (hz t ht).2.2 hunc
        rw [hpc] at szx
        refine C.ri (c_hm k12 nm12 (by omega)) ?_
        rw [cp_N hr, cp_P hr, if_pos hp']
        have hl6 : (uP τ (rt t)).length ≤ 6 := by
          have := (nm12 (rt t) (by omega) (by rw [cp_N hr]; exact hp')).1.2
          rw [cp_P hr] at this
          exact this
        have unc : ∃ (j p : Nat), (uP τ (rt t))[j]? = some p ∧ ¬ cln M τ (rt p) := by
          refine Classical.byContradiction fun w => hunc (cln_mk sf kc gr hr nr (by omega) fun p hp => ?_)
          refine Classical.byContradiction fun w2 => w ?_
          rw [hpc] at hp
          obtain ⟨j, hj⟩ := List.getElem?_of_mem hp
          exact ⟨j, p, hj, w2⟩
        have lp : ∀ f i hh W (b : Nat), (uP τ (rt t)).length - i < f → i ≤ (uP τ (rt t)).length → CI G h0 hh M Pn τ rt mk (V ++ W) (rt t :: A) → (∀ j p, j < i → (uP τ (rt t))[j]? = some p → (cln M τ (rt p) ∨ rt p ∈ V ++ W) ∧ aI hh (gW G 1034) (rt p) = nI (cpn M (V ++ W) (rt p))) → (b = 0 ∨ b = 1) → (b = 1 ↔ ∃ j p, j < i ∧ (uP τ (rt t))[j]? = some p ∧ ¬ cln M τ (rt p)) → (∀ y, y < M → cln M τ y → aI h (gW G 1034) y = nI y → aI hh (gW G 1034) y = nI y) → W.length ≤ (((uP τ (rt t)).take i).map sz).sum → pv τ W + i ≤ (((uP τ (rt t)).take i).map sz).sum →
            X G mX3_copied (D + 2) none [] 103 [(0, .ref (gW G 2)), (2, .int (nI mk)), (3, .int (nI (rt t))), (4, .int (nI (uP τ (rt t)).length)), (5, .int (nI b)), (6, .int (nI i))] [] hh (cpQ G h0 h M Pn τ rt sz mk V A t) := by
          intro f
          induction f with
          | zero => intro i hh W b hf; omega
          | succ f IH =>
            intro i hh W b hf hi I1 hdone hb hbi hst hW1 hW2
            obtain ⟨⟨⟨fs1, k1'⟩, nm1, T1⟩, ⟨hm3, hm4⟩, ⟨hf3, hf4⟩, hcp1, co1⟩ := id I1
            have sl := sum_le sz (uP τ (rt t)) i
            have lVW : (V ++ W).length = V.length + W.length := List.length_append
            have pVW : pv τ (V ++ W) = pv τ V + pv τ W := pv_app
            have hx1 : rt t ∉ V ++ W := fun q => (hcp1 _ q).2 (List.mem_cons_self ..)
            have rcs1 := rtC_rts (V := V ++ W) r (V ++ W).length
            refine bX3_copied_103 G (D + 1) hh _ _ _ _ _ _ (k1'.1.at (by decide)) ?_
            rw [nI_leI (by omega) (by omega)]
            refine ⟨fun hle => ?_, fun hle => ?_⟩
            · have ei : i = (uP τ (rt t)).length := by omega
              have hb1 : b = 1 := by
                obtain ⟨j, p, h1, h2⟩ := unc
                have := (List.getElem?_eq_some_iff.mp h1).1
                exact hbi.mpr ⟨j, p, by clear hbi; omega, h1, h2⟩
              clear hbi
              rw [hb1]
              refine ⟨fun q => absurd q (by decide), fun _ => ⟨vp_in_nI (by omega) (by decide), ?_⟩⟩
              rw [nI_cn (by omega)]
              have av : (aI hh (gW G 1030) (rt t)).toInt = uN τ (rt t) := by
                have := (k1'.2.2.2.2.2 (rt t) (by omega)).1
                rw [cp_N hr] at this
                exact this
              rw [List.take_of_length_le (by omega)] at hW1 hW2
              refine C.mono (c_nd k1' hD (by omega)) ?_
              rintro _ h4 ⟨rfl, k4, T4, nd4⟩
              refine KI.i fun h7 e7 => ?_
              rw [k4.2.2.1, nI_add] at e7
              obtain ⟨k7, T7⟩ := k4.room (n := (uP τ (rt t)).length) (by omega) e7
              rw [av] at k4 k7
              have a7 : ∀ i z, aI h7 i z = aI h4 i z := fun i z => by rw [e7, aI_pI]
              -- the parts of the new node
              have lp2 : ∀ f j hj τj, (uP τ (rt t)).length - j < f → j ≤ (uP τ (rt t)).length → TyS G hj (M + (V ++ W).length + 1) (Pn + pv τ (V ++ W) + (uP τ (rt t)).length) τj (updF fs1 (M + (V ++ W).length) (Pn + pv τ (V ++ W))) → FTy G h7 hj → (∀ i, (i = 1032 ∨ i = 1033 ∨ i = 1034) → ∀ z, aI hj (gW G i) z = aI h7 (gW G i) z) → (∀ w, w < M + (V ++ W).length → uN τj w = uN (cpT M τ rt (V ++ W)) w ∧ uP τj w = uP (cpT M τ rt (V ++ W)) w ∧ uS τj w = uS (cpT M τ rt (V ++ W)) w) → (uN τj (M + (V ++ W).length) = uN τ (rt t) ∧ uS τj (M + (V ++ W).length) = none ∧ uP τj (M + (V ++ W).length) = ((uP τ (rt t)).take j).map fun p => cpn M (V ++ W) (rt p)) →
                  X G mX3_copied (D + 2) none [] 183 [(0, .ref (gW G 2)), (3, .int (nI (rt t))), (4, .int (nI (uP τ (rt t)).length)), (6, .int (nI (M + (V ++ W).length))), (7, .int (nI j))] [] hj (cpQ G h0 h M Pn τ rt sz mk V A t) := by
                intro f
                induction f with
                | zero => intro j hj τj hf; omega
                | succ f IH2 =>
                  intro j hj τj hf hjl kj Tj aj hold hnew
                  refine bX3_copied_183 G (D + 1) hj _ _ _ _ _ (kj.1.at (by decide)) ?_
                  rw [nI_leI (by omega) (by omega)]
                  refine ⟨fun hle => ⟨vp_in_nI (by omega) (by decide), fun h3 e3 => ?_⟩, fun hle => ⟨vp_in_nI (by omega) (by decide), ?_⟩⟩
                  · rw [nI_cn (by omega)] at e3
                    rw [List.take_of_length_le (by omega)] at hnew
                    have hi2 : (V ++ W ++ [rt t])[(V ++ W).length]? = some (rt t) := by rw [List.getElem?_append_right (Nat.le_refl _), Nat.sub_self]; rfl
                    have cg : ∀ w, w < M + (V ++ W).length + 1 → uN (cpT M τ rt (V ++ W ++ [rt t])) w = uN τj w ∧ uP (cpT M τ rt (V ++ W ++ [rt t])) w = uP τj w ∧ uS (cpT M τ rt (V ++ W ++ [rt t])) w = uS τj w := fun w hw => by
                      by_cases q : w = M + (V ++ W).length
                      · rw [q, hnew.1, hnew.2.1, hnew.2.2, cp_N' hi2, cp_P' hi2, if_neg (by omega), cp_S, if_neg (by omega), hpc]
                        refine ⟨rfl, List.map_congr_left fun p hp => cpn_app ?_, rfl⟩
                        obtain ⟨j, hj⟩ := List.getElem?_of_mem hp
                        have := (List.getElem?_eq_some_iff.mp hj).1
                        rcases (hdone j p (by omega) hj).1 with c | c
                        · exact Or.inr fun w => by
                            rw [(List.mem_cons.mp w).resolve_right fun w2 => by cases w2] at c
                            exact hunc c
                        · exact Or.inl c
                      · obtain ⟨c1, c2, c3⟩ := cpT_app (w := w) co1 hunc hx1 (by omega)
                        obtain ⟨g1, g2, g3⟩ := hold w (by omega)
                        rw [c1, c2, c3, g1, g2, g3]
                        exact ⟨rfl, rfl, rfl⟩
                    obtain ⟨k3, T3⟩ := (kj.cg cg).ot hD (Or.inr (Or.inl rfl)) e3
                    have TT1 : FTy G hh h3 := ((T4.tr T7).tr Tj).tr T3
                    have nm3 : NmS G h3 (M + (V ++ W).length + 1) (cpT M τ rt (V ++ W ++ [rt t])) := by
                      have n1 := nm1.mv TT1 k1'.1 hD
                      intro w hw hn
                      by_cases q : w = M + (V ++ W).length
                      · have nx := n1 (rt t) (by omega) (by rw [cp_N hr]; exact hp')
                        rw [cp_N hr, cp_P hr] at nx
                        rw [q, cp_N' hi2, cp_P' hi2, if_neg (by omega), hpc, List.length_map]
                        exact nx
                      · obtain ⟨c1, c2, -⟩ := cpT_app (w := w) co1 hunc hx1 (by omega)
                        rw [c1] at hn ⊢
                        rw [c2]
                        exact n1 w (by omega) hn
                    have mM : M + (V ++ (W ++ [rt t])).length = M + (V ++ W).length + 1 := by rw [← List.append_assoc, List.length_append, List.length_singleton]; omega
                    have ePv : Pn + pv τ (V ++ (W ++ [rt t])) = Pn + pv τ (V ++ W) + (uP τ (rt t)).length := by rw [← List.append_assoc, pv_app, pv_one, hpc]; omega
                    have q3 : ∀ i, (i = 1033 ∨ i = 1032) → ∀ z, aI h3 (gW G i) z = aI h4 (gW G i) z := fun i hi z => by
                      rw [e3, aI_sI, if_neg (fun w => by
                        have := hD i 1034 (by rcases hi with rfl | rfl <;> decide) (by decide) w.1
                        omega), aj i (by omega), a7]
                    have x3 : aI h3 (gW G 1034) (rt t) = nI (M + (V ++ W).length) := by rw [e3, aI_sI, if_pos ⟨rfl, rfl⟩]
                    have c3 : ∀ z, z ≠ rt t → aI h3 (gW G 1034) z = aI hh (gW G 1034) z := fun z hz => by
                      rw [e3, aI_sI, if_neg (fun w => hz w.2), aj 1034 (by omega), a7, nd4.2.2]
                    refine ⟨W ++ [rt t], ⟨⟨⟨_, by rw [mM, ePv, ← List.append_assoc]; exact k3⟩, by rw [mM, ← List.append_assoc]; exact nm3, T1.tr TT1⟩, ⟨fun z hz => ?_, fun z h1 h2 => ?_⟩, ⟨fun z hz => ?_, fun z h1 h2 => ?_⟩, fun z hz => ?_, ?_⟩, ?_, ?_, ?_, fun y h1 h2 h3 => ?_, ?_, ?_⟩
                    · rw [q3 1033 (Or.inl rfl), nd4.1, if_neg (by omega), hm3 z hz]
                      have mem : (z ∈ V ++ (W ++ [rt t]) ∨ z ∈ A) ↔ (z ∈ V ++ W ∨ z ∈ rt t :: A) := by
                        rw [← List.append_assoc, List.mem_append (s := V ++ W), List.mem_singleton, List.mem_cons]
                        constructor
                        · rintro ((q | q) | q)
                          · exact Or.inl q
                          · exact Or.inr (Or.inl q)
                          · exact Or.inr (Or.inr q)
                        · rintro (q | q | q)
                          · exact Or.inl (Or.inl q)
                          · exact Or.inl (Or.inr q)
                          · exact Or.inr q
                      by_cases c : z ∈ V ++ W ∨ z ∈ rt t :: A
                      · rw [if_pos c, if_pos (mem.mpr c)]
                      · rw [if_neg c, if_neg (fun w => c (mem.mp w))]
                    · rw [mM] at h2
                      rw [q3 1033 (Or.inl rfl), nd4.1]
                      by_cases q : z = M + (V ++ W).length
                      · rw [if_pos q]; rfl
                      · rw [if_neg q]
                        exact hm4 z h1 (by omega)
                    · rw [q3 1032 (Or.inr rfl), nd4.2.1, if_neg (by omega)]
                      exact hf3 z hz
                    · rw [mM] at h2
                      rw [q3 1032 (Or.inr rfl), nd4.2.1]
                      by_cases q : z = M + (V ++ W).length
                      · rw [if_pos q]
                      · rw [if_neg q]
                        exact hf4 z h1 (by omega)
                    · rw [← List.append_assoc] at hz ⊢
                      by_cases q : z = rt t
                      · rw [q, x3, cpn_new hx1]
                        exact ⟨rfl, hnA⟩
                      · have hzV : z ∈ V ++ W := (List.mem_append.mp hz).resolve_right fun w => q ((List.mem_cons.mp w).resolve_right fun w => (by cases w))
                        rw [c3 z q, cpn_app (Or.inl hzV)]
                        exact ⟨(hcp1 z hzV).1, fun w => (hcp1 z hzV).2 (List.mem_cons_of_mem _ w)⟩
                    · rw [← List.append_assoc]
                      refine co1.app hr nr hx1 hunc fun p hp => ?_
                      rw [hpc] at hp
                      obtain ⟨j, hj⟩ := List.getElem?_of_mem hp
                      have := (List.getElem?_eq_some_iff.mp hj).1
                      exact (hdone j p (by omega) hj).1
                    · rw [← List.append_assoc, cpn_new hx1]
                    · rw [← List.append_assoc]
                      exact Or.inr (List.mem_append_right _ (List.mem_cons_self ..))
                    · rw [← List.append_assoc, cpn_new hx1, x3]
                    · rw [c3 y (fun q => hunc (by rw [← q]; exact h2))]
                      exact hst y h1 h2 h3
                    · rw [List.length_append, List.length_singleton]
                      omega
                    · rw [pv_app, pv_one, hpc]
                      omega
                  · have hjl2 : j < (uP τ (rt t)).length := by omega
                    obtain ⟨p, hpj⟩ : ∃ p, (uP τ (rt t))[j]? = some p := ⟨_, List.getElem?_eq_getElem hjl2⟩
                    have hpM : p < M := (kc _ hr).2.2 hp' p (List.mem_of_getElem? hpj)
                    have rj : RTs (M + (V ++ W).length + 1) τj (rtC M rt) dp := by
                      have : RTs (M + ((V ++ W).length + 1)) (cpT M τ rt (V ++ W)) (rtC M rt) dp := rtC_rts r _
                      rw [show M + ((V ++ W).length + 1) = M + (V ++ W).length + 1 by omega] at this
                      refine this.cg fun x hx => ?_
                      by_cases q : x = M + (V ++ W).length
                      · rw [q, hnew.2.1, cp_S, if_neg (by omega)]
                      · exact (hold x (by omega)).2.2
                    have ePx : uP τj (rt t) = uP τ (rt t) := by rw [(hold (rt t) (by omega)).2.1, cp_P hr]
                    refine C.ri (c_pt kj rj (by omega) (by rw [ePx]; exact hpj)) ?_
                    have rp : rtC M rt p = rt p := by unfold rtC; rw [if_pos hpM]
                    have hrp := (r p hpM).1
                    obtain ⟨-, -, -, g4, -, -⟩ := kj.2.2.2.2.2 (M + (V ++ W).length) (by omega)
                    have uf : updF fs1 (M + (V ++ W).length) (Pn + pv τ (V ++ W)) (M + (V ++ W).length) = Pn + pv τ (V ++ W) := by unfold updF; rw [if_pos rfl]
                    rw [rp, nI_cn (by omega), nI_cn (by omega), g4, uf, nI_add, nI_cn (by omega)]
                    refine ⟨vp_in_nI (by omega) (by decide), vp_in_nI (by omega) (by decide), fun h11 e11 => ?_⟩
                    obtain ⟨dn1, dn2⟩ := hdone j p (by omega) hpj
                    have cl : cpn M (V ++ W) (rt p) < M + (V ++ W).length := by
                      rcases dn1 with c | c
                      · rw [cpn_cln co1 c]; omega
                      · obtain ⟨c1, c2, -⟩ := cpn_mem (M0 := M) c
                        omega
                    have a34 : aI hj (gW G 1034) (rt p) = nI (cpn M (V ++ W) (rt p)) := by rw [aj 1034 (by omega), a7, nd4.2.2]; exact dn2
                    rw [a34] at e11
                    rintro _ rfl
                    rw [nI_1]
                    have hlj : (uP τj (M + (V ++ W).length)).length = j := by rw [hnew.2.2, List.length_map, List.length_take]; omega
                    have ho : ∀ z, z < M + (V ++ W).length + 1 → z ≠ M + (V ++ W).length → updF fs1 (M + (V ++ W).length) (Pn + pv τ (V ++ W)) z + (uP τj z).length ≤ Pn + pv τ (V ++ W) + j := by
                      intro z hz hne
                      have uz : updF fs1 (M + (V ++ W).length) (Pn + pv τ (V ++ W)) z = fs1 z := by unfold updF; rw [if_neg hne]
                      have := (k1'.2.2.2.2.2 z (by omega)).2.2.2.2.1
                      rw [uz, (hold z (by omega)).2.1]
                      omega
                    obtain ⟨k11, T11⟩ := kj.fill (x := M + (V ++ W).length) (a := cpn M (V ++ W) (rt p)) hD (by omega) (by omega) (by rw [uf, hlj]) (by omega) (fun z hz hne => Or.inl (ho z hz hne)) e11
                    refine IH2 (j + 1) h11 _ (by omega) (by omega) k11 (Tj.tr T11) (fun i hi z => ?_) (fun w hw => ?_) ⟨hnew.1, hnew.2.1, ?_⟩
                    · rw [e11, aI_sI, if_neg (fun w => by
                        have := hD i 1035 (by rcases hi with rfl | rfl | rfl <;> decide) (by decide) w.1
                        omega)]
                      exact aj i hi z
                    · have ep : uP (tApp τj (M + (V ++ W).length) (cpn M (V ++ W) (rt p))) w = if w = M + (V ++ W).length then uP τj w ++ [cpn M (V ++ W) (rt p)] else uP τj w := rfl
                      rw [ep, if_neg (by omega)]
                      exact hold w hw
                    · have ep : uP (tApp τj (M + (V ++ W).length) (cpn M (V ++ W) (rt p))) (M + (V ++ W).length) = if M + (V ++ W).length = M + (V ++ W).length then uP τj (M + (V ++ W).length) ++ [cpn M (V ++ W) (rt p)] else uP τj (M + (V ++ W).length) := rfl
                      rw [ep, if_pos rfl, hnew.2.2, List.take_add_one, hpj, List.map_append]
                      rfl
              refine lp2 ((uP τ (rt t)).length + 1) 0 h7 _ (by omega) (by omega) k7 FTy.rf (fun _ _ _ => rfl) (fun w hw => ?_) ⟨?_, ?_, ?_⟩
              · show (if w = M + (V ++ W).length then _ else _) = _ ∧ (if w = M + (V ++ W).length then _ else _) = _ ∧ (if w = M + (V ++ W).length then _ else _) = _
                rw [if_neg (by omega), if_neg (by omega), if_neg (by omega)]
                exact ⟨rfl, rfl, rfl⟩
              · show (if M + (V ++ W).length = M + (V ++ W).length then _ else _) = _
                rw [if_pos rfl]
              · show (if M + (V ++ W).length = M + (V ++ W).length then _ else _) = _
                rw [if_pos rfl]
              · show (if M + (V ++ W).length = M + (V ++ W).length then _ else _) = _
                rw [if_pos rfl]
                rfl
            · have hil : i < (uP τ (rt t)).length := by omega
              obtain ⟨p, hpi⟩ : ∃ p, (uP τ (rt t))[i]? = some p := ⟨_, List.getElem?_eq_getElem hil⟩
              have hpm : p ∈ uP τ (rt t) := List.mem_of_getElem? hpi
              have hpM : p < M := (kc _ hr).2.2 hp' p hpm
              have hrp := (r p hpM).1
              have rp : rtC M rt p = rt p := by unfold rtC; rw [if_pos hpM]
              refine C.ri (c_pt k1' rcs1 (by omega) (by rw [cp_P hr]; exact hpi)) ?_
              rw [rp]
              have kmx := k2 _ hr hp' p hpm
              have st1 := sum_take sz _ _ _ hpi
              have st2 := sum_le sz (uP τ (rt t)) (i + 1)
              have rrp := r.id hpM
              have szp := (hz p hpM).1
              have hFp : F (rt p) := hF.rtt r _ p (Nat.lt_succ_self _) hpM ((hF _ hFr).2.2 hp' p hpm)
              have hbW : b ≤ 1 := by omega
              refine C.mono (ih (rt p) (D + 1) hh (V ++ W) (rt t :: A) (by clear hbi; omega) hrp hFp (by clear hbi; omega) (fun a ha => ?_) I1 (by clear hbi; omega) (by clear hbi; omega)) ?_
              · rw [rrp, ← k1 p hpM]
                rcases List.mem_cons.mp ha with q | q
                · rw [q]; exact kmx
                · exact Nat.lt_trans kmx (hA a q)
              rintro _ h2 ⟨W2, I2, rfl, c3, c4, c5, c6, c7⟩
              obtain ⟨⟨⟨fs2, k2'⟩, nm2, T2⟩, -, -, hcp2, co2⟩ := id I2
              rw [rrp] at c3 c4 ⊢
              refine KI.i (C.ri (c_pt k2' (rtC_rts r _) (by clear hbi; omega) (by rw [cp_P hr]; exact hpi)) ?_)
              rw [rp]
              have cl : cpn M (V ++ W ++ W2) (rt p) < 150000 := by
                have := k2'.2.2.2.1
                rcases c3 with c | c
                · rw [cpn_cln co2 c]; omega
                · obtain ⟨c1, c2, -⟩ := cpn_mem (M0 := M) c
                  omega
              have same : nI (cpn M (V ++ W ++ W2) (rt p)) = nI (rt p) ↔ cln M τ (rt p) := by
                rw [nI_eq (by omega) (by omega)]
                refine ⟨fun e => ?_, fun c => cpn_cln co2 c⟩
                rcases c3 with c | c
                · exact c
                · have := (cpn_mem (M0 := M) c).1
                  omega
              have nxt : ∀ b', (b' = 0 ∨ b' = 1) → (b' = 1 ↔ (b = 1 ∨ ¬ cln M τ (rt p))) → X G mX3_copied (D + 2) none [] 103 [(0, .ref (gW G 2)), (2, .int (nI mk)), (3, .int (nI (rt t))), (4, .int (nI (uP τ (rt t)).length)), (5, .int (nI b')), (6, .int (nI (i + 1)))] [] h2 (cpQ G h0 h M Pn τ rt sz mk V A t) := by
                intro b' hb' hbb
                rw [List.append_assoc] at I2 c3 c4 hcp2 co2
                refine IH (i + 1) h2 (W ++ W2) b' (by clear hbi hbb; omega) (by clear hbi hbb; omega) I2 (fun j q hj hq => ?_) hb' ?_ (fun y h1 h2 h3 => c5 y h1 h2 (hst y h1 h2 h3)) ?_ ?_
                · by_cases hji : j = i
                  · rw [hji, hpi] at hq
                    cases hq
                    exact ⟨c3, c4⟩
                  · obtain ⟨d1, d2⟩ := hdone j q (by clear hbi hbb; omega) hq
                    have hqM : q < M := (kc _ hr).2.2 hp' q (List.mem_of_getElem? hq)
                    rcases d1 with d1 | d1
                    · refine ⟨Or.inl d1, ?_⟩
                      rw [cpn_cln co2 d1]
                      rw [cpn_cln co1 d1] at d2
                      exact c5 _ (r q hqM).1 d1 d2
                    · have hm : rt q ∈ V ++ (W ++ W2) := by rw [← List.append_assoc]; exact List.mem_append_left _ d1
                      exact ⟨Or.inr hm, (hcp2 _ hm).1⟩
                · rw [hbb, hbi]
                  constructor
                  · rintro (⟨j, q, h1, h2, h3⟩ | h1)
                    · exact ⟨j, q, by omega, h2, h3⟩
                    · exact ⟨i, p, by omega, hpi, h1⟩
                  · rintro ⟨j, q, h1, h2, h3⟩
                    by_cases hji : j = i
                    · rw [hji, hpi] at h2
                      cases h2
                      exact Or.inr h3
                    · exact Or.inl ⟨j, q, by omega, h2, h3⟩
                · rw [List.length_append]
                  clear hbi hbb
                  omega
                · rw [pv_app]
                  clear hbi hbb
                  omega
              rw [same]
              refine ⟨fun e => ⟨fun b0 => ?_, fun b0 => ?_⟩, fun e => ?_⟩
              · rintro _ rfl
                rw [nI_1]
                have hb0 : b = 0 := hb.resolve_right fun q => by rw [q] at b0; exact absurd b0 (by decide)
                exact nxt 0 (Or.inl rfl) ⟨fun w => absurd w (by decide), fun w => w.elim (fun q => by rw [hb0] at q; exact absurd q (by decide)) fun q => absurd e q⟩
              · rintro _ rfl
                rw [nI_1]
                have hb1 : b = 1 := hb.resolve_left fun q => b0 (by rw [q]; rfl)
                exact nxt 1 (Or.inr rfl) ⟨fun _ => Or.inl hb1, fun _ => rfl⟩
              · rintro _ rfl
                rw [nI_1]
                exact nxt 1 (Or.inr rfl) ⟨fun _ => Or.inr e, fun _ => rfl⟩
        refine ⟨fun q => ?_, fun _ => ?_⟩
        · exfalso
          obtain ⟨j, p, h1, -⟩ := unc
          have := (List.getElem?_eq_some_iff.mp h1).1
          have := (nI_lit (m := (uP τ (rt t)).length) (k := 0) (by omega) (by decide)).mp q
          omega
        · refine lp ((uP τ (rt t)).length + 1) 0 h12 [] 0 (by omega) (by omega) ?_ (fun j p hj => by omega) (Or.inl rfl) ⟨fun w => absurd w (by decide), fun ⟨j, p, hj, _⟩ => by omega⟩ (fun y h1 h2 h3 => ?_) (Nat.le_refl _) (Nat.le_refl _)
          · rw [List.append_nil]
            refine ⟨⟨⟨fs, k12⟩, nm12, (T.tr T9).tr T12⟩, ⟨fun z hz => ?_, fun z h1 h2 => ?_⟩, ⟨fun z hz => by rw [f12]; exact hf1 z hz, fun z h1 h2 => by rw [f12]; exact hf2 z h1 h2⟩, fun z hz => ?_, co⟩
            · rw [m12]
              by_cases q : z = rt t
              · rw [if_pos q, if_pos (Or.inr (by rw [q]; exact List.mem_cons_self ..))]
              · rw [if_neg q, hm1 z hz]
                by_cases c : z ∈ V ∨ z ∈ A
                · rw [if_pos c, if_pos (c.imp id (List.mem_cons_of_mem _))]
                · rw [if_neg c, if_neg (fun w => c (w.imp id fun w => (List.mem_cons.mp w).resolve_left q))]
            · rw [m12, if_neg (by omega)]
              exact hm2 z h1 h2
            · have hne : z ≠ rt t := fun q => hnV (by rw [← q]; exact hz)
              refine ⟨by rw [c12 z hne]; exact (hcp z hz).1, fun w => ?_⟩
              rcases List.mem_cons.mp w with w | w
              · exact hne w
              · exact (hcp z hz).2 w
          · rw [c12 y (fun q => hunc (by rw [← q]; exact h2))]
            exact h3
    · have hcl : cln M τ (rt t) := Classical.byContradiction fun w => e (f0.mpr w)
      have hnV : rt t ∉ V := fun q => (co.mem q).2.2.1 hcl
      obtain ⟨k34, T34⟩ := k.ot hD (Or.inr (Or.inl rfl)) e34
      have cpx : cpn M V (rt t) = rt t := by unfold cpn; rw [if_neg hnV]
      have o34 : ∀ i, (i = 1033 ∨ i = 1032) → ∀ z, aI h34 (gW G i) z = aI h (gW G i) z := fun i hi z => by
        rw [e34, aI_sI, if_neg (fun w => by
          have := hD i 1034 (by rcases hi with rfl | rfl <;> decide) (by decide) w.1
          omega)]
      refine ⟨[], ?_, by rw [List.append_nil, cpx], Or.inl hcl, ?_, fun y _ _ hy => ?_, Nat.zero_le _, ?_⟩
      · rw [List.append_nil]
        refine ⟨⟨⟨fs, k34⟩, nm.mv T34 k.1 hD, T.tr T34⟩, ⟨fun z hz => by rw [o34 1033 (Or.inl rfl)]; exact hm1 z hz, fun z h1 h2 => by rw [o34 1033 (Or.inl rfl)]; exact hm2 z h1 h2⟩, ⟨fun z hz => by rw [o34 1032 (Or.inr rfl)]; exact hf1 z hz, fun z h1 h2 => by rw [o34 1032 (Or.inr rfl)]; exact hf2 z h1 h2⟩, fun z hz => ⟨?_, (hcp z hz).2⟩, co⟩
        rw [e34, aI_sI, if_neg (fun w => hnV (by rw [← w.2]; exact hz))]
        exact (hcp z hz).1
      · rw [List.append_nil, cpx, e34, aI_sI, if_pos ⟨rfl, rfl⟩]
      · rw [e34, aI_sI]
        by_cases q : y = rt t
        · rw [if_pos ⟨rfl, q⟩, q]
        · rw [if_neg (fun w => q w.2)]; exact hy
      · show 0 + 1 ≤ sz t
        omega
end
