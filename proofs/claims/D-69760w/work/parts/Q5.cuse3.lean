/-! THE COMPONENT'S CHECKS OF CLAUSES: rows of use -/
def UsI (G : Gh) (Ak : Tr → Int → Prop) (Sg : Tr → Int → List Tr → Prop) (n d : Nat) : Prop := ∀ (h : AH) (nd np pa fr q f : Nat) (rows : List (List Tr)) (qr τs : List Tr), PiW G h pa → (nd ≤ 1000 ∧ np ≤ 1000 ∧ 1 ≤ nd) → MR G h nd np pa fr qr.length f rows → PRw G h nd np pa q f qr → rows.length ≤ 8 → fr + rows.length * qr.length ≤ q → q + qr.length + tri (psi rows qr) ≤ 220000 → psi rows qr < n → (∀ r, r ∈ rows → rTy1 Ak Sg τs r) → rTy1 Ak Sg τs qr → 1 ≤ f → C G mX10_isUseful d [.ref (gW G 5), .int (nI fr), .int (nI rows.length), .int (nI qr.length), .int (nI q)] h (fun o h' => o = .returned (some (.int (b2 (us n rows qr)))) ∧ Pf pa (q + qr.length) h h')
section
variable {G : Gh} {Ak : Tr → Int → Prop} {Sg : Tr → Int → List Tr → Prop} {d n nd np pa top f cols fr q ip : Nat} {h h' : AH} {r qr τs σs : List Tr} {p τ s : Tr} {rows rs : List (List Tr)} {hd : Int}
theorem MR.sn (k : MR G h nd np pa fr cols f rs) (e : r.length = cols) (k2 : PRw G h nd np pa (fr + rs.length * cols) f r) : MR G h nd np pa fr cols f (rs ++ [r]) := by
  intro j x hx
  by_cases c : j < rs.length
  · rw [List.getElem?_append_left c] at hx
    exact k j x hx
  · have hj := (List.getElem?_eq_some_iff.mp hx).1
    rw [List.length_append, List.length_singleton] at hj
    have ej : j = rs.length := by omega
    rw [ej, List.getElem?_append_right (Nat.le_refl _), Nat.sub_self] at hx
    cases hx
    rw [ej]
    exact ⟨e, k2⟩
theorem take_sn {i : Nat} (hr : rows[i]? = some r) (F : List Tr → Option (List Tr)) : (rows.take (i + 1)).filterMap F = (rows.take i).filterMap F ++ (match F r with | some x => [x] | none => []) := by
  rw [List.take_succ, hr, List.filterMap_append]
  congr 1
  show [r].filterMap F = _
  rw [List.filterMap_cons]
  cases F r <;> rfl
theorem fm_le (F : List Tr → Option (List Tr)) {i : Nat} (hi : i ≤ rows.length) : ((rows.take i).filterMap F).length ≤ i := by
  refine Nat.le_trans (List.length_filterMap_le ..) ?_
  rw [List.length_take]
  omega
theorem tri_b {a b c : Nat} (h1 : a < b) (h2 : c ≤ a) : 9 * c + tri a ≤ tri b := by
  have := tri_le (show a + 1 ≤ b from h1)
  have e : tri (a + 1) = tri a + 9 * a := rfl
  omega
/-- rows that begin with anything -/
theorem c_else (H : UsI G Ak Sg n d) (k0 : PiW G h pa) (hN : nd ≤ 1000 ∧ np ≤ 1000 ∧ 1 ≤ nd) (hM : MR G h nd np pa fr (qr.length + 1) f rows) (hQ : PRw G h nd np pa q f (s :: qr)) (h8 : rows.length ≤ 8) (hfr : fr + rows.length * (qr.length + 1) ≤ q) (hB : q + (qr.length + 1) + tri (psi rows (s :: qr)) ≤ 220000) (hn : psi rows (s :: qr) < n + 1) (hT : ∀ r, r ∈ rows → rTy1 Ak Sg (τ :: τs) r) (hTq : rTy1 Ak Sg (τ :: τs) (s :: qr)) (hf : 1 ≤ f) : C G mX10_isUsefulElse (d + 1) [.ref (gW G 5), .int (nI fr), .int (nI rows.length), .int (nI (qr.length + 1)), .int (nI q), .int (nI (q + (qr.length + 1)))] h (fun o h' => o = .returned (some (.int (b2 (us n (rows.filterMap rowE) qr)))) ∧ Pf pa (q + (qr.length + 1)) h h') := by
  have epsi : psi rows (s :: qr) = qr.length + 1 + (pq s + pqs qr) + pqr rows := rfl
  have epsi' : psi (rows.filterMap rowE) qr = qr.length + pqs qr + pqr (rows.filterMap rowE) := rfl
  have hE := pqr_E rows
  have hlt : psi (rows.filterMap rowE) qr < psi rows (s :: qr) := by omega
  have hb := tri_b (c := qr.length) hlt (by omega)
  have lp : ∀ (e i : Nat) (hh : AH), i + e = rows.length → Pf pa (q + (qr.length + 1)) h hh → MR G hh nd np pa (q + (qr.length + 1)) qr.length f ((rows.take i).filterMap rowE) →
      X G mX10_isUsefulElse (d + 1) none [] 10 [(0, .ref (gW G 5)), (1, .int (nI fr)), (2, .int (nI rows.length)), (3, .int (nI (qr.length + 1))), (4, .int (nI q)), (5, .int (nI (q + (qr.length + 1)))), (6, .int (nI (q + (qr.length + 1) + ((rows.take i).filterMap rowE).length * qr.length))), (7, .int (nI ((rows.take i).filterMap rowE).length)), (8, .int (nI i))] [] hh (fun o h' => o = .returned (some (.int (b2 (us n (rows.filterMap rowE) qr)))) ∧ Pf pa (q + (qr.length + 1)) h h') := by
    intro e
    induction e with
    | zero =>
      intro i hh he P M
      have kk := P.pw k0
      have ei : i = rows.length := by omega
      have et : rows.take i = rows := List.take_of_length_le (by omega)
      rw [et] at M ⊢
      have hl := fm_le (rows := rows) rowE (Nat.le_refl _)
      rw [List.take_of_length_le (Nat.le_refl _)] at hl
      have hm : ((rows.filterMap rowE).length + 1) * qr.length ≤ 9 * qr.length := Nat.mul_le_mul_right _ (by omega)
      rw [Nat.succ_mul] at hm
      refine bX10_isUsefulElse_10 G d hh _ _ _ _ _ _ _ _ _ (kk.1.at (by decide)) ?_
      rw [nI_leI (by omega) (by omega)]
      refine ⟨fun _ => ?_, fun z => absurd (by omega) z⟩
      refine C.mono (c_laid (ps := []) (n := 0) (ip := 0) (p := s) (r := qr) (row := q) kk rfl (Or.inl ⟨rfl, fun y hy => (by cases hy)⟩) hf (P.pr k0 hQ (by rw [List.length_cons]; exact Nat.le_refl _)) (by omega) (by omega)) ?_
      rintro _ h2 ⟨rfl, P2, R2⟩
      refine KI.i ?_
      rw [nI_sub1 (by omega)]
      have kk2 := P2.pw kk
      have := H h2 nd np pa (q + (qr.length + 1)) (q + (qr.length + 1) + (rows.filterMap rowE).length * qr.length) f (rows.filterMap rowE) qr τs kk2 hN (P2.mr kk M (Nat.le_refl _)) R2 (by omega) (Nat.le_refl _) (by omega) (by omega) (fun r hr => by
        obtain ⟨r0, h1, h2⟩ := List.mem_filterMap.mp hr
        exact (hT r0 h1).E h2) hTq.tl hf
      refine C.mono this ?_
      rintro _ h5 ⟨rfl, P5⟩
      exact KI.i ⟨b2_01 _, rfl, (P.tr P2 (by omega)).tr P5 (by omega)⟩
    | succ e IH =>
      intro i hh he P M
      have kk := P.pw k0
      obtain ⟨w1, w2, w3, w4, w5⟩ := id kk
      obtain ⟨r, hr⟩ : ∃ r, rows[i]? = some r := ⟨_, List.getElem?_eq_getElem (by omega)⟩
      obtain ⟨hrl, hrp⟩ := hM i r hr
      have hrw := row_le (j := i) (m := rows.length) (c := qr.length + 1) (by omega)
      have hrp' := P.pr k0 hrp (by omega)
      have hl := fm_le (rows := rows) rowE (i := i) (by omega)
      have hm : (((rows.take i).filterMap rowE).length + 1) * qr.length ≤ 9 * qr.length := Nat.mul_le_mul_right _ (by omega)
      rw [Nat.succ_mul] at hm
      cases r with
      | nil => cases hrl
      | cons p r =>
        have hrl' : r.length = qr.length := by simpa using hrl
        obtain ⟨ip, hip, sip⟩ := hrp' 0 p rfl
        rw [Nat.add_zero] at hip
        have hipl := sip.lt hN.2.2
        obtain ⟨m, hm'⟩ := (hT _ (List.mem_of_getElem? hr)).h1
        refine bX10_isUsefulElse_10 G d hh _ _ _ _ _ _ _ _ _ (kk.1.at (by decide)) ?_
        rw [nI_leI (by omega) (by omega)]
        refine ⟨fun z => by omega, fun _ => ⟨pa, w2, w3, ?_⟩⟩
        rw [nI_mul, nI_add, nI_cn (by omega), w5, hip]
        refine ⟨vp_i (by omega) (by omega), fun h0 => ?_, fun h0 => ?_⟩
        · have hp0 : p = .num 0 := by
            cases f with
            | zero => omega
            | succ f =>
              rcases sip with ⟨z, -⟩ | ⟨_, _, _, _, -, z, -⟩
              · exact z
              · exact absurd h0 (nI_ne0 z.1 (by omega))
          have eF : rowE (p :: r) = some r := by rw [hp0]; rfl
          have := c_laid (d := d) (ps := []) (n := 0) (ip := 0) (p := p) (r := r) (row := fr + i * (qr.length + 1)) (at' := q + (qr.length + 1) + ((rows.take i).filterMap rowE).length * qr.length) kk rfl (Or.inl ⟨rfl, fun y hy => (by cases hy)⟩) hf hrp' (by omega) (by omega)
          rw [hrl'] at this
          refine C.mono this ?_
          rintro _ h13 ⟨rfl, P13, R13⟩
          refine KI.i ?_
          rintro _ rfl _ rfl
          rw [nI_1, nI_1]
          have et := take_sn hr rowE
          rw [eF] at et
          have ih := IH (i + 1) h13 (by omega) (P.tr P13 (by omega)) (by
            rw [et]
            exact (P13.mr kk M (Nat.le_refl _)).sn hrl' R13)
          rw [et, List.length_append, show ([r] : List (List Tr)).length = 1 from rfl, show q + (qr.length + 1) + (((rows.take i).filterMap rowE).length + 1) * qr.length = q + (qr.length + 1) + ((rows.take i).filterMap rowE).length * qr.length + qr.length by rw [Nat.succ_mul]; omega] at ih
          rw [Nat.add_zero]
          exact ih
        · have hp0 : isN p = false := by
            cases f with
            | zero => omega
            | succ f =>
              rcases sip with ⟨-, z⟩ | ⟨_, _, _, _, z, -⟩
              · exact absurd (by rw [z]; rfl) h0
              · rw [z]; rfl
          have eF : rowE (p :: r) = none := by rw [rowE_c, hp0]; rfl
          rintro _ rfl
          rw [nI_1]
          have et := take_sn hr rowE
          rw [eF, List.append_nil] at et
          have ih := IH (i + 1) hh (by omega) P (by rw [et]; exact M)
          rw [et] at ih
          exact ih
  have := lp rows.length 0 h (by omega) Pf.rf (fun j r hr => (by cases hr))
  rw [show ((rows.take 0).filterMap rowE) = [] from rfl, show ([] : List (List Tr)).length = 0 from rfl, Nat.zero_mul, Nat.add_zero] at this
  exact bX10_isUsefulElse G d h _ _ _ _ _ _ this
/-- rows with a head -/
theorem c_for {l qs : List Tr} {al : Int} (hS : ∀ τ h l l', Sg τ h l → Sg τ h l' → l = l') (H : UsI G Ak Sg n d) (k0 : PiW G h pa) (hN : nd ≤ 1000 ∧ np ≤ 1000 ∧ 1 ≤ nd) (hM : MR G h nd np pa fr (qr.length + 1) f rows) (hQ : PRw G h nd np pa q f (s :: qr)) (h8 : rows.length ≤ 8) (hfr : fr + rows.length * (qr.length + 1) ≤ q) (hlike : SR G h nd np f (sN hd al l) ip) (hsg : Sg τ hd σs) (hσ : σs.length = l.length) (hqs : rowF hd l.length (s :: qr) = some (qs ++ qr)) (hqsl : qs.length = l.length) (hlt : psi (rows.filterMap (rowF hd l.length)) (qs ++ qr) < psi rows (s :: qr)) (hB : q + (qr.length + 1) + tri (psi rows (s :: qr)) ≤ 220000) (hn : psi rows (s :: qr) < n + 1) (hT : ∀ r, r ∈ rows → rTy1 Ak Sg (τ :: τs) r) (hTq : rTy1 Ak Sg (τ :: τs) (s :: qr)) (hf : 1 ≤ f) : C G mX10_isUsefulFor (d + 1) [.ref (gW G 5), .int (nI fr), .int (nI rows.length), .int (nI (qr.length + 1)), .int (nI q), .int (nI ip), .int (nI (q + (qr.length + 1)))] h (fun o h' => o = .returned (some (.int (b2 (us n (rows.filterMap (rowF hd l.length)) (qs ++ qr))))) ∧ Pf pa (q + (qr.length + 1)) h h') := by
  have eql : (qs ++ qr).length = l.length + qr.length := by rw [List.length_append, hqsl]
  have epsi' : psi (rows.filterMap (rowF hd l.length)) (qs ++ qr) = (qs ++ qr).length + pqs (qs ++ qr) + pqr (rows.filterMap (rowF hd l.length)) := rfl
  have hb := tri_b (c := (qs ++ qr).length) hlt (by omega)
  obtain ⟨hip0, hip1, e96, e99⟩ : 0 < ip ∧ ip < nd ∧ (aI h (gW G 1096) ip).toInt = hd ∧ aI h (gW G 1099) ip = nI l.length := by
    cases f with
    | zero => omega
    | succ f =>
      rcases hlike with ⟨z, -⟩ | ⟨hd', al', l', _, z1, z2, z3, z4, z5, z6, -⟩
      · cases z
      · have e1 : sP (sN hd al l) = l' := by rw [z1, sP_N]
        rw [sP_N] at e1
        have e2 : hd = hd' := congrArg sH z1
        exact ⟨z2.1, z2.2, by rw [z3]; exact e2.symm, by rw [z6, e1]⟩
  -- what a row gives
  have part : ∀ (hh : AH) (p : Tr) (r r' : List Tr) (i : Nat), Pf pa (q + (qr.length + 1)) h hh → rTy1 Ak Sg (τ :: τs) (p :: r) → SR G hh nd np f p i → rowF hd l.length (p :: r) = some r' → ∃ ps, r' = ps ++ r ∧ ps.length = l.length ∧ ((i = 0 ∧ ∀ y, y ∈ ps → y = .num 0) ∨ (0 < i ∧ i < 1000 ∧ ∃ fs, aI hh (gW G 1098) i = nI fs ∧ fs + l.length ≤ 1000 ∧ ∀ (k : Nat) (y : Tr), ps[k]? = some y → ∃ j, aI hh (gW G 1100) (fs + k) = nI j ∧ SR G hh nd np f y j)) := by
    intro hh p r r' i P ht si hr
    rw [rowF_c] at hr
    cases f with
    | zero => omega
    | succ f =>
      rcases si with ⟨z, zi⟩ | ⟨hd', al', l', fs, z1, z2, z3, z4, z5, z6, z7, z8⟩
      · rw [if_pos (by rw [z]; rfl)] at hr
        cases hr
        exact ⟨_, rfl, List.length_replicate, Or.inl ⟨zi, fun y hy => (List.mem_replicate.mp hy).2⟩⟩
      · rw [if_neg (by rw [z1, isN_N]; decide)] at hr
        by_cases c2 : sH p = hd
        · rw [if_pos c2] at hr
          cases hr
          obtain ⟨m, hm⟩ := ht.h1
          obtain ⟨al2, l2, τ2, e1, -, -, -, -, e5, e6, -⟩ := sTy_N hm (by rw [z1]; rfl)
          rw [c2] at e5
          have e8 := hS _ _ _ _ e5 hsg
          have e9 : sP p = l2 := by rw [e1, sP_N]
          have e10 : sP p = l' := by rw [z1, sP_N]
          have el : l'.length = l.length := by rw [← e10, e9, ← e6, e8, hσ]
          refine ⟨sP p, rfl, by rw [e10, el], Or.inr ⟨z2.1, by omega, fs, z5, by omega, fun k y hy => ?_⟩⟩
          rw [e10] at hy
          obtain ⟨j, j1, j2⟩ := z8 k y hy
          exact ⟨j, j1, SR.up _ _ _ j2 _ (Nat.le_succ _)⟩
        · rw [if_neg c2] at hr; cases hr
  have lp : ∀ (e i : Nat) (hh : AH), i + e = rows.length → Pf pa (q + (qr.length + 1)) h hh → MR G hh nd np pa (q + (qr.length + 1)) (qs ++ qr).length f ((rows.take i).filterMap (rowF hd l.length)) →
      X G mX10_isUsefulFor (d + 1) none [] 19 [(0, .ref (gW G 5)), (1, .int (nI fr)), (2, .int (nI rows.length)), (3, .int (nI (qr.length + 1))), (4, .int (nI q)), (5, .int (nI ip)), (6, .int (nI (q + (qr.length + 1)))), (7, .int (nI l.length)), (8, .int (nI (q + (qr.length + 1) + ((rows.take i).filterMap (rowF hd l.length)).length * (qs ++ qr).length))), (9, .int (nI ((rows.take i).filterMap (rowF hd l.length)).length)), (10, .int (nI i))] [] hh (fun o h' => o = .returned (some (.int (b2 (us n (rows.filterMap (rowF hd l.length)) (qs ++ qr))))) ∧ Pf pa (q + (qr.length + 1)) h h') := by
    intro e
    induction e with
    | zero =>
      intro i hh he P M
      have kk := P.pw k0
      obtain ⟨w1, w2, w3, w4, w5⟩ := id kk
      have et : rows.take i = rows := List.take_of_length_le (by omega)
      rw [et] at M ⊢
      have hl := fm_le (rows := rows) (rowF hd l.length) (Nat.le_refl _)
      rw [List.take_of_length_le (Nat.le_refl _)] at hl
      have hm : ((rows.filterMap (rowF hd l.length)).length + 1) * (qs ++ qr).length ≤ 9 * (qs ++ qr).length := Nat.mul_le_mul_right _ (by omega)
      rw [Nat.succ_mul] at hm
      have hQ' := P.pr k0 hQ (by rw [List.length_cons]; exact Nat.le_refl _)
      obtain ⟨iq, hiq, siq⟩ := hQ' 0 s rfl
      rw [Nat.add_zero] at hiq
      obtain ⟨ps, ep, epl, epp⟩ := part hh s qr (qs ++ qr) iq P hTq siq hqs
      have eps : ps = qs := (List.append_cancel_right ep).symm
      rw [eps] at epp
      refine bX10_isUsefulFor_19 G d hh _ _ _ _ _ _ _ _ _ _ _ (kk.1.at (by decide)) ?_
      rw [nI_leI (by omega) (by omega)]
      refine ⟨fun _ => ⟨pa, w2, w3, ?_⟩, fun z => absurd (by omega) z⟩
      rw [w5, nI_cn (by omega), hiq]
      refine ⟨vp_i (by omega) (by omega), C.mono (c_laid (ps := qs) (n := l.length) (ip := iq) (p := s) (r := qr) (row := q) kk hqsl epp hf hQ' (by omega) (by omega)) ?_⟩
      rintro _ h2 ⟨rfl, P2, R2⟩
      refine KI.i ?_
      rw [nI_sub1 (by omega), nI_add, show qr.length + l.length = (qs ++ qr).length by omega]
      have kk2 := P2.pw kk
      have := H h2 nd np pa (q + (qr.length + 1)) (q + (qr.length + 1) + (rows.filterMap (rowF hd l.length)).length * (qs ++ qr).length) f (rows.filterMap (rowF hd l.length)) (qs ++ qr) (σs ++ τs) kk2 hN (P2.mr kk M (Nat.le_refl _)) R2 (by omega) (Nat.le_refl _) (by omega) (by omega) (fun r hr => by
        obtain ⟨r0, h1, h2⟩ := List.mem_filterMap.mp hr
        exact (hT r0 h1).F hS hsg hσ h2) (hTq.F hS hsg hσ hqs) hf
      refine C.mono this ?_
      rintro _ h5 ⟨rfl, P5⟩
      exact KI.i ⟨b2_01 _, rfl, (P.tr P2 (by omega)).tr P5 (by omega)⟩
    | succ e IH =>
      intro i hh he P M
      have kk := P.pw k0
      obtain ⟨w1, w2, w3, w4, w5⟩ := id kk
      obtain ⟨r, hr⟩ : ∃ r, rows[i]? = some r := ⟨_, List.getElem?_eq_getElem (by omega)⟩
      obtain ⟨hrl, hrp⟩ := hM i r hr
      have hrw := row_le (j := i) (m := rows.length) (c := qr.length + 1) (by omega)
      have hrp' := P.pr k0 hrp (by omega)
      have hl := fm_le (rows := rows) (rowF hd l.length) (i := i) (by omega)
      have hm : (((rows.take i).filterMap (rowF hd l.length)).length + 1) * (qs ++ qr).length ≤ 9 * (qs ++ qr).length := Nat.mul_le_mul_right _ (by omega)
      rw [Nat.succ_mul] at hm
      have hTr := hT _ (List.mem_of_getElem? hr)
      cases r with
      | nil => cases hrl
      | cons p r =>
        have hrl' : r.length = qr.length := by simpa using hrl
        obtain ⟨i2, hip, sip⟩ := hrp' 0 p rfl
        rw [Nat.add_zero] at hip
        have hipl := sip.lt hN.2.2
        have et := take_sn hr (rowF hd l.length)
        -- the row is laid
        have go : ∀ r', rowF hd l.length (p :: r) = some r' → C G mX10_laid d [.ref (gW G 5), .int (nI i2), .int (nI l.length), .int (nI (fr + i * (qr.length + 1))), .int (nI (qr.length + 1)), .int (nI (q + (qr.length + 1) + ((rows.take i).filterMap (rowF hd l.length)).length * (qs ++ qr).length))] hh (KI (fun o h' => o = .returned (some (.int (b2 (us n (rows.filterMap (rowF hd l.length)) (qs ++ qr))))) ∧ Pf pa (q + (qr.length + 1)) h h') (fun x20 h18 => ∀ x21 : Int32, x21 = nI ((rows.take i).filterMap (rowF hd l.length)).length + 1 → (∀ x22 : Int32, x22 = nI i + 1 → (X G mX10_isUsefulFor (d + 1) none [] 19 [(0, .ref (gW G 5)), (1, .int (nI fr)), (2, .int (nI rows.length)), (3, .int (nI (qr.length + 1))), (4, .int (nI q)), (5, .int (nI ip)), (6, .int (nI (q + (qr.length + 1)))), (7, .int (nI l.length)), (8, .int (x20)), (9, .int (x21)), (10, .int (x22))] [] h18 (fun o h' => o = .returned (some (.int (b2 (us n (rows.filterMap (rowF hd l.length)) (qs ++ qr))))) ∧ Pf pa (q + (qr.length + 1)) h h'))))) := by
          intro r' er
          obtain ⟨ps, ep, epl, epp⟩ := part hh p r r' i2 P hTr sip er
          have := c_laid (d := d) (ps := ps) (n := l.length) (ip := i2) (p := p) (r := r) (row := fr + i * (qr.length + 1)) (at' := q + (qr.length + 1) + ((rows.take i).filterMap (rowF hd l.length)).length * (qs ++ qr).length) kk epl epp hf hrp' (by omega) (by omega)
          rw [hrl'] at this
          refine C.mono this ?_
          rintro _ h13 ⟨rfl, P13, R13⟩
          refine KI.i ?_
          rintro _ rfl _ rfl
          rw [nI_1, nI_1]
          rw [er] at et
          have ih := IH (i + 1) h13 (by omega) (P.tr P13 (by omega)) (by
            rw [et]
            exact (P13.mr kk M (Nat.le_refl _)).sn (by rw [ep, List.length_append, epl, hrl', eql]) (by rw [ep]; exact R13))
          rw [et, List.length_append, show ([r'] : List (List Tr)).length = 1 from rfl, show q + (qr.length + 1) + (((rows.take i).filterMap (rowF hd l.length)).length + 1) * (qs ++ qr).length = q + (qr.length + 1) + ((rows.take i).filterMap (rowF hd l.length)).length * (qs ++ qr).length + (qs ++ qr).length by rw [Nat.succ_mul]; omega] at ih
          rw [Nat.add_assoc _ l.length, ← eql]
          exact ih
        refine bX10_isUsefulFor_19 G d hh _ _ _ _ _ _ _ _ _ _ _ (kk.1.at (by decide)) ?_
        rw [nI_leI (by omega) (by omega)]
        refine ⟨fun z => by omega, fun _ => ⟨pa, w2, w3, ?_⟩⟩
        rw [nI_mul, nI_add, nI_cn (by omega), w5]
        refine ⟨vp_i (by omega) (by omega), ?_⟩
        rintro _ rfl
        rw [hip]
        have e96' : (aI hh (gW G 1096) ip).toInt = hd := by rw [P.2.2.2 _ _ (Or.inl (k0.ne 1096 (by decide)))]; exact e96
        refine ⟨fun h0 => ?_, fun h0 => ⟨vp_i (by omega) (by omega), vp_i (by omega) (by omega), ?_⟩⟩
        · have hp0 : p = .num 0 := by
            cases f with
            | zero => omega
            | succ f =>
              rcases sip with ⟨z, -⟩ | ⟨_, _, _, _, -, z, -⟩
              · exact z
              · exact absurd h0 (nI_ne0 z.1 (by omega))
          exact go _ (by rw [hp0]; rfl)
        · rw [nI_cn (by omega), nI_cn (by omega)]
          have hp0 : isN p = false ∧ (aI hh (gW G 1096) i2).toInt = sH p := by
            cases f with
            | zero => omega
            | succ f =>
              rcases sip with ⟨-, z⟩ | ⟨_, _, _, _, z, -, z3, -⟩
              · exact absurd (by rw [z]; rfl) h0
              · rw [z]; exact ⟨rfl, z3⟩
          have eqv : aI hh (gW G 1096) i2 = aI hh (gW G 1096) ip ↔ sH p = hd := by rw [i_eq, hp0.2, e96']
          refine ⟨fun hc => ?_, fun hc => ?_⟩
          · exact go (sP p ++ r) (by rw [rowF_c, hp0.1, if_neg (by decide), if_pos (eqv.mp hc)])
          · have eF : rowF hd l.length (p :: r) = none := by rw [rowF_c, hp0.1, if_neg (by decide), if_neg (fun z => hc (eqv.mpr z))]
            rintro _ rfl
            rw [nI_1]
            rw [eF, List.append_nil] at et
            have ih := IH (i + 1) hh (by omega) P (by rw [et]; exact M)
            rw [et] at ih
            exact ih
  have := lp rows.length 0 h (by omega) Pf.rf (fun j r hr => (by cases hr))
  rw [show ((rows.take 0).filterMap (rowF hd l.length)) = [] from rfl, show ([] : List (List Tr)).length = 0 from rfl, Nat.zero_mul, Nat.add_zero] at this
  refine bX10_isUsefulFor G d h _ _ _ _ _ _ _ (k0.1.at (by decide)) ⟨vp_i (by omega) (by omega), ?_⟩
  rintro _ rfl
  rw [nI_cn (by omega), e99]
  exact this
end
