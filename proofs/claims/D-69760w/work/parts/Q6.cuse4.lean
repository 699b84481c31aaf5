/-! THE COMPONENT'S CHECKS OF CLAUSES: whether a row is of use -/
section
variable {G : Gh} {Ak : Tr → Int → Prop} {Sg : Tr → Int → List Tr → Prop} {d n nd np pa f cols fr q : Nat} {h h' : AH} {qr τs : List Tr} {p τ s : Tr} {rows : List (List Tr)}
theorem SR.any {i : Nat} (k : SR G h nd np f p i) (hn : nd ≤ 1000) : (nI i = 0 ↔ isN p = true) ∧ (isN p = true → p = .num 0 ∧ i = 0) ∧ (isN p = false → (aI h (gW G 1096) i).toInt = sH p ∧ (aI h (gW G 1097) i).toInt = sAl p ∧ p = sN (sH p) (sAl p) (sP p)) := by
  cases f with
  | zero => exact k.elim
  | succ f =>
    rcases k with ⟨z, zi⟩ | ⟨hd', al', l', fs, z1, z2, z3, z4, -⟩
    · rw [z, zi]
      exact ⟨⟨fun _ => rfl, fun _ => rfl⟩, fun _ => ⟨rfl, rfl⟩, fun e => (by cases e)⟩
    · rw [z1, sP_N]
      exact ⟨⟨fun e => absurd e (nI_ne0 z2.1 (by omega)), fun e => (by cases e)⟩, fun e => (by cases e), fun _ => ⟨z3, z4, rfl⟩⟩
theorem MR.col (M : MR G h nd np pa fr (qr.length + 1) f rows) {i : Nat} (hi : i < rows.length) : ∃ p r j, rows[i]? = some (p :: r) ∧ (fcl rows)[i]? = some p ∧ aI h pa (fr + i * (qr.length + 1)) = nI j ∧ SR G h nd np f p j := by
  obtain ⟨r, hr⟩ : ∃ r, rows[i]? = some r := ⟨_, List.getElem?_eq_getElem hi⟩
  obtain ⟨e, k⟩ := M i r hr
  cases r with
  | nil => cases e
  | cons p r =>
    obtain ⟨j, j1, j2⟩ := k 0 p rfl
    refine ⟨p, r, j, hr, ?_, j1, j2⟩
    unfold fcl
    rw [List.getElem?_map, hr]
    rfl
theorem fcl_len : (fcl rows).length = rows.length := List.length_map ..
theorem c_wh {hh : Nat} (k0 : PiW G h pa) (hN : nd ≤ 1000 ∧ np ≤ 1000 ∧ 1 ≤ nd) (hM : MR G h nd np pa fr (qr.length + 1) f rows) (h8 : rows.length ≤ 8) (hfr : fr + rows.length * (qr.length + 1) ≤ 220000) (hh1 : hh < 100000) (hfind : (fcl rows).find? (fun p => !isN p && sH p == (hh : Int)) = some p) : C G mX10_withHead d [.ref (gW G 5), .int (nI fr), .int (nI rows.length), .int (nI (qr.length + 1)), .int (nI hh)] h (fun o h' => h' = h ∧ ∃ i, o = .returned (some (.int (nI i))) ∧ SR G h nd np f p i) := by
  obtain ⟨w1, w2, w3, w4, w5⟩ := id k0
  have lp : ∀ (e i : Nat), i + e = rows.length → ((fcl rows).drop i).find? (fun p => !isN p && sH p == (hh : Int)) = some p →
      X G mX10_withHead d none [] 3 [(0, .ref (gW G 5)), (1, .int (nI fr)), (2, .int (nI rows.length)), (3, .int (nI (qr.length + 1))), (4, .int (nI hh)), (5, .int (nI i))] [] h (fun o h' => h' = h ∧ ∃ i, o = .returned (some (.int (nI i))) ∧ SR G h nd np f p i) := by
    intro e
    induction e with
    | zero =>
      intro i he hd
      rw [List.drop_of_length_le (by rw [fcl_len]; omega)] at hd
      cases hd
    | succ e IH =>
      intro i he hd
      obtain ⟨p', r, j, h1, h2, h3, h4⟩ := hM.col (i := i) (by omega)
      have hj := h4.lt hN.2.2
      have hrw := row_le (j := i) (m := rows.length) (c := qr.length + 1) (by omega)
      obtain ⟨a1, a2, a3⟩ := h4.any hN.1
      have ed : (fcl rows).drop i = p' :: (fcl rows).drop (i + 1) := by
        rw [List.drop_eq_getElem_cons (by rw [fcl_len]; omega)]
        rw [List.getElem?_eq_getElem (by rw [fcl_len]; omega)] at h2
        rw [Option.some.inj h2]
      rw [ed, List.find?_cons] at hd
      refine bX10_withHead_3 G d h _ _ _ _ _ _ (w1.at (by decide)) ?_
      rw [nI_leI (by omega) (by omega)]
      refine ⟨fun z => by omega, fun _ => ⟨pa, w2, w3, ?_⟩⟩
      rw [nI_mul, nI_add, nI_cn (by omega), w5]
      refine ⟨vp_i (by omega) (by omega), ?_⟩
      rintro _ rfl
      rw [h3]
      refine ⟨fun h0 => ?_, fun h0 => ⟨vp_i (by omega) (by omega), ?_⟩⟩
      · have hp := a1.mp h0
        rw [hp] at hd
        rintro _ rfl
        rw [nI_1]
        exact IH (i + 1) (by omega) hd
      · have hp : isN p' = false := by
          cases e : isN p' with
          | false => rfl
          | true => exact absurd (a1.mpr e) h0
        obtain ⟨b1, b2, b3⟩ := a3 hp
        rw [nI_cn (by omega)]
        have eqv : aI h (gW G 1096) j = nI hh ↔ sH p' = hh := by rw [i_eq, b1, nI_toInt (by omega)]
        refine ⟨fun hc => ?_, fun hc => ?_⟩
        · have e1 := eqv.mp hc
          rw [hp, e1] at hd
          simp only [Bool.not_false, Bool.true_and, beq_self_eq_true] at hd
          cases hd
          exact ⟨rfl, j, rfl, h4⟩
        · have e1 : ¬ sH p' = hh := fun z => hc (eqv.mpr z)
          have e2 : (sH p' == (hh : Int)) = false := by simpa using e1
          rw [hp, e2] at hd
          rintro _ rfl
          rw [nI_1]
          exact IH (i + 1) (by omega) hd
  exact bX10_withHead G d h _ _ _ _ _ (lp rows.length 0 (by omega) hfind)
/-- whether a row is of use -/
theorem us_all (hA : ∀ τ a b, Ak τ a → Ak τ b → a = b) (hS : ∀ τ h l l', Sg τ h l → Sg τ h l' → l = l') : ∀ n d, UsI G Ak Sg n (d + 2 * n) := by
  intro n
  induction n with
  | zero => intro d h nd np pa fr q f rows qr τs _ _ _ _ _ _ _ hn; omega
  | succ n ihn =>
    intro d h nd np pa fr q f rows qr τs k0 hN hM hQ h8 hfr hB hn hT hTq hf
    have H : UsI G Ak Sg n (d + 2 * n) := ihn d
    rw [show d + 2 * (n + 1) = d + 2 * n + 1 + 1 by omega]
    obtain ⟨w1, w2, w3, w4, w5⟩ := id k0
    have s5 := w1.at (i := 5) (by decide)
    cases qr with
    | nil =>
      refine bX10_isUseful G _ h _ _ _ _ _ s5 ⟨fun _ => ⟨fun h0 => ?_, fun h0 => ?_⟩, fun z => absurd rfl z⟩
      · have e : rows = [] := by
          cases rows with
          | nil => rfl
          | cons r rows => exact absurd h0 (nI_ne0 (by rw [List.length_cons]; omega) (by omega))
        rw [e]
        exact ⟨rfl, Pf.rf⟩
      · have e : us (n + 1) rows [] = false := by
          cases rows with
          | nil => exact absurd rfl h0
          | cons r rows => rfl
        rw [e]
        exact ⟨rfl, Pf.rf⟩
    | cons s qr =>
      rw [List.length_cons] at hM hfr hB ⊢
      refine bX10_isUseful G _ h _ _ _ _ _ s5 ⟨fun z => absurd z (nI_ne0 (by omega) (by omega)), fun _ => ⟨fun h0 => ?_, fun h0 => ?_⟩⟩
      · have e : rows = [] := by
          cases rows with
          | nil => rfl
          | cons r rows => exact absurd h0 (nI_ne0 (by rw [List.length_cons]; omega) (by omega))
        rw [e]
        exact ⟨rfl, Pf.rf⟩
      have hne : rows.isEmpty = false := by
        cases rows with
        | nil => exact absurd rfl h0
        | cons r rows => rfl
      obtain ⟨iq, hiq, siq⟩ := hQ 0 s rfl
      rw [Nat.add_zero] at hiq
      obtain ⟨a1, a2, a3⟩ := siq.any hN.1
      have hiql := siq.lt hN.2.2
      cases τs with
      | nil => cases hTq.1
      | cons τ τs =>
      obtain ⟨ms, hms⟩ := hTq.h1
      rintro _ rfl
      refine ⟨pa, w2, w3, ?_⟩
      rw [nI_cn (by omega), w5, nI_add]
      refine ⟨vp_i (by omega) (by omega), ?_⟩
      rintro _ rfl
      rw [hiq]
      have hrl : ∀ r, r ∈ rows → rTy1 Ak Sg (τ :: τs) r := hT
      refine ⟨fun z0 => ?_, fun z0 => ?_⟩
      · -- anything
        have hs := a1.mp z0
        obtain ⟨es, -⟩ := a2 hs
        rintro _ rfl
        have hcol : ∀ p, p ∈ fcl rows → ∃ n, sTy Ak Sg n τ p := fun p hp => by
          obtain ⟨r, hr, e⟩ := List.mem_map.mp hp
          have ht := hT r hr
          cases r with
          | nil => cases ht.1
          | cons p' r =>
            rw [← e]
            exact ht.h1
        have eus : us (n + 1) rows (s :: qr) = (if whl (-1) (fcl rows) ≤ 0 ∨ (dcn [] (fcl rows) : Int) < whl (-1) (fcl rows) then us n (rows.filterMap rowE) qr
            else (List.range (whl (-1) (fcl rows)).toNat).any fun (h : Nat) => match (fcl rows).find? fun p => !isN p && sH p == (h : Int) with
              | some p => us n (rows.filterMap (rowF h (sP p).length)) (List.replicate (sP p).length (.num 0) ++ qr)
              | none => false) := by
          show (if rows.isEmpty = true then true else if isN s = false then _ else _) = _
          rw [hne, hs]
          rfl
        have hdc : dcn [] (fcl rows) ≤ 8 := by
          have h1 : ∀ (l sn : List Tr), dcn sn l ≤ l.length := fun l => by
            induction l with
            | nil => intro sn; exact Nat.le_refl _
            | cons p l ih =>
              intro sn
              show _ + dcn (sn ++ [p]) l ≤ l.length + 1
              have := ih (sn ++ [p])
              split <;> omega
          have := h1 (fcl rows) []
          rw [fcl_len] at this
          omega
        have eels : (whl (-1) (fcl rows) ≤ 0 ∨ (dcn [] (fcl rows) : Int) < whl (-1) (fcl rows)) → C G mX10_isUsefulElse (d + 2 * n + 1) [.ref (gW G 5), .int (nI fr), .int (nI rows.length), .int (nI (qr.length + 1)), .int (nI q), .int (nI (q + (qr.length + 1)))] h (KI (fun o h' => o = .returned (some (.int (b2 (us (n + 1) rows (s :: qr))))) ∧ Pf pa (q + (qr.length + 1)) h h') (fun x5 h3 => (x5 = 0 ∨ x5 = 1) ∧ (fun o h' => o = Outcome.returned (some (.int (b2 (us (n + 1) rows (s :: qr))))) ∧ Pf pa (q + (qr.length + 1)) h h') (.returned (some (.int x5))) h3)) := by
          intro hc
          rw [eus, if_pos hc]
          refine C.mono (c_else H k0 hN hM hQ h8 hfr hB hn hT hTq hf) ?_
          rintro _ h3 ⟨rfl, P⟩
          exact KI.i ⟨b2_01 _, rfl, P⟩
        -- the heads one behind another
        have lp3 : ¬ (whl (-1) (fcl rows) ≤ 0 ∨ (dcn [] (fcl rows) : Int) < whl (-1) (fcl rows)) → ∀ (v8 : Int32), v8.toInt = whl (-1) (fcl rows) → ∀ (e i : Nat) (hh : AH), (i : Int) + e = whl (-1) (fcl rows) → Pf pa (q + (qr.length + 1)) h hh → (∀ (j : Nat), j < i → (match (fcl rows).find? fun p => !isN p && sH p == (j : Int) with
              | some p => us n (rows.filterMap (rowF j (sP p).length)) (List.replicate (sP p).length (.num 0) ++ qr)
              | none => false) = false) →
            X G mX10_isUseful (d + 2 * n + 1 + 1) none [] 197 [(0, .ref (gW G 5)), (1, .int (nI fr)), (2, .int (nI rows.length)), (3, .int (nI (qr.length + 1))), (4, .int (nI q)), (5, .int (nI (q + (qr.length + 1)))), (8, .int v8), (9, .int (nI i))] [] hh (fun o h' => o = .returned (some (.int (b2 (us (n + 1) rows (s :: qr))))) ∧ Pf pa (q + (qr.length + 1)) h h') := by
          intro hc v8 e8
          have hc' := hc
          rw [not_or] at hc'
          have hty := whl_ty hA (fcl rows) (-1) hcol
          have hw : whl (-1) (fcl rows) ≤ 8 := by omega
          intro e
          induction e with
          | zero =>
            intro i hh he P hj
            have kk := P.pw k0
            refine bX10_isUseful_197 G _ hh _ _ _ _ _ _ _ _ (kk.1.at (by decide)) ⟨fun _ => ?_, fun z => absurd ?_ z⟩
            · have e0 : us (n + 1) rows (s :: qr) = false := by
                rw [eus, if_neg hc, List.any_eq_false]
                intro x hx
                rw [hj x (by have := List.mem_range.mp hx; omega)]
                decide
              rw [e0]
              exact ⟨rfl, P⟩
            · rw [Int32.le_iff_toInt_le, e8, nI_toInt (by omega)]
              omega
          | succ e IH =>
            intro i hh he P hj
            have kk := P.pw k0
            rcases hty with ⟨t1, -⟩ | ⟨t1, t2, t3, t4⟩
            · omega
            obtain ⟨p, f1, f2, f3, f4⟩ := find_head (head_in (c := fcl rows) (w := (whl (-1) (fcl rows)).toNat) (fun p h1 h2 => by have := t4 p h1 h2 (by omega); omega) (by omega) (h := i) (by omega))
            obtain ⟨r, hr, er⟩ := List.mem_map.mp f2
            have htr := hT r hr
            cases r with
            | nil => cases htr.1
            | cons p' r =>
            have ep : p' = p := er
            rw [ep] at htr hr
            obtain ⟨mp, hmp⟩ := htr.h1
            obtain ⟨al, l, σs, e1, -, -, -, -, e5, e6, -⟩ := sTy_N hmp f3
            rw [f4] at e1 e5
            have el : sP p = l := by rw [e1, sP_N]
            refine bX10_isUseful_197 G _ hh _ _ _ _ _ _ _ _ (kk.1.at (by decide)) ⟨fun z => absurd z ?_, fun _ => ?_⟩
            · rw [Int32.le_iff_toInt_le, e8, nI_toInt (by omega)]
              omega
            refine C.mono (c_wh (hh := i) kk hN (P.mr k0 hM (by omega)) h8 (by omega) (by omega) f1) ?_
            rintro _ _ ⟨rfl, ip, rfl, sip⟩
            rw [e1] at sip
            have hrep : rowF i l.length (s :: qr) = some (List.replicate l.length (.num 0) ++ qr) := by
              rw [rowF_c, if_pos hs]
            have hpm := pqr_mem (hd := (i : Int)) (n := l.length) rows al l r (by rw [← e1]; exact hr)
            have ep1 : psi rows (s :: qr) = qr.length + 1 + (pq s + pqs qr) + pqr rows := rfl
            have ep2 : psi (rows.filterMap (rowF i l.length)) (List.replicate l.length (.num 0) ++ qr) = (List.replicate l.length (Int.Internal.Linear.Expr.num 0) ++ qr).length + pqs (List.replicate l.length (.num 0) ++ qr) + pqr (rows.filterMap (rowF i l.length)) := rfl
            rw [List.length_append, List.length_replicate, pqs_ap, pqs_rep] at ep2
            refine KI.i (C.mono (c_for (hd := (i : Int)) (al := al) (l := l) (qs := List.replicate l.length (.num 0)) hS H kk hN (P.mr k0 hM (by omega)) (P.pr k0 hQ (by rw [List.length_cons]; exact Nat.le_refl _)) h8 hfr sip e5 e6 hrep List.length_replicate (by omega) hB hn hT hTq hf) ?_)
            rintro _ h5 ⟨rfl, P5⟩
            have em : (match (fcl rows).find? fun p => !isN p && sH p == (i : Int) with
              | some p => us n (rows.filterMap (rowF i (sP p).length)) (List.replicate (sP p).length (.num 0) ++ qr)
              | none => false) = us n (rows.filterMap (rowF i l.length)) (List.replicate l.length (.num 0) ++ qr) := by
              rw [f1]
              show us n (rows.filterMap (rowF i (sP p).length)) (List.replicate (sP p).length (.num 0) ++ qr) = _
              rw [el]
            have P05 := P.tr P5 (Nat.le_refl _)
            refine KI.i ⟨fun zu => ?_, fun zu => ?_⟩
            · rintro _ rfl
              rw [nI_1]
              refine IH (i + 1) h5 (by omega) P05 fun j hj' => ?_
              by_cases c : j = i
              · rw [c, em]
                exact b2_0.mp zu
              · exact hj j (by omega)
            · have e0 : us (n + 1) rows (s :: qr) = true := by
                rw [eus, if_neg hc, List.any_eq_true]
                refine ⟨i, List.mem_range.mpr (by omega), ?_⟩
                rw [em]
                cases e : us n (rows.filterMap (rowF i l.length)) (List.replicate l.length (.num 0) ++ qr) with
                | true => rfl
                | false => rw [e] at zu; exact absurd rfl zu
              rw [e0]
              exact ⟨rfl, P05⟩
        -- whether a head is a new one
        have lp2 : ∀ (i ii : Nat) (p : Tr) (v7 v8 : Int32), i < rows.length → (fcl rows)[i]? = some p → SR G h nd np f p ii → isN p = false → v7 = nI (dcn [] ((fcl rows).take i)) → v8.toInt = sAl p →
            (∀ (v7' v8' : Int32), v7' = nI (dcn [] ((fcl rows).take (i + 1))) → v8'.toInt = whl (-1) ((fcl rows).take (i + 1)) → X G mX10_isUseful (d + 2 * n + 1 + 1) none [] 63 [(0, .ref (gW G 5)), (1, .int (nI fr)), (2, .int (nI rows.length)), (3, .int (nI (qr.length + 1))), (4, .int (nI q)), (5, .int (nI (q + (qr.length + 1)))), (7, .int v7'), (8, .int v8'), (9, .int (nI (i + 1)))] [] h (fun o h' => o = .returned (some (.int (b2 (us (n + 1) rows (s :: qr))))) ∧ Pf pa (q + (qr.length + 1)) h h')) →
            ∀ (e j : Nat), j + e = i → X G mX10_isUseful (d + 2 * n + 1 + 1) none [] 105 [(0, .ref (gW G 5)), (1, .int (nI fr)), (2, .int (nI rows.length)), (3, .int (nI (qr.length + 1))), (4, .int (nI q)), (5, .int (nI (q + (qr.length + 1)))), (7, .int v7), (8, .int v8), (9, .int (nI i)), (10, .int (nI ii)), (11, .int (b2 (!hasH ((fcl rows).take j) (sH p)))), (12, .int (nI j))] [] h (fun o h' => o = .returned (some (.int (b2 (us (n + 1) rows (s :: qr))))) ∧ Pf pa (q + (qr.length + 1)) h h') := by
          intro i ii p v7 v8 hi hp sp hpn e7 e8 K e
          have hii := sp.lt hN.2.2
          have et : (fcl rows).take (i + 1) = (fcl rows).take i ++ [p] := by rw [List.take_succ, hp]; rfl
          have ew : whl (-1) ((fcl rows).take (i + 1)) = sAl p := by rw [et, whl_sn, if_neg (by rw [hpn]; decide)]
          have ed : dcn [] ((fcl rows).take (i + 1)) = dcn [] ((fcl rows).take i) + if hasH ((fcl rows).take i) (sH p) = true then 0 else 1 := by
            rw [et, dcn_sn, List.nil_append, hpn]
            simp only [Bool.false_eq_true, false_or]
          induction e with
          | zero =>
            intro j he
            have ej : j = i := by omega
            rw [ej]
            refine bX10_isUseful_105 G _ h _ _ _ _ _ _ _ _ _ _ _ _ s5 ?_
            rw [nI_leI (by omega) (by omega)]
            refine ⟨fun _ => ⟨fun z => ?_, fun z => ?_⟩, fun z => absurd (Nat.le_refl _) z⟩
            · have hz : hasH ((fcl rows).take i) (sH p) = true := by simpa using b2_0.mp z
              rintro _ rfl
              rw [nI_1]
              exact K v7 v8 (by rw [e7, ed, hz]; rfl) (by rw [ew]; exact e8)
            · have hz : hasH ((fcl rows).take i) (sH p) = false := by
                cases e : hasH ((fcl rows).take i) (sH p) with
                | false => rfl
                | true => rw [e] at z; exact absurd rfl z
              rintro _ rfl _ rfl
              rw [nI_1]
              exact K (v7 + 1) v8 (by rw [e7, ed, hz, nI_1]; rfl) (by rw [ew]; exact e8)
          | succ e IH =>
            intro j he
            obtain ⟨p', r, jj, h1, h2, h3, h4⟩ := hM.col (i := j) (by omega)
            have hj := h4.lt hN.2.2
            have hrw := row_le (j := j) (m := rows.length) (c := qr.length + 1) (by omega)
            obtain ⟨c1, c2, c3⟩ := h4.any hN.1
            obtain ⟨-, -, c3'⟩ := sp.any hN.1
            have et2 : (fcl rows).take (j + 1) = (fcl rows).take j ++ [p'] := by rw [List.take_succ, h2]; rfl
            have ih := IH (j + 1) (by omega)
            rw [et2, hasH_sn] at ih
            refine bX10_isUseful_105 G _ h _ _ _ _ _ _ _ _ _ _ _ _ s5 ?_
            rw [nI_leI (by omega) (by omega)]
            refine ⟨fun z => by omega, fun _ => ⟨pa, w2, w3, ?_⟩⟩
            rw [nI_mul, nI_add, nI_cn (by omega), w5]
            refine ⟨vp_i (by omega) (by omega), ?_⟩
            rintro _ rfl
            rw [h3]
            refine ⟨fun hz => ?_, fun hz => ⟨vp_i (by omega) (by omega), vp_i (by omega) (by omega), ?_⟩⟩
            · rintro _ rfl
              rw [nI_1]
              rw [c1.mp hz] at ih
              simp only [Bool.not_true, Bool.false_and, Bool.or_false] at ih
              exact ih
            · have hpf : isN p' = false := by
                cases e : isN p' with
                | false => rfl
                | true => exact absurd (c1.mpr e) hz
              rw [nI_cn (by omega), nI_cn (by omega)]
              have eqv : aI h (gW G 1096) jj = aI h (gW G 1096) ii ↔ sH p' = sH p := by rw [i_eq, (c3 hpf).1, (c3' hpn).1]
              rw [hpf] at ih
              refine ⟨fun hc => ?_, fun hc => ?_⟩
              · rw [eqv.mp hc] at ih
                simp only [Bool.not_false, Bool.true_and, beq_self_eq_true, Bool.or_true, Bool.not_true] at ih
                rintro _ rfl
                rw [nI_1]
                exact ih
              · have hb : (sH p' == sH p) = false := by simpa using fun z => hc (eqv.mpr z)
                rw [hb] at ih
                simp only [Bool.not_false, Bool.true_and, Bool.or_false] at ih
                rintro _ rfl
                rw [nI_1]
                exact ih
        have lp1 : ∀ (e i : Nat) (v7 v8 : Int32), i + e = rows.length → v7 = nI (dcn [] ((fcl rows).take i)) → v8.toInt = whl (-1) ((fcl rows).take i) →
            X G mX10_isUseful (d + 2 * n + 1 + 1) none [] 63 [(0, .ref (gW G 5)), (1, .int (nI fr)), (2, .int (nI rows.length)), (3, .int (nI (qr.length + 1))), (4, .int (nI q)), (5, .int (nI (q + (qr.length + 1)))), (7, .int v7), (8, .int v8), (9, .int (nI i))] [] h (fun o h' => o = .returned (some (.int (b2 (us (n + 1) rows (s :: qr))))) ∧ Pf pa (q + (qr.length + 1)) h h') := by
          intro e
          induction e with
          | zero =>
            intro i v7 v8 he e7 e8
            rw [List.take_of_length_le (by rw [fcl_len]; omega)] at e7 e8
            have z0 : (0 : Int32).toInt = 0 := rfl
            have i8 : v8 ≤ 0 ↔ whl (-1) (fcl rows) ≤ 0 := by rw [Int32.le_iff_toInt_le, e8, z0]
            have i7 : v8 ≤ v7 ↔ whl (-1) (fcl rows) ≤ dcn [] (fcl rows) := by rw [Int32.le_iff_toInt_le, e8, e7, nI_toInt (by omega)]
            refine bX10_isUseful_63 G _ h _ _ _ _ _ _ _ _ _ s5 ?_
            rw [nI_leI (by omega) (by omega)]
            refine ⟨fun _ => ⟨fun hz => eels (Or.inl (i8.mp hz)), fun hz => ⟨fun hy => ?_, fun hy => ?_⟩⟩, fun z => absurd (by omega) z⟩
            · have g1 : ¬ whl (-1) (fcl rows) ≤ 0 := fun z => hz (i8.mpr z)
              have g2 := i7.mp hy
              exact lp3 (by omega) v8 e8 (whl (-1) (fcl rows)).toNat 0 h (by omega) Pf.rf (fun j hj => by omega)
            · have g2 : ¬ whl (-1) (fcl rows) ≤ dcn [] (fcl rows) := fun z => hy (i7.mpr z)
              exact eels (Or.inr (by omega))
          | succ e IH =>
            intro i v7 v8 he e7 e8
            obtain ⟨p, r, j, h1, h2, h3, h4⟩ := hM.col (i := i) (by omega)
            have hj := h4.lt hN.2.2
            have hrw := row_le (j := i) (m := rows.length) (c := qr.length + 1) (by omega)
            obtain ⟨c1, c2, c3⟩ := h4.any hN.1
            have et : (fcl rows).take (i + 1) = (fcl rows).take i ++ [p] := by rw [List.take_succ, h2]; rfl
            refine bX10_isUseful_63 G _ h _ _ _ _ _ _ _ _ _ s5 ?_
            rw [nI_leI (by omega) (by omega)]
            refine ⟨fun z => by omega, fun _ => ⟨pa, w2, w3, ?_⟩⟩
            rw [nI_mul, nI_add, nI_cn (by omega), w5]
            refine ⟨vp_i (by omega) (by omega), ?_⟩
            rintro _ rfl
            rw [h3]
            refine ⟨fun hz => ?_, fun hz => ⟨vp_i (by omega) (by omega), ?_⟩⟩
            · have hp := c1.mp hz
              rintro _ rfl
              rw [nI_1]
              exact IH (i + 1) v7 v8 (by omega) (by rw [et, dcn_sn, if_pos (Or.inl hp)]; exact e7) (by rw [et, whl_sn, if_pos hp]; exact e8)
            · have hp : isN p = false := by
                cases e : isN p with
                | false => rfl
                | true => exact absurd (c1.mpr e) hz
              rintro _ rfl
              rw [nI_cn (by omega)]
              have := lp2 i j p v7 (aI h (gW G 1097) j) (by omega) h2 h4 hp e7 (c3 hp).2.1 (fun v7' v8' z1 z2 => IH (i + 1) v7' v8' (by omega) z1 z2) i 0 (by omega)
              exact this
        exact lp1 rows.length 0 _ _ (by omega) rfl rfl
      · -- a head
        have hs : isN s = false := by
          cases e : isN s with
          | false => rfl
          | true => exact absurd (a1.mpr e) z0
        obtain ⟨b1, b2', b3⟩ := a3 hs
        obtain ⟨al, l, σs, e1, -, -, -, -, e5, e6, -⟩ := sTy_N hms hs
        have el : sP s = l := by rw [e1, sP_N]
        have eus : us (n + 1) rows (s :: qr) = us n (rows.filterMap (rowF (sH s) l.length)) (l ++ qr) := by
          show (if rows.isEmpty = true then true else if isN s = false then us n (rows.filterMap (rowF (sH s) (sP s).length)) (sP s ++ qr) else _) = _
          rw [hne, hs, el]
          rfl
        have hF := pqr_F (hd := sH s) (n := l.length) rows
        have ep1 : psi rows (s :: qr) = qr.length + 1 + (pq s + pqs qr) + pqr rows := rfl
        have ep2 : psi (rows.filterMap (rowF (sH s) l.length)) (l ++ qr) = (l ++ qr).length + pqs (l ++ qr) + pqr (rows.filterMap (rowF (sH s) l.length)) := rfl
        have ep3 : pq s = l.length + pqs l := by rw [e1, pq_N]
        rw [List.length_append, pqs_ap] at ep2
        rw [eus]
        refine C.mono (c_for (hd := sH s) (al := al) (l := l) (qs := l) hS H k0 hN hM hQ h8 hfr (by rw [← e1]; exact siq) e5 e6 (by rw [rowF_c, hs, if_neg (by decide), if_pos rfl, el]) rfl (by omega) hB hn hT hTq hf) ?_
        rintro _ h3 ⟨rfl, P⟩
        exact KI.i ⟨b2_01 _, rfl, P⟩
end
