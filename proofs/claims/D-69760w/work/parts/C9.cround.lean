/-! THE COMPONENT'S READER: round brackets -/
section
variable {G : Gh} {d : Nat} {h hb h0 h1 h2 h3 h4 h' : AH} {ts : List (Nat × Nat × Nat)} {s s1 s2 s4 : St} {D D0 k i q a b t r n m p arr so be L g : Nat} {s0 : St} {N N' : Nat → Prop} {E : String} {x y e p0 : Tr} {l vs : List Tr} {bs : List Nat} {sl : List Int32} {P : Nat → Nat → St → Except Nat (Tr × St)} {R : Except Nat (Tr × St)}
theorem mkRound_2 (hl : l ≠ []) : mkRound g t e l = n1 (if g = 44 then 8 else 9) t (ls (e :: l)) := by
  cases l with
  | nil => exact absurd rfl hl
  | cons a r => rfl
theorem cround_62 (ht : t < 5000) (hg3 : g < 300) (he : CH G d ts (D + 1) "LetMill$Exp" mX12_exp [] (P 0 (D + 1))) (pb : KP h hb) (hB : un h + 200 * (ts.length - t) + 100 ≤ UB) :
    ∀ f (s : St) l' bs n h1 R, ts.length - s.1 < f → RB G hb h1 ts "LetMill$Exp" (e :: l') r bs n → CS G h1 ts (D + 1) s → t < s.1 → bs.length ≤ s.1 → (l' = [] → Kd ts s.1 = g) → (l' ≠ [] → g = 44 ∨ g = 59) → (g = 44 → bs.length ≤ 6) → un h1 + (12 * bs.length - 6 * n) + 100 + bs.length ≤ un h + 200 * (s.1 - t) →
    R = bd (pMore (pSame (Kd ts) g (D + 1)) (P 0 (D + 1)) (if g = 44 then 6 else 0) f bs.length s) (fun r s2 => bd (pExpect (Kd ts) 41 D s2) fun _ s3 => .ok (mkRound g t e (l' ++ r), s3)) →
    X G mX12_round (d + 17) none [] 62 [(0, .ref (gW G 7)), (1, .int (nI t)), (3, .ref r), (4, .int (nI g))] [] h1 (cP G h ts D t "LetMill$Exp" R) := by
  intro f
  induction f with
  | zero => intro s l' bs n h1 R hf; omega
  | succ f IH =>
    intro s l' bs n h1 R hf k c hts hbs hfst hln hb6 hU hR
    have hl := c.len
    have hsl := c.2.2.2.1.2
    have hk := c.k4 hsl
    have hlen : l'.length + 1 = bs.length := k.2.2.2.1.1
    rw [pMore_b] at hR
    have go76 : (g = 44 ∨ g = 59) → X G mX12_round (d + 17) none [] 76 [(0, .ref (gW G 7)), (1, .int (nI t)), (3, .ref r), (4, .int (nI g))] [] h1 (cP G h ts D t "LetMill$Exp" R) := by
      intro hg
      refine bX12_round_76 G (d + 16) h1 _ _ _ _ (c.1.at (by decide)) (C.ri (c_kind c) ?_)
      simp only [show (44 : Int32) = nI 44 from rfl, show (nI g = nI 44) = (g = 44) from propext (nI_eq (by omega) (by decide)), show (nI (Kd ts s.1) = nI g) = (Kd ts s.1 = g) from propext (nI_eq (by omega) (by omega))]
      rw [show pSame (Kd ts) g (D + 1) s = if (g = 44 ∨ g = 59) ∧ Kd ts s.1 = g then bd (pTake (Kd ts) (D + 1) s) fun _ s => .ok (true, s) else .ok (false, s) from rfl] at hR
      refine ⟨fun z => ?_, fun z => ?_⟩
      · rw [if_pos ⟨hg, z⟩, bd_assoc] at hR
        refine ⟨fun z4 => ⟨k.2.1.1, ?_⟩, fun z4 => ?_⟩
        · rw [k.2.1.2.1, show (6 : Int32) = nI 6 from rfl, nI_eq (by omega) (by decide)]
          refine ⟨fun z6 => ?_, fun z6 => ?_⟩
          · have eR : R = .error s.1 := by
              cases hr : pTake (Kd ts) (D + 1) s with
              | error e =>
                rw [hr] at hR
                have := pTake_er hr
                subst this
                exact hR
              | ok y =>
                obtain ⟨t', s1⟩ := y
                obtain ⟨-, es, -⟩ := pTake_ok hr
                rw [hr, bd_ok, bd_ok, if_pos rfl, if_pos (by rw [if_pos z4]; exact z6)] at hR
                rw [hR, es]
                rfl
            refine C.mono (c_wrong (d := d + 10) c (by omega)) ?_
            rintro _ h3 ⟨a, rfl, p3, f, u⟩
            rw [eR]
            exact KR.i (cP.er ((pb.tr k.1).tr p3) f (by omega))
          · skip
            refine C.mono (c_ctake (d := d + 9) c (by omega)) ?_
            rintro o h2 ⟨p2, q2⟩
            have pk2 := (pb.tr k.1).tr p2
            cases hr2 : pTake (Kd ts) (D + 1) s with
            | error e =>
              rw [hr2] at q2 hR
              obtain ⟨a, rfl, f, u⟩ := q2
              change R = .error e at hR
              rw [hR]
              exact KI.t (cP.er pk2 f (by omega))
            | ok y2 =>
            obtain ⟨x2, s2⟩ := y2
            rw [hr2] at q2 hR
            rw [bd_ok] at hR
            obtain ⟨rfl, c2, u2⟩ := q2
            have sl2 := c2.2.2.2.1.2
            refine KI.i ?_
            obtain ⟨-, est, -⟩ := pTake_ok hr2
            have es2 : s2.1 = s.1 + 1 := by rw [est]
            rw [bd_ok, if_pos rfl, if_neg (by rw [if_pos z4]; exact z6)] at hR
            refine C.mono (he h2 s2 c2 (by omega)) ?_
            rintro o h3 ⟨p3, q3⟩
            have pk3 := (pk2).tr p3
            cases hr3 : P 0 (D + 1) s2 with
            | error e =>
              rw [hr3] at q3 hR
              obtain ⟨a, rfl, f, u⟩ := q3
              change R = .error e at hR
              rw [hR]
              exact KR.t (cP.er pk3 f (by omega))
            | ok y3 =>
            obtain ⟨x3, s3⟩ := y3
            rw [hr3] at q3 hR
            rw [bd_ok] at hR
            obtain ⟨b3, rfl, c3, ot3, ct3, hs3, u3⟩ := q3
            have sl3 := c3.2.2.2.1.2
            refine KR.i ?_
            refine C.mono (r_add (d := d + 14) k (p2.tr p3) c3 (ot3.wk fun a ha => p2.fresh ha) ct3 (by omega) (Nat.le_refl _) (by omega)) ?_
            rintro _ h4 ⟨rfl, c4, n', k4, u4⟩
            refine KV.i (IH s3 (l' ++ [x3]) (bs ++ [b3]) n' h4 R (by omega) k4 c4 (by omega) (by simp; omega) (fun q => by simp at q) (fun _ => hg) (fun q => by have := hb6 q; simp; omega) (by simp; omega) ?_)
            rw [hR]
            simp only [List.length_append, List.length_cons, List.length_nil, List.append_assoc, List.singleton_append]
        · skip
          refine C.mono (c_ctake (d := d + 9) c (by omega)) ?_
          rintro o h2 ⟨p2, q2⟩
          have pk2 := (pb.tr k.1).tr p2
          cases hr2 : pTake (Kd ts) (D + 1) s with
          | error e =>
            rw [hr2] at q2 hR
            obtain ⟨a, rfl, f, u⟩ := q2
            change R = .error e at hR
            rw [hR]
            exact KI.t (cP.er pk2 f (by omega))
          | ok y2 =>
          obtain ⟨x2, s2⟩ := y2
          rw [hr2] at q2 hR
          rw [bd_ok] at hR
          obtain ⟨rfl, c2, u2⟩ := q2
          have sl2 := c2.2.2.2.1.2
          refine KI.i ?_
          obtain ⟨-, est, -⟩ := pTake_ok hr2
          have es2 : s2.1 = s.1 + 1 := by rw [est]
          rw [bd_ok, if_pos rfl, if_neg (by rw [if_neg z4]; omega)] at hR
          refine C.mono (he h2 s2 c2 (by omega)) ?_
          rintro o h3 ⟨p3, q3⟩
          have pk3 := (pk2).tr p3
          cases hr3 : P 0 (D + 1) s2 with
          | error e =>
            rw [hr3] at q3 hR
            obtain ⟨a, rfl, f, u⟩ := q3
            change R = .error e at hR
            rw [hR]
            exact KR.t (cP.er pk3 f (by omega))
          | ok y3 =>
          obtain ⟨x3, s3⟩ := y3
          rw [hr3] at q3 hR
          rw [bd_ok] at hR
          obtain ⟨b3, rfl, c3, ot3, ct3, hs3, u3⟩ := q3
          have sl3 := c3.2.2.2.1.2
          refine KR.i ?_
          refine ⟨(k.kp (p2.tr p3)).2.1.1, C.mono (r_add (d := d + 14) k (p2.tr p3) c3 (ot3.wk fun a ha => p2.fresh ha) ct3 (by omega) (Nat.le_refl _) (by omega)) ?_⟩
          rintro _ h4 ⟨rfl, c4, n', k4, u4⟩
          refine KV.i (IH s3 (l' ++ [x3]) (bs ++ [b3]) n' h4 R (by omega) k4 c4 (by omega) (by simp; omega) (fun q => by simp at q) (fun _ => hg) (fun q => by have := hb6 q; simp; omega) (by simp; omega) ?_)
          rw [hR]
          simp only [List.length_append, List.length_cons, List.length_nil, List.append_assoc, List.singleton_append]
      · rw [if_neg (fun q => z q.2), bd_ok, if_neg (by decide), List.append_nil] at hR
        have hne : l' ≠ [] := fun e => z (hfst e)
        have hl2 : 1 ≤ l'.length := by
          cases l' with
          | nil => exact absurd rfl hne
          | cons a r => simp
        intro h5 e5
        obtain ⟨c5, p5, u5⟩ := c.dns e5
        refine C.mono (c_cexpect (d := d + 8) (w := 41) c5 (by decide) (by omega)) ?_
        rintro o h6 ⟨p6, q6⟩
        have pk6 := ((pb.tr k.1).tr p5).tr p6
        cases hr6 : pExpect (Kd ts) 41 D s with
        | error e =>
          rw [hr6] at q6 hR
          obtain ⟨a, rfl, f, u⟩ := q6
          change R = .error e at hR
          rw [hR]
          exact KI.t (cP.er pk6 f (by omega))
        | ok y6 =>
        obtain ⟨x6, s6⟩ := y6
        rw [hr6] at q6 hR
        rw [bd_ok] at hR
        obtain ⟨rfl, c6, u6⟩ := q6
        have sl6 := c6.2.2.2.1.2
        refine KI.i ?_
        obtain ⟨-, es6⟩ := pExpect_ok hr6
        have k6 := k.kp (p5.tr p6)
        rw [mkRound_2 hne] at hR
        refine ⟨k6.2.1.1, ?_⟩
        rw [k6.2.1.2.1, show (1 : Int32) = nI 1 from rfl, nI_eq (by omega) (by decide)]
        refine ⟨fun z1 => by omega, fun _ => ⟨fun z4 => ?_, fun z4 => ?_⟩⟩
        · rw [if_pos z4] at hR
          exact parts_end (fun h a v hk => c_X41 (d := d + 13) hk) (Or.inl ⟨rfl, rfl⟩) ht pb k6 c6 (by omega) (by omega) (by omega) hR
        · rw [if_neg z4] at hR
          exact parts_end (fun h a v hk => c_X42 (d := d + 13) hk) (Or.inr (Or.inl ⟨rfl, rfl⟩)) ht pb k6 c6 (by omega) (by omega) (by omega) hR
    refine bX12_round_62 G (d + 16) h1 _ _ _ _ (c.1.at (by decide)) ?_
    simp only [show (44 : Int32) = nI 44 from rfl, show (59 : Int32) = nI 59 from rfl, show (nI g = nI 44) = (g = 44) from propext (nI_eq (by omega) (by decide)), show (nI g = nI 59) = (g = 59) from propext (nI_eq (by omega) (by decide))]
    refine ⟨fun z => go76 (Or.inl z), fun z4 => ⟨fun z => go76 (Or.inr z), fun z5 => ?_⟩⟩
    have hl0 : l' = [] := Classical.byContradiction fun hn => (hln hn).elim z4 z5
    subst hl0
    rw [show pSame (Kd ts) g (D + 1) s = if (g = 44 ∨ g = 59) ∧ Kd ts s.1 = g then bd (pTake (Kd ts) (D + 1) s) fun _ s => .ok (true, s) else .ok (false, s) from rfl] at hR
    rw [if_neg (fun q => q.1.elim z4 z5), bd_ok, if_neg (by decide)] at hR
    intro h5 e5
    obtain ⟨c5, p5, u5⟩ := c.dns e5
    refine C.mono (c_cexpect (d := d + 8) (w := 41) c5 (by decide) (by omega)) ?_
    rintro o h6 ⟨p6, q6⟩
    have pk6 := ((pb.tr k.1).tr p5).tr p6
    cases hr6 : pExpect (Kd ts) 41 D s with
    | error e =>
      rw [hr6] at q6 hR
      obtain ⟨a, rfl, f, u⟩ := q6
      change R = .error e at hR
      rw [hR]
      exact KI.t (cP.er pk6 f (by omega))
    | ok y6 =>
    obtain ⟨x6, s6⟩ := y6
    rw [hr6] at q6 hR
    rw [bd_ok] at hR
    obtain ⟨rfl, c6, u6⟩ := q6
    have sl6 := c6.2.2.2.1.2
    refine KI.i ?_
    obtain ⟨-, es6⟩ := pExpect_ok hr6
    have k6 := k.kp (p5.tr p6)
    refine ⟨k6.2.1.1, ?_⟩
    rw [k6.2.1.2.1, show (1 : Int32) = nI 1 from rfl, nI_eq (by omega) (by decide)]
    refine ⟨fun _ => ?_, fun z1 => absurd (show bs.length = 1 from hlen.symm) z1⟩
    cases bs with
    | nil => simp at hlen
    | cons b0 bs =>
    have hrm := un_rm (n := 3) (h := h6) (by omega)
    refine ⟨hrm.1, hrm.2, fun q hq => ?_⟩
    intro h7 e7
    obtain ⟨c7, p7, u7, hk7⟩ := nws_st c6 hq e7
    have e36 : (ftab 36).length = 3 := by decide
    rw [e36] at u7
    have k7 := k6.kp p7
    rw [show (0 : Int32) = nI 0 from rfl]
    refine C.mono (c_rexp (d := d + 15) (i := 0) k7.2.1 (show (b0 :: bs)[0]? = some b0 from rfl) (k7.2.2.2.2 b0 (List.mem_cons_self ..))) ?_
    rintro _ _ ⟨rfl, rfl⟩
    refine KR.i (C.mono (c_X39 (d := d + 14) hk7) ?_)
    rintro _ h8 ⟨rfl, e8⟩
    rw [e7] at e8
    have w : WQ q (nO h6 q 36) h8 := by rw [e8]; exact WQ.rf.eI.pR
    have f0 : fI h8 q 296 = nI t := by rw [e8, fI_pR, fI_eI]
    have f1 : fR h8 q 332 = some b0 := by rw [e8, fR_pR, if_pos ⟨rfl, rfl⟩]
    have hk8 : hK h8 q = 37 := by rw [w.2.1.1, hK_nO, if_pos rfl]
    have k8 := k6.kp (w.kp (KP.rf.nO hq) hq)
    have oe : OT ts (fun a => hK h a = 0) h8 e 0 0 b0 := (k8.tl0.cons.1).wk fun a ha => pb.fresh ha
    have lv := oe.live (m := 0)
    rw [hR]
    exact KV.i (fin_nd pk6 c6 hq w (OT_ndg (k := 19) (pk6.fresh hq) (by rw [hk8]; decide) (EX_pl (by decide) ht (by rw [hk8]; exact f0)) (OT_l1 (m := 6) (g := 0) (by decide) (by decide) (OT_og (by decide) (by unfold og; rw [if_neg (by decide), if_neg (by decide), if_neg (by decide), if_neg (by decide), if_pos rfl, hk8, if_neg (by decide)]; exact f1) oe)) (by decide) (fun _ => ⟨b0, lv.2, lv.1, by rw [hk8, if_neg (by decide)]; exact f1, Or.inr ⟨hk8, exp_kind (k8.2.2.2.2 b0 (List.mem_cons_self ..))⟩⟩)) (CT_exp hk8 (by decide)) (by omega) (by rw [e36]; omega))
/-- behind an open bracket -/
theorem c_cround (he : D ≤ 30 → CH G d ts (D + 1) "LetMill$Exp" mX12_exp [] (P 0 (D + 1))) : ∀ (h : AH) (s : St), CS G h ts D s → un h + 200 * (ts.length - s.1) + 100 ≤ UB → C G mX12_round (d + 17) [.ref (gW G 7), .int (nI s.1)] h (cP G h ts D s.1 "LetMill$Exp" (bd (pTake (Kd ts) D s) fun t s' => pRound (Kd ts) P t D s')) := by
  intro h s c hu
  have hl := c.len
  have hsl := c.2.2.2.1.2
  obtain ⟨R, hR⟩ : ∃ R, R = bd (pTake (Kd ts) D s) fun t s' => pRound (Kd ts) P t D s' := ⟨_, rfl⟩
  rw [← hR]
  refine bX12_round G (d + 16) h _ _ (c.1.at (by decide)) ?_
  refine C.mono (c_ctake (d := d + 9) c (by omega)) ?_
  rintro o h1 ⟨p1, q1⟩
  have pk1 := (KP.rf).tr p1
  cases hr1 : pTake (Kd ts) D s with
  | error e =>
    rw [hr1] at q1 hR
    obtain ⟨a, rfl, f, u⟩ := q1
    change R = .error e at hR
    rw [hR]
    exact KI.t (cP.er pk1 f (by omega))
  | ok y1 =>
  obtain ⟨x1, s1⟩ := y1
  rw [hr1] at q1 hR
  rw [bd_ok] at hR
  obtain ⟨rfl, c1, u1⟩ := q1
  have sl1 := c1.2.2.2.1.2
  refine KI.i ?_
  obtain ⟨et, es, -⟩ := pTake_ok hr1
  have hd := pTake_le hr1
  have es1 : s1.1 = s.1 + 1 := by rw [es]
  subst et
  unfold pRound at hR
  refine C.ri (c_kind c1) ?_
  rw [show (41 : Int32) = nI 41 from rfl, kd_E c1 (by decide)]
  refine ⟨fun z => ?_, fun z => ?_⟩
  · rw [if_pos z] at hR
    refine C.mono (c_ctake (d := d + 9) c1 (by omega)) ?_
    rintro o h2 ⟨p2, q2⟩
    have pk2 := (pk1).tr p2
    cases hr2 : pTake (Kd ts) D s1 with
    | error e =>
      rw [hr2] at q2 hR
      obtain ⟨a, rfl, f, u⟩ := q2
      change R = .error e at hR
      rw [hR]
      exact KI.t (cP.er pk2 f (by omega))
    | ok y2 =>
    obtain ⟨x2, s2⟩ := y2
    rw [hr2] at q2 hR
    rw [bd_ok] at hR
    obtain ⟨rfl, c2, u2⟩ := q2
    have sl2 := c2.2.2.2.1.2
    refine KI.i ?_
    obtain ⟨-, est, -⟩ := pTake_ok hr2
    have es2 : s2.1 = s1.1 + 1 := by rw [est]
    have hrm := un_rm (n := 4) (h := h2) (by omega)
    refine ⟨hrm.1, hrm.2, fun q hq => ?_⟩
    rintro _ rfl
    refine C.mono (c_X37 (d := d + 14) (by rw [hK_nO, if_pos rfl])) ?_
    rintro _ h3 ⟨rfl, e3⟩
    have w : WQ q (nO h2 q 34) h3 := by rw [e3]; exact WQ.rf.eI.pI.pI
    have hk3 : hK h3 q = 35 := by rw [w.2.1.1, hK_nO, if_pos rfl]
    have f0 : fI h3 q 296 = nI s.1 := by rw [e3, fI_pI, if_neg (fun e => absurd e.2 (by decide)), fI_pI, if_neg (fun e => absurd e.2 (by decide)), fI_eI]
    have f1 : fI h3 q 329 = 2 := by rw [e3, fI_pI, if_neg (fun e => absurd e.2 (by decide)), fI_pI, if_pos ⟨rfl, rfl⟩]
    have f2 : fI h3 q 330 = 0 := by rw [e3, fI_pI, if_pos ⟨rfl, rfl⟩]
    have e34 : (ftab 34).length = 4 := by decide
    rw [hR]
    exact KV.i (fin_nd pk2 c2 hq w (OT_nd0 (k := 5) (pk2.fresh hq) (by rw [hk3]; decide) (EX_un (by omega) (by rw [hk3]; exact f0) f1 f2) (by decide)) (CT_exp hk3 (by decide)) (by omega) (by rw [e34]; omega))
  · rw [if_neg z] at hR
    intro h2 e2
    obtain ⟨c2, p2, u2⟩ := c1.ups (by omega) e2
    have hrm := un_rm (n := 2) (h := h2) (by omega)
    refine ⟨hrm.1, hrm.2, fun r hr => ?_⟩
    rintro _ rfl
    refine C.mono (r_row (d := d + 15) (E := "LetMill$Exp") c2 KP.rf hr (by omega)) ?_
    rintro _ h3 ⟨rfl, k3, c3, u3, p3, -⟩
    refine KV.i ?_
    refine C.mono (he hd h3 s1 c3 (by omega)) ?_
    rintro o h4 ⟨p4, q4⟩
    have pk4 := ((pk1.tr p2).tr p3).tr p4
    cases hr4 : P 0 (D + 1) s1 with
    | error e =>
      rw [hr4] at q4 hR
      obtain ⟨a, rfl, f, u⟩ := q4
      change R = .error e at hR
      rw [hR]
      exact KR.t (cP.er pk4 f (by omega))
    | ok y4 =>
    obtain ⟨x4, s4⟩ := y4
    rw [hr4] at q4 hR
    rw [bd_ok] at hR
    obtain ⟨b4, rfl, c4, ot4, ct4, hs4, u4⟩ := q4
    have sl4 := c4.2.2.2.1.2
    refine KR.i ?_
    refine C.mono (r_add (d := d + 14) k3 p4 c4 ot4 ct4 (by simp) (Nat.le_refl _) (by simp; omega)) ?_
    rintro _ h5 ⟨rfl, c5, n', k5, u5⟩
    refine KV.i (C.ri (c_kind c5) ?_)
    have hk4 := c4.k4 sl4
    exact cround_62 (by omega) hk4 (he hd) (pk1.tr p2) hu FU s4 [] [b4] n' h5 R (by unfold FU; omega) k5 c5 (by omega) (by simp; omega) (fun _ => rfl) (fun q => absurd rfl q) (fun _ => by simp) (by simp at u5 ⊢; omega) hR
end
