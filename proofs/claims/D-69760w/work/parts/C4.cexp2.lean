/-! THE COMPONENT'S READER: expressions -/
section
variable {G : Gh} {d : Nat} {h h0 h1 h2 h3 h4 h' : AH} {ts : List (Nat × Nat × Nat)} {s s1 s2 s4 : St} {D k i q a b t r n p arr : Nat} {N N' : Nat → Prop} {E : String} {x y e p0 : Tr} {l vs : List Tr} {bs : List Nat} {P : Nat → Nat → St → Except Nat (Tr × St)}
theorem OT.wkm {m : Nat} (hN : ∀ a, N a → N' a) (hi : i < 115 ∨ 118 < i) (k : OT ts N h x m i a) : OT ts N' h x m i a := OT.mv (fun a ha _ => ⟨Uk.rf, hN a ha⟩) x m i a (Or.inr Uk.rf) (fun _ => hi) (fun _ => rfl) (fun _ _ => rfl) k
theorem kd_E (c : CS G h ts D s) {k : Nat} (hk : k < 300) : (nI (Kd ts s.1) = nI k) = (Kd ts s.1 = k) := by
  have := c.k4 c.2.2.2.1.2
  exact propext (nI_eq (by omega) (by omega))
theorem c_cexp (hlv : CH G (d + 1) ts D "LetMill$Exp" mX12_level [.int (nI 1)] (P 11 D)) (he1 : D ≤ 30 → CH G (d + 1) ts (D + 1) "LetMill$Exp" mX12_exp [] (P 0 (D + 1))) (hem : D ≤ 30 → CH G d ts (D + 1) "LetMill$Exp" mX12_exp [] (P 0 (D + 1))) (hpm : D ≤ 30 → CH G d ts (D + 1) "LetMill$Pat" mX12_pat [] (P 1 (D + 1))) : CH G (d + 2) ts D "LetMill$Exp" mX12_exp [] (pExp (Kd ts) P D) := by
  intro h s c hu
  have hl := c.len
  have hsl := c.2.2.2.1.2
  refine bX12_exp G (d + 17) h _ (c.1.at (by decide)) ?_
  rintro _ rfl
  rw [c.2.2.2.1.1]
  refine C.ri (c_kind c) ?_
  obtain ⟨R, hR⟩ : ∃ R, R = pExp (Kd ts) P D s := ⟨_, rfl⟩
  rw [← hR]
  rw [show (257 : Int32) = nI 257 from rfl, show (262 : Int32) = nI 262 from rfl, show (264 : Int32) = nI 264 from rfl, kd_E c (by decide), kd_E c (by decide), kd_E c (by decide)]
  unfold pExp at hR
  refine ⟨fun z => ?_, fun z => ?_, fun z => ?_, fun z => ?_⟩
  · rw [if_neg (by omega), if_pos z] at hR
    refine C.mono (c_ctake (d := d + 10) c (by omega)) ?_
    rintro o h1 ⟨p1, q1⟩
    have pk1 := (KP.rf).tr p1
    cases hr1 : pTake (Kd ts) D s with
    | error e =>
      rw [hr1] at q1 hR
      obtain ⟨a, rfl, f, u⟩ := q1
      change R = .error e at hR
      rw [hR]
      exact KI.t (cP.er pk1 f (by omega))
    | ok y1 =>
    obtain ⟨x1, s1⟩ := y1
    rw [hr1] at q1 hR
    rw [bd_ok] at hR
    obtain ⟨rfl, c1, u1⟩ := q1
    have sl1 := c1.2.2.2.1.2
    refine KI.i ?_
    obtain ⟨et, es, -⟩ := pTake_ok hr1
    have hd := pTake_le hr1
    have es1 : s1.1 = s.1 + 1 := by rw [es]
    intro h2 e2
    obtain ⟨c2, p2, u2⟩ := c1.ups (by omega) e2
    refine C.mono (he1 hd h2 s1 c2 (by omega)) ?_
    rintro o h3 ⟨p3, q3⟩
    have pk3 := (pk1.tr p2).tr p3
    cases hr3 : P 0 (D + 1) s1 with
    | error e =>
      rw [hr3] at q3 hR
      obtain ⟨a, rfl, f, u⟩ := q3
      change R = .error e at hR
      rw [hR]
      exact KR.t (cP.er pk3 f (by omega))
    | ok y3 =>
    obtain ⟨x3, s3⟩ := y3
    rw [hr3] at q3 hR
    rw [bd_ok] at hR
    obtain ⟨b3, rfl, c3, ot3, ct3, hs3, u3⟩ := q3
    have sl3 := c3.2.2.2.1.2
    refine KR.i ?_
    refine C.mono (c_cexpect (d := d + 9) (w := 268) c3 (by decide) (by omega)) ?_
    rintro o h4 ⟨p4, q4⟩
    have pk4 := (pk3).tr p4
    cases hr4 : pExpect (Kd ts) 268 (D + 1) s3 with
    | error e =>
      rw [hr4] at q4 hR
      obtain ⟨a, rfl, f, u⟩ := q4
      change R = .error e at hR
      rw [hR]
      exact KI.t (cP.er pk4 f (by omega))
    | ok y4 =>
    obtain ⟨x4, s4⟩ := y4
    rw [hr4] at q4 hR
    rw [bd_ok] at hR
    obtain ⟨rfl, c4, u4⟩ := q4
    have sl4 := c4.2.2.2.1.2
    refine KI.i ?_
    obtain ⟨-, es4⟩ := pExpect_ok hr4
    refine C.mono (c_cmatch (hpm hd) (hem hd) c4 (by omega)) ?_
    rintro o h5 ⟨p5, q5⟩
    have pk5 := (pk4).tr p5
    cases hr5 : pMatch (Kd ts) P (D + 1) s4 with
    | error e =>
      rw [hr5] at q5 hR
      obtain ⟨a, rfl, f, u⟩ := q5
      change R = .error e at hR
      rw [hR]
      exact KR.t (cP.er pk5 f (by omega))
    | ok y5 =>
    obtain ⟨x5, s5⟩ := y5
    rw [hr5] at q5 hR
    rw [bd_ok] at hR
    obtain ⟨b5, bs5, n5, rfl, c5, k5, hs5, u5⟩ := q5
    have sl5 := c5.2.2.2.1.2
    refine KR.i ?_
    intro h6 e6
    obtain ⟨c6, p6, u6⟩ := c5.dns e6
    have hrm := un_rm (n := 4) (h := h6) (by omega)
    refine ⟨hrm.1, hrm.2, fun q hq => ?_⟩
    rintro _ rfl
    refine C.mono (c_X33 (d := d + 15) (by rw [hK_nO, if_pos rfl])) ?_
    rintro _ h7 ⟨rfl, e7⟩
    have w : WQ q (nO h6 q 30) h7 := by rw [e7]; exact WQ.rf.eI.pR.pR
    have hk7 : hK h7 q = 31 := by rw [w.2.1.1, hK_nO, if_pos rfl]
    have f0 : fI h7 q 296 = nI s.1 := by rw [e7, fI_pR, fI_pR, fI_eI]
    have f1 : fR h7 q 321 = some b3 := by rw [e7, fR_pR, if_neg (fun e => absurd e.2 (by decide)), fR_pR, if_pos ⟨rfl, rfl⟩]
    have f2 : fR h7 q 322 = some b5 := by rw [e7, fR_pR, if_pos ⟨rfl, rfl⟩]
    have p67 : KP h6 h7 := w.kp (KP.rf.nO hq) hq
    have pA := pk5.tr p6
    have o3 : OT ts (fun a => hK h a = 0) h7 x3 0 0 b3 := (ot3.kp (p4.tr (p5.tr (p6.tr p67)))).wk fun a ha => (pk1.tr p2).fresh ha
    have o5 : OT ts (fun a => hK h a = 0) h7 (ls x5) 22 322 q := ((k5.kp (p6.tr p67)).row f2).wkm (fun a ha => pk4.fresh ha) (by decide)
    have e30 : (ftab 30).length = 4 := by decide
    rw [hR, et]
    exact KV.i (fin_nd pA c6 hq w (OT_nd (k := 13) (pA.fresh hq) (by rw [hk7]; decide) (EX_pl (by decide) (by omega) (by rw [hk7]; exact f0)) (OT_c2 (by decide) (by decide) (OT_f f1 o3) ((OT_ef (m' := 22) (i' := 322) (by decide) (by decide)).mpr o5)) (by decide)) (CT_exp hk7 (by decide)) (by omega) (by rw [e30]; omega))
  · rw [if_pos z] at hR
    refine C.mono (c_ctake (d := d + 10) c (by omega)) ?_
    rintro o h1 ⟨p1, q1⟩
    have pk1 := (KP.rf).tr p1
    cases hr1 : pTake (Kd ts) D s with
    | error e =>
      rw [hr1] at q1 hR
      obtain ⟨a, rfl, f, u⟩ := q1
      change R = .error e at hR
      rw [hR]
      exact KI.t (cP.er pk1 f (by omega))
    | ok y1 =>
    obtain ⟨x1, s1⟩ := y1
    rw [hr1] at q1 hR
    rw [bd_ok] at hR
    obtain ⟨rfl, c1, u1⟩ := q1
    have sl1 := c1.2.2.2.1.2
    refine KI.i ?_
    obtain ⟨et, es, -⟩ := pTake_ok hr1
    have hd := pTake_le hr1
    have es1 : s1.1 = s.1 + 1 := by rw [es]
    intro h2 e2
    obtain ⟨c2, p2, u2⟩ := c1.ups (by omega) e2
    refine C.mono (c_cmatch (hpm hd) (hem hd) c2 (by omega)) ?_
    rintro o h5 ⟨p5, q5⟩
    have pk5 := (pk1.tr p2).tr p5
    cases hr5 : pMatch (Kd ts) P (D + 1) s1 with
    | error e =>
      rw [hr5] at q5 hR
      obtain ⟨a, rfl, f, u⟩ := q5
      change R = .error e at hR
      rw [hR]
      exact KR.t (cP.er pk5 f (by omega))
    | ok y5 =>
    obtain ⟨x5, s5⟩ := y5
    rw [hr5] at q5 hR
    rw [bd_ok] at hR
    obtain ⟨b5, bs5, n5, rfl, c5, k5, hs5, u5⟩ := q5
    have sl5 := c5.2.2.2.1.2
    refine KR.i ?_
    intro h6 e6
    obtain ⟨c6, p6, u6⟩ := c5.dns e6
    have hrm := un_rm (n := 4) (h := h6) (by omega)
    refine ⟨hrm.1, hrm.2, fun q hq => ?_⟩
    rintro _ rfl
    refine C.mono (c_X32 (d := d + 15) (by rw [hK_nO, if_pos rfl])) ?_
    rintro _ h7 ⟨rfl, e7⟩
    have w : WQ q (nO h6 q 29) h7 := by rw [e7]; exact WQ.rf.eI.pR
    have hk7 : hK h7 q = 30 := by rw [w.2.1.1, hK_nO, if_pos rfl]
    have f0 : fI h7 q 296 = nI s.1 := by rw [e7, fI_pR, fI_eI]
    have f2 : fR h7 q 319 = some b5 := by rw [e7, fR_pR, if_pos ⟨rfl, rfl⟩]
    have p67 : KP h6 h7 := w.kp (KP.rf.nO hq) hq
    have pA := pk5.tr p6
    have o5 : OT ts (fun a => hK h a = 0) h7 (ls x5) 22 319 q := ((k5.kp (p6.tr p67)).row f2).wkm (fun a ha => (pk1.tr p2).fresh ha) (by decide)
    have e30 : (ftab 29).length = 4 := by decide
    rw [hR, et]
    exact KV.i (fin_nd pA c6 hq w (OT_nd (k := 12) (pA.fresh hq) (by rw [hk7]; decide) (EX_pl (by decide) (by omega) (by rw [hk7]; exact f0)) (OT_l1 (m := 22) (g := 319) (by decide) (by decide) o5) (by decide)) (CT_exp hk7 (by decide)) (by omega) (by rw [e30]; omega))
  · rw [if_neg (by omega), if_neg (by omega), if_pos z] at hR
    refine C.mono (c_ctake (d := d + 10) c (by omega)) ?_
    rintro o h1 ⟨p1, q1⟩
    have pk1 := (KP.rf).tr p1
    cases hr1 : pTake (Kd ts) D s with
    | error e =>
      rw [hr1] at q1 hR
      obtain ⟨a, rfl, f, u⟩ := q1
      change R = .error e at hR
      rw [hR]
      exact KI.t (cP.er pk1 f (by omega))
    | ok y1 =>
    obtain ⟨x1, s1⟩ := y1
    rw [hr1] at q1 hR
    rw [bd_ok] at hR
    obtain ⟨rfl, c1, u1⟩ := q1
    have sl1 := c1.2.2.2.1.2
    refine KI.i ?_
    obtain ⟨et, es, -⟩ := pTake_ok hr1
    have hd := pTake_le hr1
    have es1 : s1.1 = s.1 + 1 := by rw [es]
    intro h2 e2
    obtain ⟨c2, p2, u2⟩ := c1.ups (by omega) e2
    refine C.mono (he1 hd h2 s1 c2 (by omega)) ?_
    rintro o h3 ⟨p3, q3⟩
    have pk3 := (pk1.tr p2).tr p3
    cases hr3 : P 0 (D + 1) s1 with
    | error e =>
      rw [hr3] at q3 hR
      obtain ⟨a, rfl, f, u⟩ := q3
      change R = .error e at hR
      rw [hR]
      exact KR.t (cP.er pk3 f (by omega))
    | ok y3 =>
    obtain ⟨x3, s3⟩ := y3
    rw [hr3] at q3 hR
    rw [bd_ok] at hR
    obtain ⟨b3, rfl, c3, ot3, ct3, hs3, u3⟩ := q3
    have sl3 := c3.2.2.2.1.2
    refine KR.i ?_
    refine C.mono (c_cexpect (d := d + 9) (w := 271) c3 (by decide) (by omega)) ?_
    rintro o h4 ⟨p4, q4⟩
    have pk4 := (pk3).tr p4
    cases hr4 : pExpect (Kd ts) 271 (D + 1) s3 with
    | error e =>
      rw [hr4] at q4 hR
      obtain ⟨a, rfl, f, u⟩ := q4
      change R = .error e at hR
      rw [hR]
      exact KI.t (cP.er pk4 f (by omega))
    | ok y4 =>
    obtain ⟨x4, s4⟩ := y4
    rw [hr4] at q4 hR
    rw [bd_ok] at hR
    obtain ⟨rfl, c4, u4⟩ := q4
    have sl4 := c4.2.2.2.1.2
    refine KI.i ?_
    obtain ⟨-, es4⟩ := pExpect_ok hr4
    refine C.mono (he1 hd h4 s4 c4 (by omega)) ?_
    rintro o h5 ⟨p5, q5⟩
    have pk5 := (pk4).tr p5
    cases hr5 : P 0 (D + 1) s4 with
    | error e =>
      rw [hr5] at q5 hR
      obtain ⟨a, rfl, f, u⟩ := q5
      change R = .error e at hR
      rw [hR]
      exact KR.t (cP.er pk5 f (by omega))
    | ok y5 =>
    obtain ⟨x5, s5⟩ := y5
    rw [hr5] at q5 hR
    rw [bd_ok] at hR
    obtain ⟨b5, rfl, c5, ot5, ct5, hs5, u5⟩ := q5
    have sl5 := c5.2.2.2.1.2
    refine KR.i ?_
    refine C.mono (c_cexpect (d := d + 9) (w := 260) c5 (by decide) (by omega)) ?_
    rintro o h6 ⟨p6, q6⟩
    have pk6 := (pk5).tr p6
    cases hr6 : pExpect (Kd ts) 260 (D + 1) s5 with
    | error e =>
      rw [hr6] at q6 hR
      obtain ⟨a, rfl, f, u⟩ := q6
      change R = .error e at hR
      rw [hR]
      exact KI.t (cP.er pk6 f (by omega))
    | ok y6 =>
    obtain ⟨x6, s6⟩ := y6
    rw [hr6] at q6 hR
    rw [bd_ok] at hR
    obtain ⟨rfl, c6, u6⟩ := q6
    have sl6 := c6.2.2.2.1.2
    refine KI.i ?_
    obtain ⟨-, es6⟩ := pExpect_ok hr6
    refine C.mono (he1 hd h6 s6 c6 (by omega)) ?_
    rintro o h7 ⟨p7, q7⟩
    have pk7 := (pk6).tr p7
    cases hr7 : P 0 (D + 1) s6 with
    | error e =>
      rw [hr7] at q7 hR
      obtain ⟨a, rfl, f, u⟩ := q7
      change R = .error e at hR
      rw [hR]
      exact KR.t (cP.er pk7 f (by omega))
    | ok y7 =>
    obtain ⟨x7, s7⟩ := y7
    rw [hr7] at q7 hR
    rw [bd_ok] at hR
    obtain ⟨b7, rfl, c7, ot7, ct7, hs7, u7⟩ := q7
    have sl7 := c7.2.2.2.1.2
    refine KR.i ?_
    intro h8 e8
    obtain ⟨c8, p8, u8⟩ := c7.dns e8
    have hrm := un_rm (n := 5) (h := h8) (by omega)
    refine ⟨hrm.1, hrm.2, fun q hq => ?_⟩
    rintro _ rfl
    refine C.mono (c_X34 (d := d + 15) (by rw [hK_nO, if_pos rfl])) ?_
    rintro _ h9 ⟨rfl, e9⟩
    have w : WQ q (nO h8 q 31) h9 := by rw [e9]; exact WQ.rf.eI.pR.pR.pR
    have hk9 : hK h9 q = 32 := by rw [w.2.1.1, hK_nO, if_pos rfl]
    have f0 : fI h9 q 296 = nI s.1 := by rw [e9, fI_pR, fI_pR, fI_pR, fI_eI]
    have f1 : fR h9 q 323 = some b3 := by rw [e9, fR_pR, if_neg (fun e => absurd e.2 (by decide)), fR_pR, if_neg (fun e => absurd e.2 (by decide)), fR_pR, if_pos ⟨rfl, rfl⟩]
    have f2 : fR h9 q 324 = some b5 := by rw [e9, fR_pR, if_neg (fun e => absurd e.2 (by decide)), fR_pR, if_pos ⟨rfl, rfl⟩]
    have f3 : fR h9 q 325 = some b7 := by rw [e9, fR_pR, if_pos ⟨rfl, rfl⟩]
    have p89 : KP h8 h9 := w.kp (KP.rf.nO hq) hq
    have pA := pk7.tr p8
    have o3 : OT ts (fun a => hK h a = 0) h9 x3 0 0 b3 := (ot3.kp (p4.tr (p5.tr (p6.tr (p7.tr (p8.tr p89)))))).wk fun a ha => (pk1.tr p2).fresh ha
    have o5 : OT ts (fun a => hK h a = 0) h9 x5 0 0 b5 := (ot5.kp (p6.tr (p7.tr (p8.tr p89)))).wk fun a ha => pk4.fresh ha
    have o7 : OT ts (fun a => hK h a = 0) h9 x7 0 0 b7 := (ot7.kp (p8.tr p89)).wk fun a ha => pk6.fresh ha
    have e30 : (ftab 31).length = 5 := by decide
    rw [hR, et]
    exact KV.i (fin_nd pA c8 hq w (OT_nd (k := 14) (pA.fresh hq) (by rw [hk9]; decide) (EX_pl (by decide) (by omega) (by rw [hk9]; exact f0)) (OT_c2 (by decide) (by decide) (OT_f f1 o3) (OT_c2 (by decide) (by decide) (OT_f f2 o5) ((OT_ef (m' := 1) (i' := 325) (by decide) (by decide)).mpr (OT_f f3 o7)))) (by decide)) (CT_exp hk9 (by decide)) (by omega) (by rw [e30]; omega))
  · rw [if_neg z.2.1, if_neg z.1, if_neg z.2.2] at hR
    rw [hR]
    exact C.mono (hlv h s c hu) fun o h1 q => q.kr
end
