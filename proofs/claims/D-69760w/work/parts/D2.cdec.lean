/-! THE COMPONENT'S READER: declarations -/
section
variable {G : Gh} {d : Nat} {h hb hi hm h0 h1 h2 h3 h4 h' : AH} {ts : List (Nat × Nat × Nat)} {s s1 s2 s4 : St} {D D0 k i q a b t tc r rr r3 n m p arr so be L g t0 f : Nat} {s0 : St} {N N' : Nat → Prop} {E : String} {x y e p0 : Tr} {l ds vs : List Tr} {bs bs3 : List Nat} {sl : List Int32} {P : Nat → Nat → St → Except Nat (Tr × St)} {R : Except Nat (Tr × St)} {pF : St → Except Nat (Tr × St)}
theorem CS.d1s (c : CS G h ts D s) (hn : s.2.1 ≠ 60) (e : h' = pI h (gW G 7) 117 (fI h (gW G 7) 117 + 1)) : CS G h' ts D (s.1, s.2.1 + 1, s.2.2) ∧ KP h h' ∧ un h' = un h := by
  subst e
  obtain ⟨c1, c2, c3, c4, c5, c6, c7⟩ := id c
  refine ⟨?_, kp_rd (by decide), rfl⟩
  rw [c6.1, nI_1]
  exact c.set (by decide) ⟨by rw [if_neg (by decide)], c4.2⟩ ⟨by rw [if_neg (by decide)], c5.2⟩ ⟨by rw [if_pos rfl], by show s.2.1 + 1 ≤ 60; omega⟩ ⟨by rw [if_neg (by decide)], c7.2⟩
theorem cdec_98 (ht : t < 5000) (hF : CH G d ts D "LetMill$Fun" mX12_fun [] pF) (pb : KP h hb) (hB : un h + 200 * (ts.length - t) + 100 ≤ UB) :
    ∀ f (s : St) l bs n h1 R, ts.length - s.1 < f + 1 → RB G hb h1 ts "LetMill$Fun" l r bs n → CS G h1 ts D s → t < s.1 → bs.length ≤ s.1 → un h1 + (12 * bs.length - 6 * n) + 100 ≤ un h + 200 * (s.1 - t) →
    R = bd (pF s) (fun a s => bd (pMore (pSkip (Kd ts) 256 D) pF 0 f (l.length + 1) s) fun r s => .ok (n1 52 t (ls (l ++ a :: r)), s)) →
    X G mX12_dec (d + 17) none [] 98 [(0, .ref (gW G 7)), (1, .int (nI t)), (2, .ref r)] [] h1 (cP G h ts D t "LetMill$Dec" R) := by
  intro f
  induction f with
  | zero =>
    intro s l bs n h1 R hf k c
    have hsl := c.2.2.2.1.2
    omega
  | succ f IH =>
    intro s l bs n h1 R hf k c hts hbs hU hR
    have hl := c.len
    have hsl := c.2.2.2.1.2
    have hlen : l.length = bs.length := k.2.2.2.1.1
    refine bX12_dec_98 G (d + 16) h1 _ _ _ (c.1.at (by decide)) ?_
    refine C.mono (hF h1 s c (by omega)) ?_
    rintro o h2 ⟨p2, q2⟩
    have pk2 := (pb.tr k.1).tr p2
    cases hr2 : pF s with
    | error e =>
      rw [hr2] at q2 hR
      obtain ⟨a, rfl, f, u⟩ := q2
      change R = .error e at hR
      rw [hR]
      exact KR.t (cP.er pk2 f (by omega))
    | ok y2 =>
    obtain ⟨x2, s2⟩ := y2
    rw [hr2] at q2 hR
    rw [bd_ok] at hR
    obtain ⟨b2, rfl, c2, ot2, ct2, hs2, u2⟩ := q2
    have sl2 := c2.2.2.2.1.2
    refine KR.i ?_
    refine ⟨(k.kp p2).2.1.1, C.mono (r_add (d := d + 14) k p2 c2 ot2 ct2 (by omega) (Nat.le_refl _) (by omega)) ?_⟩
    rintro _ h3 ⟨rfl, c3, n', k3, u3⟩
    rw [pMore_b] at hR
    refine KV.i ?_
    refine C.mono (c_cskip (d := d + 8) (w := 256) c3 (by decide) (by omega)) ?_
    rintro o h4 ⟨p4, q4⟩
    have pk4 := (pb.tr k3.1).tr p4
    cases hr4 : pSkip (Kd ts) 256 D s2 with
    | error e =>
      rw [hr4] at q4 hR
      obtain ⟨a, rfl, f, u⟩ := q4
      change R = .error e at hR
      rw [hR]
      exact KI.t (cP.er pk4 f (by omega))
    | ok y4 =>
    obtain ⟨x4, s4⟩ := y4
    rw [hr4] at q4 hR
    rw [bd_ok] at hR
    obtain ⟨rfl, c4, u4⟩ := q4
    have sl4 := c4.2.2.2.1.2
    refine KI.i ?_
    have es := pSkip_ge hr4
    have k4 := k3.kp p4
    rw [b2_0]
    refine ⟨fun z => ?_, fun z => ?_⟩
    · have e1 := es.1 z
      have e4 : s4.1 = s2.1 := by rw [e1]
      rw [if_neg (by rw [z]; decide)] at hR
      have hrm := un_rm (n := 2) (h := h4) (by omega)
      refine ⟨hrm.1, hrm.2, fun q hq => ?_⟩
      rintro _ rfl
      refine C.mono (c_X49 (d := d + 14) (by rw [hK_nO, if_pos rfl])) ?_
      rintro _ h5 ⟨rfl, e5⟩
      have w : WQ q (nO h4 q 45) h5 := by rw [e5]; exact WQ.rf.pI.pR
      have f0 : fI h5 q 313 = nI t := by rw [e5, fI_pR, fI_pI, if_pos ⟨rfl, rfl⟩]
      have f1 : fR h5 q 348 = some r := by rw [e5, fR_pR, if_pos ⟨rfl, rfl⟩]
      have hk5 : hK h5 q = 46 := by rw [w.2.1.1, hK_nO, if_pos rfl]
      have eL : (ftab 45).length = 2 := by decide
      have k5 := k4.kp (w.kp (KP.rf.nO hq) hq)
      have od : OT ts (fun a => hK h a = 0) h5 (ls (l ++ [x2])) 22 348 q := (k5.row f1).wkm (fun a ha => pb.fresh ha) (by decide)
      rw [hR]
      exact KV.i (fin_nd pk4 c4 hq w (OT_nd (k := 52) (pk4.fresh hq) (by rw [hk5]; decide) (EX_pl (by decide) ht (by rw [hk5]; exact f0)) (OT_l1 (m := 22) (g := 348) (by decide) (by decide) od) (by decide)) (CT_dec hk5 (by decide)) (by omega) (by rw [eL]; omega))
    · have e1 := es.2 (bt z)
      rw [if_pos (bt z), if_neg (by omega)] at hR
      refine IH s4 (l ++ [x2]) (bs ++ [b2]) n' h4 R (by omega) k4 c4 (by omega) (by simp; omega) (by simp; omega) ?_
      rw [hR]
      simp only [List.length_append, List.length_cons, List.length_nil, List.append_assoc, List.singleton_append]
theorem cdec_126 (ht : t < 5000) (hF : CH G d ts D "LetMill$Data" mX12_data [] pF) (pb : KP h hb) (hB : un h + 200 * (ts.length - t) + 100 ≤ UB) :
    ∀ f (s : St) l bs n h1 R, ts.length - s.1 < f + 1 → RB G hb h1 ts "LetMill$Data" l r bs n → CS G h1 ts D s → t < s.1 → bs.length ≤ s.1 → un h1 + (12 * bs.length - 6 * n) + 100 ≤ un h + 200 * (s.1 - t) →
    R = bd (pF s) (fun a s => bd (pMore (pSkip (Kd ts) 256 D) pF 0 f (l.length + 1) s) fun r s => .ok (n1 53 t (ls (l ++ a :: r)), s)) →
    X G mX12_dec (d + 17) none [] 126 [(0, .ref (gW G 7)), (1, .int (nI t)), (2, .ref r)] [] h1 (cP G h ts D t "LetMill$Dec" R) := by
  intro f
  induction f with
  | zero =>
    intro s l bs n h1 R hf k c
    have hsl := c.2.2.2.1.2
    omega
  | succ f IH =>
    intro s l bs n h1 R hf k c hts hbs hU hR
    have hl := c.len
    have hsl := c.2.2.2.1.2
    have hlen : l.length = bs.length := k.2.2.2.1.1
    refine bX12_dec_126 G (d + 16) h1 _ _ _ (c.1.at (by decide)) ?_
    refine C.mono (hF h1 s c (by omega)) ?_
    rintro o h2 ⟨p2, q2⟩
    have pk2 := (pb.tr k.1).tr p2
    cases hr2 : pF s with
    | error e =>
      rw [hr2] at q2 hR
      obtain ⟨a, rfl, f, u⟩ := q2
      change R = .error e at hR
      rw [hR]
      exact KR.t (cP.er pk2 f (by omega))
    | ok y2 =>
    obtain ⟨x2, s2⟩ := y2
    rw [hr2] at q2 hR
    rw [bd_ok] at hR
    obtain ⟨b2, rfl, c2, ot2, ct2, hs2, u2⟩ := q2
    have sl2 := c2.2.2.2.1.2
    refine KR.i ?_
    refine ⟨(k.kp p2).2.1.1, C.mono (r_add (d := d + 14) k p2 c2 ot2 ct2 (by omega) (Nat.le_refl _) (by omega)) ?_⟩
    rintro _ h3 ⟨rfl, c3, n', k3, u3⟩
    rw [pMore_b] at hR
    refine KV.i ?_
    refine C.mono (c_cskip (d := d + 8) (w := 256) c3 (by decide) (by omega)) ?_
    rintro o h4 ⟨p4, q4⟩
    have pk4 := (pb.tr k3.1).tr p4
    cases hr4 : pSkip (Kd ts) 256 D s2 with
    | error e =>
      rw [hr4] at q4 hR
      obtain ⟨a, rfl, f, u⟩ := q4
      change R = .error e at hR
      rw [hR]
      exact KI.t (cP.er pk4 f (by omega))
    | ok y4 =>
    obtain ⟨x4, s4⟩ := y4
    rw [hr4] at q4 hR
    rw [bd_ok] at hR
    obtain ⟨rfl, c4, u4⟩ := q4
    have sl4 := c4.2.2.2.1.2
    refine KI.i ?_
    have es := pSkip_ge hr4
    have k4 := k3.kp p4
    rw [b2_0]
    refine ⟨fun z => ?_, fun z => ?_⟩
    · have e1 := es.1 z
      have e4 : s4.1 = s2.1 := by rw [e1]
      rw [if_neg (by rw [z]; decide)] at hR
      have hrm := un_rm (n := 3) (h := h4) (by omega)
      refine ⟨hrm.1, hrm.2, fun q hq => ?_⟩
      rintro _ rfl
      refine C.mono (c_X57 (d := d + 14) (by rw [hK_nO, if_pos rfl])) ?_
      rintro _ h5 ⟨rfl, e5⟩
      have w : WQ q (nO h4 q 52) h5 := by rw [e5]; exact WQ.rf.pI.pR
      have f0 : fI h5 q 313 = nI t := by rw [e5, fI_pR, fI_pI, if_pos ⟨rfl, rfl⟩]
      have f1 : fR h5 q 364 = some r := by rw [e5, fR_pR, if_pos ⟨rfl, rfl⟩]
      have f365 : fI h5 q 365 = 0 := by rw [e5, fI_pR, fI_pI, if_neg (fun e => absurd e.2 (by decide)), fI_nO, if_pos rfl]
      have hk5 : hK h5 q = 53 := by rw [w.2.1.1, hK_nO, if_pos rfl]
      have eL : (ftab 52).length = 3 := by decide
      have k5 := k4.kp (w.kp (KP.rf.nO hq) hq)
      have od : OT ts (fun a => hK h a = 0) h5 (ls (l ++ [x2])) 22 364 q := (k5.row f1).wkm (fun a ha => pb.fresh ha) (by decide)
      rw [hR]
      exact KV.i (fin_nd pk4 c4 hq w (OT_nd (k := 53) (pk4.fresh hq) (by rw [hk5]; decide) (EX_53 ht (by rw [hk5]; exact f0) f365) (OT_l1 (m := 22) (g := 364) (by decide) (by decide) od) (by decide)) (CT_dec hk5 (by decide)) (by omega) (by rw [eL]; omega))
    · have e1 := es.2 (bt z)
      rw [if_pos (bt z), if_neg (by omega)] at hR
      refine IH s4 (l ++ [x2]) (bs ++ [b2]) n' h4 R (by omega) k4 c4 (by omega) (by simp; omega) (by simp; omega) ?_
      rw [hR]
      simp only [List.length_append, List.length_cons, List.length_nil, List.append_assoc, List.singleton_append]
/-- a declaration -/
theorem c_cdec (hp : CH G d ts D "LetMill$Pat" mX12_pat [] (P 1 D)) (he : CH G d ts D "LetMill$Exp" mX12_exp [] (P 0 D)) (hfn : CH G d ts D "LetMill$Fun" mX12_fun [] (pFun (Kd ts) (Vl ts) P D)) (hda : CH G d ts D "LetMill$Data" mX12_data [] (pData (Kd ts) (Vl ts) P D)) : CH G (d + 1) ts D "LetMill$Dec" mX12_dec [] (pDec (Kd ts) (Vl ts) P D) := by
  intro h s c hu
  have hl := c.len
  have hsl := c.2.2.2.1.2
  have h60 := c.2.2.2.2.2.1
  obtain ⟨R, hR⟩ : ∃ R, R = pDec (Kd ts) (Vl ts) P D s := ⟨_, rfl⟩
  rw [← hR]
  unfold pDec at hR
  refine bX12_dec G (d + 16) h _ (c.1.at (by decide)) (c.1.at (by decide)) ?_
  have e60 : (fI h (gW G 7) 117 = 60) = (s.2.1 = 60) := by
    rw [h60.1, show (60 : Int32) = nI 60 from rfl]
    exact propext (nI_eq (by omega) (by decide))
  rw [e60]
  refine ⟨fun z => ?_, fun z => ?_⟩
  · rw [if_pos z] at hR
    refine C.mono (c_wrong (d := d + 10) c (by omega)) ?_
    rintro _ h3 ⟨a, rfl, p3, f, u⟩
    rw [hR]
    exact KR.i (cP.er p3 f (by omega))
  · rw [if_neg z] at hR
    intro h1 e1
    obtain ⟨c1, p1, u1⟩ := c.d1s z e1
    have e10 : ((s.1, s.2.1 + 1, s.2.2) : St).1 = s.1 := rfl
    generalize ((s.1, s.2.1 + 1, s.2.2) : St) = s0 at hR c1 e10
    refine C.mono (c_ctake (d := d + 9) c1 (by omega)) ?_
    rintro o h2 ⟨p2, q2⟩
    have pk2 := (p1).tr p2
    cases hr2 : pTake (Kd ts) D s0 with
    | error e =>
      rw [hr2] at q2 hR
      obtain ⟨a, rfl, f, u⟩ := q2
      change R = .error e at hR
      rw [hR]
      exact KI.t (cP.er pk2 f (by omega))
    | ok y2 =>
    obtain ⟨x2, s2⟩ := y2
    rw [hr2] at q2 hR
    rw [bd_ok] at hR
    obtain ⟨rfl, c2, u2⟩ := q2
    have sl2 := c2.2.2.2.1.2
    refine KI.i ?_
    obtain ⟨et, es, -⟩ := pTake_ok hr2
    have es2 : s2.1 = s.1 + 1 := by rw [es, ← e10]
    have ex2 : x2 = s.1 := by omega
    have ht : x2 < 5000 := by omega
    clear et es
    have hk2 := c2.k4 (i := x2) (by omega)
    have kd2 : aI h2 (gW G 1024) (nI x2).toNatClampNeg = nI (Kd ts x2) := by rw [nI_cn (by omega)]; exact (c2.kd (by omega)).1
    refine ⟨vp_in_nI (by omega) (by decide), ?_⟩
    rw [kd2, show (274 : Int32) = nI 274 from rfl, nI_eq (by omega) (by decide)]
    refine ⟨fun z4 => ?_, fun z4 => ?_⟩
    · rw [if_pos z4] at hR
      intro h3 e3
      obtain ⟨c3, p3, u3⟩ := c2.p0s e3
      have e20 : ((s2.1, s2.2.1, 0) : St).1 = s2.1 := rfl
      generalize ((s2.1, s2.2.1, 0) : St) = s3 at hR c3 e20
      refine C.mono (hp h3 s3 c3 (by omega)) ?_
      rintro o h4 ⟨p4, q4⟩
      have pk4 := (pk2.tr p3).tr p4
      cases hr4 : P 1 D s3 with
      | error e =>
        rw [hr4] at q4 hR
        obtain ⟨a, rfl, f, u⟩ := q4
        change R = .error e at hR
        rw [hR]
        exact KR.t (cP.er pk4 f (by omega))
      | ok y4 =>
      obtain ⟨x4, s4⟩ := y4
      rw [hr4] at q4 hR
      rw [bd_ok] at hR
      obtain ⟨b4, rfl, c4, ot4, ct4, hs4, u4⟩ := q4
      have sl4 := c4.2.2.2.1.2
      refine KR.i ?_
      refine C.mono (c_cexpect (d := d + 8) (w := 61) c4 (by decide) (by omega)) ?_
      rintro o h5 ⟨p5, q5⟩
      have pk5 := (pk4).tr p5
      cases hr5 : pExpect (Kd ts) 61 D s4 with
      | error e =>
        rw [hr5] at q5 hR
        obtain ⟨a, rfl, f, u⟩ := q5
        change R = .error e at hR
        rw [hR]
        exact KI.t (cP.er pk5 f (by omega))
      | ok y5 =>
      obtain ⟨x5, s5⟩ := y5
      rw [hr5] at q5 hR
      rw [bd_ok] at hR
      obtain ⟨rfl, c5, u5⟩ := q5
      have sl5 := c5.2.2.2.1.2
      refine KI.i ?_
      obtain ⟨-, es5⟩ := pExpect_ok hr5
      have hrm := un_rm (n := 3) (h := h5) (by omega)
      refine ⟨hrm.1, hrm.2, fun q hq => ?_⟩
      intro h6 e6
      obtain ⟨c6, p6, u6, hk6⟩ := nws_st c5 hq e6
      have e27 : (ftab 27).length = 3 := by decide
      rw [e27] at u6
      refine C.mono (he h6 s5 c6 (by omega)) ?_
      rintro o h7 ⟨p7, q7⟩
      have pk7 := (pk5.tr p6).tr p7
      cases hr7 : P 0 D s5 with
      | error e =>
        rw [hr7] at q7 hR
        obtain ⟨a, rfl, f, u⟩ := q7
        change R = .error e at hR
        rw [hR]
        exact KR.t (cP.er pk7 f (by omega))
      | ok y7 =>
      obtain ⟨x7, s7⟩ := y7
      rw [hr7] at q7 hR
      rw [bd_ok] at hR
      obtain ⟨b7, rfl, c7, ot7, ct7, hs7, u7⟩ := q7
      have sl7 := c7.2.2.2.1.2
      refine KR.i ?_
      have hk7 : hK h7 q = 28 := p7.hk hk6 (by decide)
      refine C.mono (c_X30 (d := d + 14) hk7) ?_
      rintro _ h8 ⟨rfl, e8⟩
      have w : WQ q h7 h8 := by rw [e8]; exact WQ.rf.pI.pR.pR
      have f0 : fI h8 q 313 = nI x2 := by rw [e8, fI_pR, fI_pR, fI_pI, if_pos ⟨rfl, rfl⟩]
      have f1 : fR h8 q 314 = some b4 := by rw [e8, fR_pR, if_neg (fun e => absurd e.2 (by decide)), fR_pR, if_pos ⟨rfl, rfl⟩]
      have f2 : fR h8 q 315 = some b7 := by rw [e8, fR_pR, if_pos ⟨rfl, rfl⟩]
      clear e8
      have hk8 : hK h8 q = 28 := by rw [w.2.1.1]; exact hk7
      have p58 : KP h5 h8 := w.kp (p6.tr p7) hq
      have o4 : OT ts (fun a => hK h a = 0) h8 x4 0 0 b4 := (ot4.kp (p5.tr p58)).wk fun a ha => (pk2.tr p3).fresh ha
      have o7 : OT ts (fun a => hK h a = 0) h8 x7 0 0 b7 := (w.ot (fun a ha e => by rw [e] at ha; omega) ot7).wk fun a ha => (pk5.tr p6).fresh ha
      rw [hR]
      refine KV.i ⟨pk5.tr p58, q, rfl, w.cs c7 (c5.1.nw hq), OT_nd (k := 51) (pk5.fresh hq) (by rw [hk8]; decide) (EX_pl (by decide) ht (by rw [hk8]; exact f0)) (OT_c2 (by decide) (by decide) (OT_f f1 o4) ((OT_ef (m' := 1) (i' := 315) (by decide) (by decide)).mpr (OT_f f2 o7))) (by decide), CT_dec hk8 (by decide), by omega, ?_⟩
      rw [w.un]
      omega
    · rw [if_neg z4] at hR
      have hrm := un_rm (n := 2) (h := h2) (by omega)
      refine ⟨hrm.1, hrm.2, fun r hr => ?_⟩
      rintro _ rfl
      by_cases z6 : Kd ts x2 = 263
      · rw [if_pos z6, pSep_b] at hR
        refine C.mono (r_row (d := d + 15) (E := "LetMill$Fun") c2 KP.rf hr (by omega)) ?_
        rintro _ h4 ⟨rfl, k4, c4, u4, p4, -⟩
        have kd4 : aI h4 (gW G 1024) (nI x2).toNatClampNeg = nI (Kd ts x2) := by rw [nI_cn (by omega)]; exact (c4.kd (by omega)).1
        refine KV.i ⟨vp_in_nI (by omega) (by decide), ?_⟩
        rw [kd4, show (263 : Int32) = nI 263 from rfl, nI_eq (by omega) (by decide)]
        refine ⟨fun _ => ?_, fun zz => absurd z6 zz⟩
        rw [← ex2] at hu ⊢
        exact cdec_98 ht hfn pk2 hu FU s2 [] [] 4 h4 R (by unfold FU; omega) k4 c4 (by omega) (Nat.zero_le _) (by simp; omega) hR
      · rw [if_neg z6, pSep_b] at hR
        refine C.mono (r_row (d := d + 15) (E := "LetMill$Data") c2 KP.rf hr (by omega)) ?_
        rintro _ h4 ⟨rfl, k4, c4, u4, p4, -⟩
        have kd4 : aI h4 (gW G 1024) (nI x2).toNatClampNeg = nI (Kd ts x2) := by rw [nI_cn (by omega)]; exact (c4.kd (by omega)).1
        refine KV.i ⟨vp_in_nI (by omega) (by decide), ?_⟩
        rw [kd4, show (263 : Int32) = nI 263 from rfl, nI_eq (by omega) (by decide)]
        refine ⟨fun zz => absurd zz z6, fun _ => ?_⟩
        rw [← ex2] at hu ⊢
        exact cdec_126 ht hda pk2 hu FU s2 [] [] 4 h4 R (by unfold FU; omega) k4 c4 (by omega) (Nat.zero_le _) (by simp; omega) hR
end
