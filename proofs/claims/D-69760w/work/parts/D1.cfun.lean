/-! THE COMPONENT'S READER: functions -/
/-- the object of a function, its clauses' row at rr -/
def FO (h0 h : AH) (q rr t : Nat) : Prop := hK h0 q = 0 ∧ hK h q = 45 ∧ fI h q 344 = nI t ∧ fR h q 345 = some rr
section
variable {G : Gh} {d : Nat} {h hb hi hm h0 h1 h2 h3 h4 h' : AH} {ts : List (Nat × Nat × Nat)} {s s1 s2 s4 : St} {D D0 k i q a b t tc r rr r3 n m p arr so be L g t0 f : Nat} {s0 : St} {N N' : Nat → Prop} {E : String} {x y e p0 : Tr} {l ds vs : List Tr} {bs bs3 : List Nat} {sl : List Int32} {P : Nat → Nat → St → Except Nat (Tr × St)} {R : Except Nat (Tr × St)}
theorem FO.kp (k : FO h0 h q rr t) (p : KP h h') : FO h0 h' q rr t := by
  obtain ⟨k1, k2, k3, k4⟩ := k
  obtain ⟨a1, a2, a3, a4, a5, a6⟩ := p.2 q (by rw [k2]; decide)
  exact ⟨k1, a1.trans k2, ((a6 344 (by decide)).1).trans k3, ((a6 345 (by decide)).2.2).trans k4⟩
theorem FO.lm (k : FO h0 h q rr t) (lm : Lm (gW G) (mM mX7_add) h h' none) : FO h0 h' q rr t := by
  obtain ⟨k1, k2, k3, k4⟩ := k
  have e1 := lm.1.2 q (by rw [k2]; decide)
  have f1 := lm.f (g := 344) k2 (by decide) (by decide)
  have f2 := lm.f (g := 345) k2 (by decide) (by decide)
  exact ⟨k1, e1.1.trans k2, f1.1.trans k3, f2.2.2.trans k4⟩
theorem RB.wq5 (k : RB G hb h ts E [] r [] n) (w : WQ q h h') (hk : hK h q = 45) (hq : hK hb q = 0) : RB G hb h' ts E [] r [] n := by
  obtain ⟨k1, ⟨r1, r2, r3, r7, r8, ar, r4, r5, r6, r9⟩, k3, k4, k5⟩ := k
  have hr : r ≠ q := fun e => by rw [e] at r1; omega
  have e77 := (w.2.2 r 77 hr).2.2
  refine ⟨w.kp k1 hq, ⟨by rw [w.2.1.1]; exact r1, (w.2.2 r 78 hr).1.trans r2, r3, r7, r8, ar, e77.trans r4, by rw [w.2.1.1]; exact r5, by rw [w.2.1.2.1]; exact r6, fun i x hx => by simp at hx⟩, ⟨k3.1, fun arr e => ?_⟩, TL.nil, fun b hb => (by cases hb)⟩
  rw [e77] at e
  obtain ⟨n1, n2, n3⟩ := k3.2 arr e
  refine ⟨n1, n2, fun i sp e => ?_⟩
  rw [w.2.1.2.2.2.2] at e
  rw [w.2.1.1]
  exact n3 i sp e
theorem c_X48 (c : CS G h ts D s) (p : KP hb h) (hk : hK h a = 45) (ha : hK hb a = 0) (hu : un h + 38 ≤ UB) (hn : ∀ i, i < 10 → gW G i ≠ a) :
    C G mX48_init (d + 2) [.ref a, .int (nI t)] h (fun o h' => o = .returned none ∧ ∃ r, RB G hb h' ts "LetMill$Clause" [] r [] 4 ∧ FO hb h' a r t ∧ CS G h' ts D s ∧ un h' = un h + 38) := by
  have hrm := un_rm (n := 2) (h := h) (by omega)
  refine bX48_init G (d + 1) h _ _ _ ⟨hrm.1, hrm.2, fun r hr => ?_⟩
  rintro _ rfl
  refine C.mono (r_row (d := d) (E := "LetMill$Clause") c p hr (by omega)) ?_
  rintro _ h6 ⟨rfl, k6, c6, u6, p6, -⟩
  have hk6 : hK h6 a = 45 := p6.hk hk (by decide)
  refine KV.i ⟨hk6, ?_⟩
  rintro _ rfl _ rfl
  have w : WQ a h6 (pI (pR h6 a 345 (some r)) a 344 (nI t)) := WQ.rf.pR.pI
  refine ⟨rfl, r, k6.wq5 w hk6 ha, ⟨ha, by rw [w.2.1.1]; exact hk6, ?_, ?_⟩, w.cs c6 hn, by rw [w.un, u6]⟩
  · rw [fI_pI, if_pos ⟨rfl, rfl⟩]
  · rw [fR_pI, fR_pR, if_pos ⟨rfl, rfl⟩]
theorem fun_ot (k : RB G h h1 ts "LetMill$Clause" l rr bs n) (fo : FO h h1 q rr t) (ht : t < 5000) : OT ts (fun a => hK h a = 0) h1 (n2 54 t (.num (Vl ts t)) (ls l)) 0 0 q ∧ CT h1 q "LetMill$Fun" := by
  obtain ⟨k1, k2, k3, k4⟩ := fo
  exact ⟨OT_nd (k := 54) k1 (by rw [k2]; decide) (EX_n2 (by decide) ht (by rw [k2]; exact k3)) (OT_c2 (by decide) (by decide) (OT_7 (Or.inl ⟨_, rfl⟩)) ((OT_ef (m' := 22) (i' := 345) (by decide) (by decide)).mpr (k.row k4))) (by decide), ⟨44, by decide, k2, by decide⟩⟩
/-- the loop of the patterns of a clause, and its end -/
theorem cfun_68 (ht : t < 5000) (htc : tc < 5000) (hp2 : CH G d ts D "LetMill$Pat" mX12_atPat [] (P 2 D)) (he : CH G d ts D "LetMill$Exp" mX12_exp [] (P 0 D)) (hB : un h + 200 * (ts.length - t) + 100 ≤ UB)
    (k : RB G h hi ts "LetMill$Clause" l rr bs n) (fo : FO h hi q rr t) (hb8 : bs.length < 8)
    (hIH : ∀ (s : St) l bs n h1, ts.length - s.1 < f + 1 → RB G h h1 ts "LetMill$Clause" l rr bs n → FO h h1 q rr t → CS G h1 ts D s → t < s.1 → bs.length ≤ 8 → un h1 + (12 * bs.length - 6 * n) ≤ un h + 60 + 200 * (s.1 - t) →
      R = (if l.length = 8 then .error (s.1 - 1) else bd (pClause (Kd ts) (Vl ts) P D s) fun a s => bd (pMore (pSkip (Kd ts) 124 D) (pClause (Kd ts) (Vl ts) P D) 8 f (l.length + 1) s) fun r s => .ok (n2 54 t (.num (Vl ts t)) (ls (l ++ a :: r)), s)) →
      X G mX12_fun (d + 17) none [] 12 [(0, .ref (gW G 7)), (1, .ref q)] [] h1 (cP G h ts D t "LetMill$Fun" R)) :
    ∀ f2 (s : St) ps bs2 n2' h1, ts.length - s.1 < f2 → RB G hi h1 ts "LetMill$Pat" ps r3 bs2 n2' → CS G h1 ts D s → t < s.1 → ts.length - s.1 < f + 1 → bs2.length ≤ s.1 → un h1 + (12 * bs2.length - 6 * n2') + (12 * bs.length - 6 * n) + bs2.length + 190 ≤ un h + 200 * (s.1 - t) →
    R = bd (pWhile (fun s => isPat (Kd ts s.1)) (P 2 D) f2 s) (fun r s => bd (pExpect (Kd ts) 61 D s) fun _ s => bd (P 0 D s) fun e s => bd (pMore (pSkip (Kd ts) 124 D) (pClause (Kd ts) (Vl ts) P D) 8 (f + 1) (l.length + 1) s) fun r' s => .ok (n2 54 t (.num (Vl ts t)) (ls (l ++ n3 50 tc (.num (Vl ts tc)) (ls (ps ++ r)) e :: r')), s)) →
    X G mX12_fun (d + 17) none [] 68 [(0, .ref (gW G 7)), (1, .ref q), (2, .int (nI tc)), (3, .ref r3)] [] h1 (cP G h ts D t "LetMill$Fun" R) := by
  intro f2
  induction f2 with
  | zero => intro s ps bs2 n2' h1 hf; omega
  | succ f2 IH =>
    intro s ps bs2 n2' h1 hf kp c hts hf1 hbs hU hR
    have hl := c.len
    have hsl := c.2.2.2.1.2
    have hlen : l.length = bs.length := k.2.2.2.1.1
    have hlen2 : ps.length = bs2.length := kp.2.2.2.1.1
    refine bX12_fun_68 G (d + 16) h1 _ _ _ _ (c.1.at (by decide)) (C.ri (c_bPat (d := d + 15) c) ?_)
    rw [b2_0]
    rw [pWhile_b] at hR
    refine ⟨fun z => ?_, fun z => ?_⟩
    · rw [if_neg (show ¬ (isPat (Kd ts s.1) = true) by rw [z]; decide), List.append_nil] at hR
      refine C.mono (c_cexpect (d := d + 8) (w := 61) c (by decide) (by omega)) ?_
      rintro o h2 ⟨p2, q2⟩
      have pk2 := (k.1.tr kp.1).tr p2
      cases hr2 : pExpect (Kd ts) 61 D s with
      | error e =>
        rw [hr2] at q2 hR
        obtain ⟨a, rfl, f, u⟩ := q2
        change R = .error e at hR
        rw [hR]
        exact KI.t (cP.er pk2 f (by omega))
      | ok y2 =>
      obtain ⟨x2, s2⟩ := y2
      rw [hr2] at q2 hR
      rw [bd_ok] at hR
      obtain ⟨rfl, c2, u2⟩ := q2
      have sl2 := c2.2.2.2.1.2
      refine KI.i ?_
      obtain ⟨-, es2⟩ := pExpect_ok hr2
      have kp2 := kp.kp p2
      have fo2 := fo.kp kp2.1
      have hrm := un_rm (n := 3) (h := h2) (by omega)
      refine ⟨fo2.2.1, rr, fo2.2.2.2, hrm.1, hrm.2, fun q1 hq => ?_⟩
      intro h3 e3
      obtain ⟨c3, p3, u3, hk3⟩ := nws_st c2 hq e3
      have e28 : (ftab 28).length = 3 := by decide
      rw [e28] at u3
      have kp3 := kp2.kp p3
      refine C.mono (c_patsOf (d := d + 13) kp3.2.1 c3.1 kp3.2.2.2.2 (by omega)) ?_
      rintro _ h4 ⟨ar, rfl, har, p4, ka, la, aa, u4, f4⟩
      have c4 := c3.kp p4 (f4 _) (f4 _) (f4 _) (f4 _)
      have kp4 := kp3.kp p4
      have hk4 := p4.hk hk3 (by decide)
      refine KR.i ?_
      refine C.mono (he h4 s2 c4 (by omega)) ?_
      rintro o h5 ⟨p5, q5⟩
      have pk5 := (k.1.tr kp4.1).tr p5
      cases hr5 : P 0 D s2 with
      | error e =>
        rw [hr5] at q5 hR
        obtain ⟨a, rfl, f, u⟩ := q5
        change R = .error e at hR
        rw [hR]
        exact KR.t (cP.er pk5 f (by omega))
      | ok y5 =>
      obtain ⟨x5, s5⟩ := y5
      rw [hr5] at q5 hR
      rw [bd_ok] at hR
      obtain ⟨b5, rfl, c5, ot5, ct5, hs5, u5⟩ := q5
      have sl5 := c5.2.2.2.1.2
      refine KR.i ?_
      have hk5 : hK h5 q1 = 29 := p5.hk hk4 (by decide)
      refine C.mono (c_X31 (d := d + 15) hk5) ?_
      rintro _ h6 ⟨rfl, e6⟩
      have w : WQ q1 h5 h6 := by rw [e6]; exact WQ.rf.pI.pR.pR
      have f16 : fI h6 q1 316 = nI tc := by rw [e6, fI_pR, fI_pR, fI_pI, if_pos ⟨rfl, rfl⟩]
      have f17 : fR h6 q1 317 = some ar := by rw [e6, fR_pR, if_neg (fun e => absurd e.2 (by decide)), fR_pR, if_pos ⟨rfl, rfl⟩]
      have f18 : fR h6 q1 318 = some b5 := by rw [e6, fR_pR, if_pos ⟨rfl, rfl⟩]
      clear e6
      have hk6 : hK h6 q1 = 29 := by rw [w.2.1.1]; exact hk5
      have p26 : KP h2 h6 := w.kp (p3.tr (p4.tr p5)) hq
      have kp6 := kp2.kp p26
      have hqi := kp2.1.fresh hq
      have hai : hK hi ar = 0 := kp3.1.fresh har
      have hqa : ar ≠ q1 := fun e => by rw [e] at har; omega
      have uar := (p5.2 ar (by rw [ka]; decide)).tr (w.uk hqa)
      have oe : OT ts (fun a => hK hi a = 0) h6 x5 0 0 b5 := (w.ot (fun a ha e => by rw [e] at ha; omega) ot5).wk fun a ha => kp4.1.fresh ha
      have o6 : OT ts (fun a => hK hi a = 0) h6 (n3 50 tc (.num (Vl ts tc)) (ls ps) x5) 0 0 q1 := cl_ot hqi hk6 htc f16 f17 f18 ⟨uar.1.trans ka, hai⟩ kp6.tl0 (by rw [uar.2.1, la, hlen2]) (fun j b hj => by rw [uar.2.2.2.2.1]; exact aa j b hj) oe ⟨_, rfl⟩
      have c6 := w.cs c5 (c2.1.nw hq)
      have u6 := w.un
      have fo6 := fo.kp kp6.1
      refine KV.i ⟨(k.kp kp6.1).2.1.1, ?_⟩
      refine C.use (r_add (d := d + 14) k kp6.1 c6 o6 ⟨28, by decide, hk6, by decide⟩ (by omega) (Nat.le_refl _) (by omega)) (by decide) ?_
      rintro _ h7 ⟨rfl, c7, n', k7, u7⟩ lm -
      have fo7 := fo6.lm lm
      rw [pMore_b] at hR
      refine KV.i ?_
      refine C.mono (c_cskip (d := d + 8) (w := 124) c7 (by decide) (by omega)) ?_
      rintro o h8 ⟨p8, q8⟩
      have pk8 := (k7.1).tr p8
      cases hr8 : pSkip (Kd ts) 124 D s5 with
      | error e =>
        rw [hr8] at q8 hR
        obtain ⟨a, rfl, f, u⟩ := q8
        change R = .error e at hR
        rw [hR]
        exact KI.t (cP.er pk8 f (by omega))
      | ok y8 =>
      obtain ⟨x8, s8⟩ := y8
      rw [hr8] at q8 hR
      rw [bd_ok] at hR
      obtain ⟨rfl, c8, u8⟩ := q8
      have sl8 := c8.2.2.2.1.2
      refine KI.i ?_
      have es := pSkip_ge hr8
      have k8 := k7.kp p8
      have fo8 := fo7.kp p8
      rw [b2_0]
      refine ⟨fun z1 => ?_, fun z1 => ?_⟩
      · have e1 := es.1 z1
        rw [if_neg (by rw [z1]; decide)] at hR
        have e8 : s8.1 = s5.1 := by rw [e1]
        have o8 := fun_ot k8 fo8 ht
        rw [hR]
        exact ⟨k8.1, q, rfl, c8, o8.1, o8.2, by omega, by omega⟩
      · have e1 := es.2 (bt z1)
        rw [if_pos (bt z1)] at hR
        refine hIH s8 (l ++ [n3 50 tc (.num (Vl ts tc)) (ls ps) x5]) (bs ++ [q1]) n' h8 (by omega) k8 fo8 c8 (by omega) (by simp; omega) (by simp; omega) ?_
        rw [hR]
        simp only [List.length_append, List.length_cons, List.length_nil, List.append_assoc, List.singleton_append]
    · rw [if_pos (show isPat (Kd ts s.1) = true from bt z)] at hR
      refine C.mono (hp2 h1 s c (by omega)) ?_
      rintro o h2 ⟨p2, q2⟩
      have pk2 := (k.1.tr kp.1).tr p2
      cases hr2 : P 2 D s with
      | error e =>
        rw [hr2] at q2 hR
        obtain ⟨a, rfl, f, u⟩ := q2
        change R = .error e at hR
        rw [hR]
        exact KR.t (cP.er pk2 f (by omega))
      | ok y2 =>
      obtain ⟨x2, s2⟩ := y2
      rw [hr2] at q2 hR
      rw [bd_ok] at hR
      obtain ⟨b2, rfl, c2, ot2, ct2, hs2, u2⟩ := q2
      have sl2 := c2.2.2.2.1.2
      refine KR.i ?_
      refine ⟨(kp.kp p2).2.1.1, C.mono (r_add (d := d + 14) kp p2 c2 ot2 ct2 (by omega) (Nat.le_refl _) (by omega)) ?_⟩
      rintro _ h3 ⟨rfl, c3, n', k3, u3⟩
      refine KV.i (IH s2 (ps ++ [x2]) (bs2 ++ [b2]) n' h3 (by omega) k3 c3 (by omega) (by omega) (by simp; omega) (by simp; omega) ?_)
      rw [hR]
      simp only [List.append_assoc, List.singleton_append]
theorem cfun_12 (ht : t < 5000) (hp2 : CH G d ts D "LetMill$Pat" mX12_atPat [] (P 2 D)) (he : CH G d ts D "LetMill$Exp" mX12_exp [] (P 0 D)) (hB : un h + 200 * (ts.length - t) + 100 ≤ UB) :
    ∀ f (s : St) l bs n h1 R, ts.length - s.1 < f + 1 → RB G h h1 ts "LetMill$Clause" l rr bs n → FO h h1 q rr t → CS G h1 ts D s → t ≤ s.1 → (l.length = 8 → t < s.1) → bs.length ≤ 8 → un h1 + (12 * bs.length - 6 * n) ≤ un h + 60 + 200 * (s.1 - t) →
    R = (if l.length = 8 then .error (s.1 - 1) else bd (pClause (Kd ts) (Vl ts) P D s) fun a s => bd (pMore (pSkip (Kd ts) 124 D) (pClause (Kd ts) (Vl ts) P D) 8 f (l.length + 1) s) fun r s => .ok (n2 54 t (.num (Vl ts t)) (ls (l ++ a :: r)), s)) →
    X G mX12_fun (d + 17) none [] 12 [(0, .ref (gW G 7)), (1, .ref q)] [] h1 (cP G h ts D t "LetMill$Fun" R) := by
  intro f
  induction f with
  | zero =>
    intro s l bs n h1 R hf k fo c
    have hsl := c.2.2.2.1.2
    omega
  | succ f IH =>
    intro s l bs n h1 R hf k fo c hts hts8 hb8 hU hR
    have hl := c.len
    have hsl := c.2.2.2.1.2
    have hlen : l.length = bs.length := k.2.2.2.1.1
    refine bX12_fun_12 G (d + 16) h1 _ _ (c.1.at (by decide)) ⟨fo.2.1, rr, fo.2.2.2, k.2.1.1, ?_⟩
    rw [k.2.1.2.1, show (8 : Int32) = nI 8 from rfl, nI_eq (by omega) (by decide), ← hlen]
    refine ⟨fun z => ?_, fun z => ?_⟩
    · rw [if_pos z] at hR
      rw [hR]
      intro h2 e2
      have := hts8 z
      obtain ⟨c2, p2, u2⟩ := c.bks (by omega) e2
      refine C.mono (c_wrong (d := d + 10) c2 (by omega)) ?_
      rintro _ h3 ⟨a, rfl, p3, f, u⟩
      exact KR.i (cP.er (k.1.tr (p2.tr p3)) f (by omega))
    · rw [if_neg z] at hR
      rw [show pClause (Kd ts) (Vl ts) P D s = bd (pExpect (Kd ts) 280 D s) fun t s => bd (P 2 D (s.1, s.2.1, 0)) fun p s => bd (pWhile (fun s => isPat (Kd ts s.1)) (P 2 D) FU s) fun r s => bd (pExpect (Kd ts) 61 D s) fun _ s => bd (P 0 D s) fun e s => .ok (n3 50 t (.num (Vl ts t)) (ls (p :: r)) e, s) from rfl] at hR
      rw [bd_assoc] at hR
      refine C.mono (c_cexpect (d := d + 8) (w := 280) c (by decide) (by omega)) ?_
      rintro o h2 ⟨p2, q2⟩
      have pk2 := (k.1).tr p2
      cases hr2 : pExpect (Kd ts) 280 D s with
      | error e =>
        rw [hr2] at q2 hR
        obtain ⟨a, rfl, f, u⟩ := q2
        change R = .error e at hR
        rw [hR]
        exact KI.t (cP.er pk2 f (by omega))
      | ok y2 =>
      obtain ⟨x2, s2⟩ := y2
      rw [hr2] at q2 hR
      rw [bd_ok] at hR
      obtain ⟨rfl, c2, u2⟩ := q2
      have sl2 := c2.2.2.2.1.2
      refine KI.i ?_
      obtain ⟨et2, es2⟩ := pExpect_ok hr2
      intro h3 e3
      obtain ⟨c3, p3, u3⟩ := c2.p0s e3
      have e20 : ((s2.1, s2.2.1, 0) : St).1 = s2.1 := rfl
      rw [bd_assoc] at hR
      generalize ((s2.1, s2.2.1, 0) : St) = s0 at hR c3 e20
      have hrm := un_rm (n := 2) (h := h3) (by omega)
      refine ⟨hrm.1, hrm.2, fun r3 hr3 => ?_⟩
      rintro _ rfl
      refine C.mono (r_row (d := d + 15) (E := "LetMill$Pat") c3 KP.rf hr3 (by omega)) ?_
      rintro _ h4 ⟨rfl, k4, c4, u4, p4, -⟩
      refine KV.i ?_
      refine C.mono (hp2 h4 s0 c4 (by omega)) ?_
      rintro o h5 ⟨p5, q5⟩
      have pk5 := ((pk2.tr p3).tr p4).tr p5
      cases hr5 : P 2 D s0 with
      | error e =>
        rw [hr5] at q5 hR
        obtain ⟨a, rfl, f, u⟩ := q5
        change R = .error e at hR
        rw [hR]
        exact KR.t (cP.er pk5 f (by omega))
      | ok y5 =>
      obtain ⟨x5, s5⟩ := y5
      rw [hr5] at q5 hR
      rw [bd_ok] at hR
      obtain ⟨b5, rfl, c5, ot5, ct5, hs5, u5⟩ := q5
      have sl5 := c5.2.2.2.1.2
      refine KR.i ?_
      refine C.mono (r_add (d := d + 14) k4 p5 c5 ot5 ct5 (by simp) (Nat.le_refl _) (by simp; omega)) ?_
      rintro _ h6 ⟨rfl, c6, n', k6, u6⟩
      simp only [bd_assoc] at hR
      refine KV.i (cfun_68 (R := R) (f := f) (tc := x2) ht (by omega) hp2 he hB (k.kp (p2.tr p3)) (fo.kp (p2.tr p3)) (by omega) (fun s l bs n h1 a1 a2 a3 a4 a5 a6 a7 a8 => IH s l bs n h1 R (by omega) a2 a3 a4 (by omega) (fun _ => a5) a6 a7 a8) FU s5 [x5] [b5] n' h6 (by unfold FU; omega) k6 c6 (by omega) (by omega) (by simp; omega) (by simp at u6 ⊢; omega) hR)
/-- a function -/
theorem c_cfun (hp2 : CH G d ts D "LetMill$Pat" mX12_atPat [] (P 2 D)) (he : CH G d ts D "LetMill$Exp" mX12_exp [] (P 0 D)) : CH G (d + 1) ts D "LetMill$Fun" mX12_fun [] (pFun (Kd ts) (Vl ts) P D) := by
  intro h s c hu
  have hl := c.len
  have hsl := c.2.2.2.1.2
  obtain ⟨R, hR⟩ : ∃ R, R = pFun (Kd ts) (Vl ts) P D s := ⟨_, rfl⟩
  rw [← hR]
  unfold pFun at hR
  rw [pSep_b] at hR
  have hrm := un_rm (n := 4) (h := h) (by omega)
  refine bX12_fun G (d + 16) h _ (c.1.at (by decide)) ⟨hrm.1, hrm.2, fun q hq => ?_⟩
  intro h2 e2
  obtain ⟨c2, p2, u2, hk2⟩ := nws_st c hq e2
  have e44 : (ftab 44).length = 4 := by decide
  rw [e44] at u2
  rw [c2.2.2.2.1.1]
  refine C.mono (c_X48 (d := d + 14) (hb := h) c2 p2 hk2 hq (by omega) (c.1.nw hq)) ?_
  rintro _ h3 ⟨rfl, rr, k3, fo3, c3, u3⟩
  exact KV.i (cfun_12 (by omega) hp2 he hu FU s [] [] 4 h3 R (by unfold FU; omega) k3 fo3 c3 (Nat.le_refl _) (fun q => by simp at q) (by simp) (by simp; omega) hR)
end
