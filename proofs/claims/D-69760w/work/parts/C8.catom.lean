/-! THE COMPONENT'S READER: atoms -/
section
variable {G : Gh} {d : Nat} {h hb h0 h1 h2 h3 h4 h' : AH} {ts : List (Nat × Nat × Nat)} {s s1 s2 s4 : St} {D D0 k i q a b t r n m p arr so be L : Nat} {s0 : St} {N N' : Nat → Prop} {E : String} {x y e p0 : Tr} {l vs : List Tr} {bs : List Nat} {sl : List Int32} {P : Nat → Nat → St → Except Nat (Tr × St)} {R : Except Nat (Tr × St)}
theorem catom_249 (ht : t < 5000) (he : CH G d ts (D + 1) "LetMill$Exp" mX12_exp [] (P 0 (D + 1))) (pb : KP h hb) (hB : un h + 200 * (ts.length - t) + 100 ≤ UB) :
    ∀ f (s : St) l bs n h1 R, ts.length - s.1 < f + 1 → RB G hb h1 ts "LetMill$Exp" l r bs n → CS G h1 ts (D + 1) s → t < s.1 → bs.length ≤ s.1 → un h1 + (12 * bs.length - 6 * n) + 100 + bs.length ≤ un h + 200 * (s.1 - t) →
    R = bd (P 0 (D + 1) s) (fun a s => bd (pMore (pSkip (Kd ts) 44 (D + 1)) (P 0 (D + 1)) 0 f (l.length + 1) s) fun r s => bd (pExpect (Kd ts) 93 D s) fun _ s => .ok (n1 10 t (ls (l ++ a :: r)), s)) →
    X G mX12_atom (d + 17) none [] 249 [(0, .ref (gW G 7)), (1, .int (nI t)), (3, .ref r)] [] h1 (cP G h ts D t "LetMill$Exp" R) := by
  intro f
  induction f with
  | zero =>
    intro s l bs n h1 R hf k c
    have hsl := c.2.2.2.1.2
    omega
  | succ f IH =>
    intro s l bs n h1 R hf k c hts hbs hU hR
    have hl := c.len
    have hsl := c.2.2.2.1.2
    have hlen : l.length = bs.length := k.2.2.2.1.1
    refine bX12_atom_249 G (d + 16) h1 _ _ _ (c.1.at (by decide)) ?_
    refine C.mono (he h1 s c (by omega)) ?_
    rintro o h2 ⟨p2, q2⟩
    have pk2 := (pb.tr k.1).tr p2
    cases hr2 : P 0 (D + 1) s with
    | error e =>
      rw [hr2] at q2 hR
      obtain ⟨a, rfl, f, u⟩ := q2
      change R = .error e at hR
      rw [hR]
      exact KR.t (cP.er pk2 f (by omega))
    | ok y2 =>
    obtain ⟨x2, s2⟩ := y2
    rw [hr2] at q2 hR
    rw [bd_ok] at hR
    obtain ⟨b2, rfl, c2, ot2, ct2, hs2, u2⟩ := q2
    have sl2 := c2.2.2.2.1.2
    refine KR.i ?_
    refine ⟨(k.kp p2).2.1.1, C.mono (r_add (d := d + 14) k p2 c2 ot2 ct2 (by omega) (Nat.le_refl _) (by omega)) ?_⟩
    rintro _ h3 ⟨rfl, c3, n', k3, u3⟩
    rw [pMore_b] at hR
    refine KV.i ?_
    refine C.mono (c_cskip (d := d + 8) (w := 44) c3 (by decide) (by omega)) ?_
    rintro o h4 ⟨p4, q4⟩
    have pk4 := (pb.tr k3.1).tr p4
    cases hr4 : pSkip (Kd ts) 44 (D + 1) s2 with
    | error e =>
      rw [hr4] at q4 hR
      obtain ⟨a, rfl, f, u⟩ := q4
      change R = .error e at hR
      rw [hR]
      exact KI.t (cP.er pk4 f (by omega))
    | ok y4 =>
    obtain ⟨x4, s4⟩ := y4
    rw [hr4] at q4 hR
    rw [bd_ok] at hR
    obtain ⟨rfl, c4, u4⟩ := q4
    have sl4 := c4.2.2.2.1.2
    refine KI.i ?_
    have es := pSkip_ge hr4
    have k4 := k3.kp p4
    rw [b2_0]
    refine ⟨fun z => ?_, fun z => ?_⟩
    · have e1 := es.1 z
      rw [if_neg (by rw [z]; decide)] at hR
      intro h5 e5
      obtain ⟨c5, p5, u5⟩ := c4.dns e5
      refine C.mono (c_cexpect (d := d + 8) (w := 93) c5 (by decide) (by omega)) ?_
      rintro o h6 ⟨p6, q6⟩
      have pk6 := (pk4.tr p5).tr p6
      cases hr6 : pExpect (Kd ts) 93 D s4 with
      | error e =>
        rw [hr6] at q6 hR
        obtain ⟨a, rfl, f, u⟩ := q6
        change R = .error e at hR
        rw [hR]
        exact KI.t (cP.er pk6 f (by omega))
      | ok y6 =>
      obtain ⟨x6, s6⟩ := y6
      rw [hr6] at q6 hR
      rw [bd_ok] at hR
      obtain ⟨rfl, c6, u6⟩ := q6
      have sl6 := c6.2.2.2.1.2
      refine KI.i ?_
      obtain ⟨-, es6⟩ := pExpect_ok hr6
      have e4 : s4.1 = s2.1 := by rw [e1]
      exact parts_end (fun h a v hk => c_X43 (d := d + 13) hk) (Or.inr (Or.inr ⟨rfl, rfl⟩)) ht pb (k4.kp (p5.tr p6)) c6 (by omega) (by simp; omega) (by simp; omega) hR
    · have e1 := es.2 (bt z)
      rw [if_pos (bt z), if_neg (by omega)] at hR
      refine IH s4 (l ++ [x2]) (bs ++ [b2]) n' h4 R (by omega) k4 c4 (by omega) (by simp; omega) (by simp; omega) ?_
      rw [hR]
      simp only [List.length_append, List.length_cons, List.length_nil, List.append_assoc, List.singleton_append]
/-- an atom of one token: its object is made ahead of the token's taking -/
theorem leaf_go {cc n : Nat} {g : Nat → St → Except Nat (Tr × St)} {F : Nat → Int32 → AH → Prop} (c : CS G h ts D s) (hu : un h + 200 * (ts.length - s.1) + 100 ≤ UB) (hn : (ftab cc).length = n) (hn5 : n ≤ 5) (hR : R = bd (pTake (Kd ts) D s) g)
    (hF : ∀ q h1 s1, hK h q = 0 → hK h1 q = cc + 1 → KP h h1 → CS G h1 ts D s1 → s1.1 = s.1 + 1 → un h1 ≤ un h + 21 → R = g s.1 s1 → F q (nI s.1) h1) :
    (hc h + 1 ≤ MC) ∧ (hs h + n ≤ MS) ∧ ∀ q6, hK h q6 = 0 → ∀ h8, h8 = nO h q6 cc → (C G mX12_take (d + 17) [.ref (gW G 7)] h8 (KI (cP G h ts D s.1 "LetMill$Exp" R) (F q6))) := by
  have hsl := c.2.2.2.1.2
  have hrm := un_rm (n := n) (h := h) (by omega)
  refine ⟨hrm.1, hrm.2, fun q hq => ?_⟩
  intro h2 e2
  obtain ⟨c2, p2, u2, hkq⟩ := nws_st c hq e2
  rw [hn] at u2
  refine C.mono (c_ctake (d := d + 10) c2 (by omega)) ?_
  rintro o h3 ⟨p3, q3⟩
  have pk3 := (p2).tr p3
  cases hr3 : pTake (Kd ts) D s with
  | error e =>
    rw [hr3] at q3 hR
    obtain ⟨a, rfl, f, u⟩ := q3
    change R = .error e at hR
    rw [hR]
    exact KI.t (cP.er pk3 f (by omega))
  | ok y3 =>
  obtain ⟨x3, s3⟩ := y3
  rw [hr3] at q3 hR
  rw [bd_ok] at hR
  obtain ⟨rfl, c3, u3⟩ := q3
  have sl3 := c3.2.2.2.1.2
  refine KI.i ?_
  obtain ⟨et, es, -⟩ := pTake_ok hr3
  subst et
  exact hF q h3 s3 hq (p3.hk hkq (by omega)) pk3 c3 (by rw [es]) (by omega) hR
theorem leaf_end {tr : Tr} (c : CS G h ts D s) (hq : hK h q = 0) (p1 : KP h h1) (c1 : CS G h1 ts D s1) (es : s1.1 = s.1 + 1) (u1 : un h1 ≤ un h + 21) (w : WQ q h1 h2) (hR : R = .ok (tr, s1)) (ot : OT ts (fun a => hK h a = 0) h2 tr 0 0 q) (ct : CT h2 q "LetMill$Exp") : cP G h ts D s.1 "LetMill$Exp" R (.returned (some (.ref q))) h2 := by
  rw [hR]
  exact ⟨w.kp p1 hq, q, rfl, w.cs c1 (c.1.nw hq), ot, ct, by omega, by rw [w.un]; omega⟩
theorem fI_eI' {p : Int32} {g : Nat} (hg : g ≠ 296) (hg2 : g ≠ 297) : fI (eI h q p) a g = fI h a g := by
  unfold eI
  rw [fI_pI, if_neg (fun e => hg e.2), fI_pI, if_neg (fun e => hg2 e.2)]
/-- an atom -/
theorem c_catom (hrd : ∀ (h : AH) (s : St), CS G h ts D s → un h + 200 * (ts.length - s.1) + 100 ≤ UB → C G mX12_round (d + 17) [.ref (gW G 7), .int (nI s.1)] h (cP G h ts D s.1 "LetMill$Exp" (bd (pTake (Kd ts) D s) fun t s' => pRound (Kd ts) P t D s')))
    (hlt : ∀ (h : AH) (s : St), CS G h ts D s → un h + 200 * (ts.length - s.1) + 100 ≤ UB → C G mX12_let (d + 17) [.ref (gW G 7), .int (nI s.1)] h (cP G h ts D s.1 "LetMill$Exp" (bd (pTake (Kd ts) D s) fun t s' => pLet (Kd ts) P t D s')))
    (he : D ≤ 30 → CH G (d + 1) ts (D + 1) "LetMill$Exp" mX12_exp [] (P 0 (D + 1))) : CH G (d + 2) ts D "LetMill$Exp" mX12_atom [] (pAtom (Kd ts) (Vl ts) P D) := by
  intro h s c hu
  have hl := c.len
  have hsl := c.2.2.2.1.2
  have hk := c.k4 hsl
  obtain ⟨R, hR⟩ : ∃ R, R = pAtom (Kd ts) (Vl ts) P D s := ⟨_, rfl⟩
  rw [← hR]
  unfold pAtom at hR
  have ex : ∀ j, Kd ts s.1 = j → isExp j = true → isExp (Kd ts s.1) = true := fun j e1 e2 => by rw [e1]; exact e2
  refine bX12_atom G (d + 17) h _ (c.1.at (by decide)) (c.1.at (by decide)) ?_
  rintro _ rfl
  rw [c.2.2.2.1.1]
  refine C.ri (c_kind c) ?_
  simp only [show (33 : Int32) = nI 33 from rfl, show (40 : Int32) = nI 40 from rfl, show (91 : Int32) = nI 91 from rfl, show (126 : Int32) = nI 126 from rfl, show (266 : Int32) = nI 266 from rfl, show (272 : Int32) = nI 272 from rfl, show (273 : Int32) = nI 273 from rfl, show (280 : Int32) = nI 280 from rfl, show (281 : Int32) = nI 281 from rfl, show (283 : Int32) = nI 283 from rfl, kd_E c (show 33 < 300 by decide), kd_E c (show 40 < 300 by decide), kd_E c (show 91 < 300 by decide), kd_E c (show 126 < 300 by decide), kd_E c (show 266 < 300 by decide), kd_E c (show 272 < 300 by decide), kd_E c (show 273 < 300 by decide), kd_E c (show 280 < 300 by decide), kd_E c (show 281 < 300 by decide), kd_E c (show 283 < 300 by decide)]
  refine ⟨fun z => ?_, fun z => ?_, fun z => ?_, fun z => ?_, fun z => ?_, fun z => ?_, fun z => ?_, fun z => ?_, fun z => ?_, fun z => ?_, fun z => ?_⟩
  · -- !
    rw [if_neg (by rw [ex 33 z rfl]; decide)] at hR
    refine leaf_go (cc := 35) (n := 3) c hu (by decide) (by decide) hR fun q h1 s1 hq hk1 p1 c1 es u1 hR => ?_
    rw [if_neg (by omega), if_neg (by omega), if_neg (by omega), if_neg (by omega), if_neg (by omega), if_pos z] at hR
    rw [nI_cn (by omega), (c1.kd hsl).1, nI_eq (by omega) (by decide)]
    refine ⟨vp_in_nI (by omega) (by decide), fun _ => ?_, fun zz => absurd z zz⟩
    refine C.mono (c_X38 (d := d + 15) hk1) ?_
    rintro _ h2 ⟨rfl, e2⟩
    have w : WQ q h1 h2 := by rw [e2]; exact WQ.rf.eI.pI
    have k2 : hK h2 q = 36 := by rw [w.2.1.1]; exact hk1
    have f0 : fI h2 q 296 = nI s.1 := by rw [e2, fI_pI, if_neg (fun e => absurd e.2 (by decide)), fI_eI]
    have f1 : fI h2 q 331 = 2 := by rw [e2, fI_pI, if_pos ⟨rfl, rfl⟩]
    exact KV.i (leaf_end c hq p1 c1 es u1 w hR (OT_nd0 (k := 6) hq (by rw [k2]; decide) (EX_bi (by decide) (by omega) (by rw [k2]; exact f0) (by rw [f1]; rfl)) (by decide)) (CT_exp k2 (by decide)))
  · -- (
    rw [if_neg (by rw [ex 40 z rfl]; decide)] at hR
    have eR : R = bd (pTake (Kd ts) D s) fun t s' => pRound (Kd ts) P t D s' := by
      rw [hR]
      cases hr : pTake (Kd ts) D s with
      | error e => rfl
      | ok y =>
        obtain ⟨t, s1⟩ := y
        obtain ⟨et, -⟩ := pTake_ok hr
        subst et
        rw [bd_ok, bd_ok, if_neg (by omega), if_neg (by omega), if_neg (by omega), if_neg (by omega), if_neg (by omega), if_neg (by omega), if_neg (by omega), if_neg (by omega), if_pos z]
    rw [eR]
    exact C.mono (hrd h s c hu) fun o h1 q => q.kr
  · -- [
    rw [if_neg (by rw [ex 91 z rfl]; decide)] at hR
    refine C.mono (c_ctake (d := d + 10) c (by omega)) ?_
    rintro o h1 ⟨p1, q1⟩
    have pk1 := (KP.rf).tr p1
    cases hr1 : pTake (Kd ts) D s with
    | error e =>
      rw [hr1] at q1 hR
      obtain ⟨a, rfl, f, u⟩ := q1
      change R = .error e at hR
      rw [hR]
      exact KI.t (cP.er pk1 f (by omega))
    | ok y1 =>
    obtain ⟨x1, s1⟩ := y1
    rw [hr1] at q1 hR
    rw [bd_ok] at hR
    obtain ⟨rfl, c1, u1⟩ := q1
    have sl1 := c1.2.2.2.1.2
    refine KI.i ?_
    obtain ⟨et, es, -⟩ := pTake_ok hr1
    have hd := pTake_le hr1
    have es1 : s1.1 = s.1 + 1 := by rw [es]
    subst et
    rw [if_neg (by omega), if_neg (by omega), if_neg (by omega), if_neg (by omega), if_neg (by omega), if_neg (by omega), if_neg (by omega), if_neg (by omega), if_neg (by omega)] at hR
    unfold pList at hR
    have hrm := un_rm (n := 2) (h := h1) (by omega)
    refine ⟨hrm.1, hrm.2, fun r hr => ?_⟩
    rintro _ rfl
    refine C.mono (r_row (d := d + 16) (E := "LetMill$Exp") c1 KP.rf hr (by omega)) ?_
    rintro _ h2 ⟨rfl, k2, c2, u2, p2, -⟩
    refine KV.i (C.ri (c_kind c2) ?_)
    rw [show (93 : Int32) = nI 93 from rfl, kd_E c2 (by decide)]
    refine ⟨fun z2 => ?_, fun z2 => ?_⟩
    · rw [if_pos z2] at hR
      have eX : pExpect (Kd ts) 93 D s1 = pTake (Kd ts) D s1 := by unfold pExpect; rw [if_pos z2]
      rw [← eX] at hR
      refine C.mono (c_cexpect (d := d + 9) (w := 93) c2 (by decide) (by omega)) ?_
      rintro o h3 ⟨p3, q3⟩
      have pk3 := (pk1.tr p2).tr p3
      cases hr3 : pExpect (Kd ts) 93 D s1 with
      | error e =>
        rw [hr3] at q3 hR
        obtain ⟨a, rfl, f, u⟩ := q3
        change R = .error e at hR
        rw [hR]
        exact KI.t (cP.er pk3 f (by omega))
      | ok y3 =>
      obtain ⟨x3, s3⟩ := y3
      rw [hr3] at q3 hR
      rw [bd_ok] at hR
      obtain ⟨rfl, c3, u3⟩ := q3
      have sl3 := c3.2.2.2.1.2
      refine KI.i ?_
      obtain ⟨-, es3⟩ := pExpect_ok hr3
      exact parts_end (d := d + 1) (fun h a v hk => c_X43 (d := d + 14) hk) (Or.inr (Or.inr ⟨rfl, rfl⟩)) (by omega) pk1 (k2.kp p3) c3 (by omega) (by simp; omega) (by simp; omega) hR
    · rw [if_neg z2, pSep_b] at hR
      intro h3 e3
      obtain ⟨c3, p3, u3⟩ := c2.ups (by omega) e3
      exact catom_249 (d := d + 1) (by omega) (he hd) pk1 hu FU s1 [] [] 4 h3 R (by unfold FU; omega) (k2.kp p3) c3 (by omega) (Nat.zero_le _) (by simp; omega) hR
  · -- ~
    rw [if_neg (by rw [ex 126 z rfl]; decide)] at hR
    refine leaf_go (cc := 35) (n := 3) c hu (by decide) (by decide) hR fun q h1 s1 hq hk1 p1 c1 es u1 hR => ?_
    rw [if_neg (by omega), if_neg (by omega), if_neg (by omega), if_neg (by omega), if_neg (by omega), if_neg (by omega), if_pos z] at hR
    rw [nI_cn (by omega), (c1.kd hsl).1, nI_eq (by omega) (by decide)]
    refine ⟨vp_in_nI (by omega) (by decide), fun zz => absurd zz (by omega), fun _ => ?_⟩
    refine C.mono (c_X38 (d := d + 15) hk1) ?_
    rintro _ h2 ⟨rfl, e2⟩
    have w : WQ q h1 h2 := by rw [e2]; exact WQ.rf.eI.pI
    have k2 : hK h2 q = 36 := by rw [w.2.1.1]; exact hk1
    have f0 : fI h2 q 296 = nI s.1 := by rw [e2, fI_pI, if_neg (fun e => absurd e.2 (by decide)), fI_eI]
    have f1 : fI h2 q 331 = 3 := by rw [e2, fI_pI, if_pos ⟨rfl, rfl⟩]
    exact KV.i (leaf_end c hq p1 c1 es u1 w hR (OT_nd0 (k := 7) hq (by rw [k2]; decide) (EX_bi (by decide) (by omega) (by rw [k2]; exact f0) (by rw [f1]; rfl)) (by decide)) (CT_exp k2 (by decide)))
  · -- let
    rw [if_neg (by rw [ex 266 z rfl]; decide)] at hR
    have eR : R = bd (pTake (Kd ts) D s) fun t s' => pLet (Kd ts) P t D s' := by
      rw [hR]
      cases hr : pTake (Kd ts) D s with
      | error e => rfl
      | ok y =>
        obtain ⟨t, s1⟩ := y
        obtain ⟨et, -⟩ := pTake_ok hr
        subst et
        rw [bd_ok, bd_ok, if_neg (by omega), if_neg (by omega), if_neg (by omega), if_neg (by omega), if_neg (by omega), if_neg (by omega), if_neg (by omega), if_pos z]
    rw [eR]
    exact C.mono (hlt h s c hu) fun o h1 q => q.kr
  · -- true
    rw [if_neg (by rw [ex 272 z rfl]; decide)] at hR
    refine leaf_go (cc := 34) (n := 4) c hu (by decide) (by decide) hR fun q h1 s1 hq hk1 p1 c1 es u1 hR => ?_
    rw [if_neg (by omega), if_neg (by omega), if_neg (by omega), if_pos z] at hR
    rw [nI_cn (by omega), (c1.kd hsl).1, nI_eq (by omega) (by decide)]
    refine ⟨vp_in_nI (by omega) (by decide), fun _ => ?_, fun zz => absurd z zz⟩
    refine C.mono (c_X37 (d := d + 15) hk1) ?_
    rintro _ h2 ⟨rfl, e2⟩
    have w : WQ q h1 h2 := by rw [e2]; exact WQ.rf.eI.pI.pI
    have k2 : hK h2 q = 35 := by rw [w.2.1.1]; exact hk1
    have f0 : fI h2 q 296 = nI s.1 := by rw [e2, fI_pI, if_neg (fun e => absurd e.2 (by decide)), fI_pI, if_neg (fun e => absurd e.2 (by decide)), fI_eI]
    have f1 : fI h2 q 329 = 1 := by rw [e2, fI_pI, if_neg (fun e => absurd e.2 (by decide)), fI_pI, if_pos ⟨rfl, rfl⟩]
    have f2 : fI h2 q 330 = 1 := by rw [e2, fI_pI, if_pos ⟨rfl, rfl⟩]
    exact KV.i (leaf_end c hq p1 c1 es u1 w hR (OT_nd (k := 4) hq (by rw [k2]; decide) (EX_cn (Or.inr rfl) (by omega) (by rw [k2]; exact f0) (by rw [f2]; rfl) (by rw [f1]; rfl)) (OT_l1 (m := 7) (g := 0) (by decide) (by decide) (OT_7 (Or.inl ⟨_, rfl⟩))) (by decide)) (CT_exp k2 (by decide)))
  · -- false
    rw [if_neg (by rw [ex 273 z rfl]; decide)] at hR
    refine leaf_go (cc := 34) (n := 4) c hu (by decide) (by decide) hR fun q h1 s1 hq hk1 p1 c1 es u1 hR => ?_
    rw [if_neg (by omega), if_neg (by omega), if_neg (by omega), if_neg (by omega), if_pos z] at hR
    rw [nI_cn (by omega), (c1.kd hsl).1, nI_eq (by omega) (by decide)]
    refine ⟨vp_in_nI (by omega) (by decide), fun zz => absurd zz (by omega), fun _ => ?_⟩
    refine C.mono (c_X37 (d := d + 15) hk1) ?_
    rintro _ h2 ⟨rfl, e2⟩
    have w : WQ q h1 h2 := by rw [e2]; exact WQ.rf.eI.pI.pI
    have k2 : hK h2 q = 35 := by rw [w.2.1.1]; exact hk1
    have f0 : fI h2 q 296 = nI s.1 := by rw [e2, fI_pI, if_neg (fun e => absurd e.2 (by decide)), fI_pI, if_neg (fun e => absurd e.2 (by decide)), fI_eI]
    have f1 : fI h2 q 329 = 1 := by rw [e2, fI_pI, if_neg (fun e => absurd e.2 (by decide)), fI_pI, if_pos ⟨rfl, rfl⟩]
    have f2 : fI h2 q 330 = 0 := by rw [e2, fI_pI, if_pos ⟨rfl, rfl⟩]
    exact KV.i (leaf_end c hq p1 c1 es u1 w hR (OT_nd (k := 4) hq (by rw [k2]; decide) (EX_cn (Or.inr rfl) (by omega) (by rw [k2]; exact f0) (by rw [f2]; rfl) (by rw [f1]; rfl)) (OT_l1 (m := 7) (g := 0) (by decide) (by decide) (OT_7 (Or.inl ⟨_, rfl⟩))) (by decide)) (CT_exp k2 (by decide)))
  · -- a name
    rw [if_neg (by rw [ex 280 z rfl]; decide)] at hR
    refine leaf_go (cc := 32) (n := 4) c hu (by decide) (by decide) hR fun q h1 s1 hq hk1 p1 c1 es u1 hR => ?_
    rw [if_pos z] at hR
    refine C.mono (c_X35 (d := d + 15) hk1) ?_
    rintro _ h2 ⟨rfl, e2⟩
    have w : WQ q h1 h2 := by rw [e2]; exact WQ.rf.eI
    have k2 : hK h2 q = 33 := by rw [w.2.1.1]; exact hk1
    have f0 : fI h2 q 296 = nI s.1 := by rw [e2, fI_eI]
    exact KV.i (leaf_end c hq p1 c1 es u1 w hR (OT_nd (k := 1) hq (by rw [k2]; decide) (EX_nm (by decide) (by omega) (by rw [k2]; exact f0)) (OT_l1 (m := 7) (g := 0) (by decide) (by decide) (OT_7 (Or.inl ⟨_, rfl⟩))) (by decide)) (CT_exp k2 (by decide)))
  · -- a constructor
    rw [if_neg (by rw [ex 281 z rfl]; decide)] at hR
    refine leaf_go (cc := 33) (n := 3) c hu (by decide) (by decide) hR fun q h1 s1 hq hk1 p1 c1 es u1 hR => ?_
    rw [if_neg (by omega), if_pos z] at hR
    refine C.mono (c_X36 (d := d + 15) hk1) ?_
    rintro _ h2 ⟨rfl, e2⟩
    have w : WQ q h1 h2 := by rw [e2]; exact WQ.rf.eI
    have k2 : hK h2 q = 34 := by rw [w.2.1.1]; exact hk1
    have f0 : fI h2 q 296 = nI s.1 := by rw [e2, fI_eI]
    exact KV.i (leaf_end c hq p1 c1 es u1 w hR (OT_nd (k := 2) hq (by rw [k2]; decide) (EX_nm (by decide) (by omega) (by rw [k2]; exact f0)) (OT_l1 (m := 7) (g := 0) (by decide) (by decide) (OT_7 (Or.inl ⟨_, rfl⟩))) (by decide)) (CT_exp k2 (by decide)))
  · -- a number
    rw [if_neg (by rw [ex 283 z rfl]; decide)] at hR
    refine leaf_go (cc := 34) (n := 4) c hu (by decide) (by decide) hR fun q h1 s1 hq hk1 p1 c1 es u1 hR => ?_
    rw [if_neg (by omega), if_neg (by omega), if_pos z] at hR
    have hvl : Vl ts s.1 < 2147483648 := by
      have := c.2.2.1.1 ts[s.1] (List.getElem_mem hsl)
      unfold Kd at z
      unfold Vl
      rw [List.getD, List.getElem?_eq_getElem hsl] at z ⊢
      exact this.2.2 z
    rw [nI_cn (by omega), (c1.kd hsl).2.2.2 z]
    refine ⟨vp_in_nI (by omega) (by decide), C.mono (c_X37 (d := d + 15) hk1) ?_⟩
    rintro _ h2 ⟨rfl, e2⟩
    have w : WQ q h1 h2 := by rw [e2]; exact WQ.rf.eI.pI.pI
    have k2 : hK h2 q = 35 := by rw [w.2.1.1]; exact hk1
    have f0 : fI h2 q 296 = nI s.1 := by rw [e2, fI_pI, if_neg (fun e => absurd e.2 (by decide)), fI_pI, if_neg (fun e => absurd e.2 (by decide)), fI_eI]
    have f1 : fI h2 q 329 = 0 := by rw [e2, fI_pI, if_neg (fun e => absurd e.2 (by decide)), fI_pI, if_pos ⟨rfl, rfl⟩]
    have f2 : (fI h2 q 330).toInt = (Vl ts s.1 : Int) := by rw [e2, fI_pI, if_pos ⟨rfl, rfl⟩]; exact lN_i32 hvl
    exact KV.i (leaf_end c hq p1 c1 es u1 w hR (OT_nd (k := 3) hq (by rw [k2]; decide) (EX_cn (Or.inl rfl) (by omega) (by rw [k2]; exact f0) f2 (by rw [f1]; rfl)) (OT_l1 (m := 7) (g := 0) (by decide) (by decide) (OT_7 (Or.inl ⟨_, rfl⟩))) (by decide)) (CT_exp k2 (by decide)))
  · obtain ⟨z1, z2, z3, z4, z5, z6, z7, z8, z9, z10⟩ := z
    rw [if_pos (by simp [isExp, z1, z2, z3, z4, z5, z6, z7, z8, z9, z10])] at hR
    refine C.mono (c_wrong (d := d + 11) c (by omega)) ?_
    rintro _ h3 ⟨a, rfl, p3, f, u⟩
    rw [hR]
    exact KR.i (cP.er p3 f (by omega))
end
