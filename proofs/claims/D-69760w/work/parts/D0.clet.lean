/-! THE COMPONENT'S READER: let -/
/-- the token of a node -/
def tk0 : Tr → Int
  | .mulL _ x => tkn x
  | _ => -1
theorem exp_tf : ∀ k, k < 56 → (cname k, "LetMill$Exp") ∈ castL → tf (k + 1) = 296 ∧ (296, 0) ∈ ftab k := by decide +kernel
section
variable {G : Gh} {d : Nat} {h hb hm h0 h1 h2 h3 h4 h' : AH} {ts : List (Nat × Nat × Nat)} {s s1 s2 s4 : St} {D D0 k i q a b t r r3 n n3 m p arr so be L g t0 : Nat} {s0 : St} {N N' : Nat → Prop} {E : String} {x y e p0 : Tr} {l ds vs : List Tr} {bs bs3 : List Nat} {sl : List Int32} {P : Nat → Nat → St → Except Nat (Tr × St)} {R : Except Nat (Tr × St)}
theorem tok_of (ot : OT ts N h x 0 0 b) (ct : CT h b "LetMill$Exp") (e : tk0 x = t) (ht : t < 5000) : fI h b 296 = nI t ∧ HF h b 296 0 := by
  obtain ⟨c, c1, c2, c3⟩ := ct
  have hc := exp_tf c c1 c3
  refine ⟨?_, c, c1, c2, hc.2⟩
  cases x with
  | mulL kk y =>
    unfold OT at ot
    obtain ⟨b', k1, k2, k3, k4, ex, -⟩ := ot
    rw [ef_lt (by decide)] at k1
    cases k1
    have := ex.2.2.1
    rw [c2, hc.1] at this
    have e' : tkn y = t := e
    rw [i_eq, nI_toInt (by omega), this, e']
  | num v => unfold OT at ot; rw [ef_lt (by omega)] at ot; simp at ot
  | add _ _ => unfold OT at ot; rw [ef_lt (by omega)] at ot; simp at ot
  | var _ => unfold OT at ot; exact ot.elim
  | sub _ _ => unfold OT at ot; exact ot.elim
  | neg _ => unfold OT at ot; exact ot.elim
  | mulR _ _ => unfold OT at ot; exact ot.elim
theorem mkLet_2 (hl : 2 ≤ l.length) : mkLet t t0 ds l = n2 11 t (ls ds) (n1 9 t0 (ls l)) := by
  cases l with
  | nil => simp at hl
  | cons a r =>
    cases r with
    | nil => simp at hl
    | cons b r => rfl
theorem clet_65 (ht : t < 5000) (ht0 : t0 < 5000) (he : CH G d ts (D + 1) "LetMill$Exp" mX12_exp [] (P 0 (D + 1))) (hTk : ∀ (s : St) x s', P 0 (D + 1) s = .ok (x, s') → tk0 x = s.1) (pb : KP h hb) (kd : RB G hb hm ts "LetMill$Dec" ds r3 bs3 n3) (hB : un h + 200 * (ts.length - t) + 100 ≤ UB) :
    ∀ f (s : St) l bs n h1 R, ts.length - s.1 < f + 1 → RB G hm h1 ts "LetMill$Exp" l r bs n → CS G h1 ts (D + 1) s → t < s.1 → bs.length ≤ s.1 → (l = [] → s.1 = t0) → (∀ x0, l.head? = some x0 → tk0 x0 = t0) → un h1 + (12 * bs.length - 6 * n) + 100 + bs.length ≤ un h + 200 * (s.1 - t) →
    R = bd (P 0 (D + 1) s) (fun a s => bd (pMore (pSkip (Kd ts) 59 (D + 1)) (P 0 (D + 1)) 0 f (l.length + 1) s) fun r s => bd (pExpect (Kd ts) 261 D s) fun _ s => .ok (mkLet t t0 ds (l ++ a :: r), s)) →
    X G mX12_let (d + 17) none [] 65 [(0, .ref (gW G 7)), (1, .int (nI t)), (3, .ref r3), (4, .ref r)] [] h1 (cP G h ts D t "LetMill$Exp" R) := by
  intro f
  induction f with
  | zero =>
    intro s l bs n h1 R hf k c
    have hsl := c.2.2.2.1.2
    omega
  | succ f IH =>
    intro s l bs n h1 R hf k c hts hbs hf0 hf1 hU hR
    have hl := c.len
    have hsl := c.2.2.2.1.2
    have hlen : l.length = bs.length := k.2.2.2.1.1
    have pm := pb.tr kd.1
    refine bX12_let_65 G (d + 16) h1 _ _ _ _ (c.1.at (by decide)) ?_
    refine C.mono (he h1 s c (by omega)) ?_
    rintro o h2 ⟨p2, q2⟩
    have pk2 := (pm.tr k.1).tr p2
    cases hr2 : P 0 (D + 1) s with
    | error e =>
      rw [hr2] at q2 hR
      obtain ⟨a, rfl, f, u⟩ := q2
      change R = .error e at hR
      rw [hR]
      exact KR.t (cP.er pk2 f (by omega))
    | ok y2 =>
    obtain ⟨x2, s2⟩ := y2
    rw [hr2] at q2 hR
    rw [bd_ok] at hR
    obtain ⟨b2, rfl, c2, ot2, ct2, hs2, u2⟩ := q2
    have sl2 := c2.2.2.2.1.2
    refine KR.i ?_
    refine ⟨(k.kp p2).2.1.1, C.mono (r_add (d := d + 14) k p2 c2 ot2 ct2 (by omega) (Nat.le_refl _) (by omega)) ?_⟩
    rintro _ h3 ⟨rfl, c3, n', k3, u3⟩
    have hf2 : ∀ x0, (l ++ [x2]).head? = some x0 → tk0 x0 = t0 := by
      intro x0 hx
      cases l with
      | nil =>
        cases hx
        rw [hTk _ _ _ hr2, hf0 rfl]
      | cons y l => exact hf1 x0 hx
    rw [pMore_b] at hR
    refine KV.i ?_
    refine C.mono (c_cskip (d := d + 8) (w := 59) c3 (by decide) (by omega)) ?_
    rintro o h4 ⟨p4, q4⟩
    have pk4 := (pm.tr k3.1).tr p4
    cases hr4 : pSkip (Kd ts) 59 (D + 1) s2 with
    | error e =>
      rw [hr4] at q4 hR
      obtain ⟨a, rfl, f, u⟩ := q4
      change R = .error e at hR
      rw [hR]
      exact KI.t (cP.er pk4 f (by omega))
    | ok y4 =>
    obtain ⟨x4, s4⟩ := y4
    rw [hr4] at q4 hR
    rw [bd_ok] at hR
    obtain ⟨rfl, c4, u4⟩ := q4
    have sl4 := c4.2.2.2.1.2
    refine KI.i ?_
    have es := pSkip_ge hr4
    have k4 := k3.kp p4
    rw [b2_0]
    refine ⟨fun z => ?_, fun z => ?_⟩
    · have e1 := es.1 z
      have e4 : s4.1 = s2.1 := by rw [e1]
      rw [if_neg (by rw [z]; decide)] at hR
      intro h5 e5
      obtain ⟨c5, p5, u5⟩ := c4.dns e5
      refine C.mono (c_cexpect (d := d + 8) (w := 261) c5 (by decide) (by omega)) ?_
      rintro o h6 ⟨p6, q6⟩
      have pk6 := (pk4.tr p5).tr p6
      cases hr6 : pExpect (Kd ts) 261 D s4 with
      | error e =>
        rw [hr6] at q6 hR
        obtain ⟨a, rfl, f, u⟩ := q6
        change R = .error e at hR
        rw [hR]
        exact KI.t (cP.er pk6 f (by omega))
      | ok y6 =>
      obtain ⟨x6, s6⟩ := y6
      rw [hr6] at q6 hR
      rw [bd_ok] at hR
      obtain ⟨rfl, c6, u6⟩ := q6
      have sl6 := c6.2.2.2.1.2
      refine KI.i ?_
      obtain ⟨-, es6⟩ := pExpect_ok hr6
      have k6 := k4.kp (p5.tr p6)
      have hrm := un_rm (n := 4) (h := h6) (by omega)
      refine ⟨hrm.1, hrm.2, fun q hq => ?_⟩
      intro h7 e7
      obtain ⟨c7, p7, u7, hk7⟩ := nws_st c6 hq e7
      have e16 : (ftab 16).length = 4 := by decide
      have e38 : (ftab 38).length = 3 := by decide
      rw [e16] at u7
      have k7 := k6.kp p7
      rw [k7.2.1.2.1, show (1 : Int32) = nI 1 from rfl, nI_eq (by simp; omega) (by decide), show (0 : Int32) = nI 0 from rfl]
      have hm7 : KP hm h7 := k7.1
      cases l with
      | nil =>
        have hb0 : bs = [] := List.eq_nil_of_length_eq_zero hlen.symm
        subst hb0
        refine ⟨fun _ => ?_, fun z1 => absurd rfl z1⟩
        refine C.mono (c_rexp (d := d + 15) (i := 0) k7.2.1 (show ([] ++ [b2])[0]? = some b2 from rfl) (k7.2.2.2.2 b2 (by simp))) ?_
        rintro _ _ ⟨rfl, rfl⟩
        refine KR.i (C.mono (c_X17 (d := d + 14) hk7) ?_)
        rintro _ h8 ⟨rfl, e8⟩
        rw [e7] at e8
        have w : WQ q (nO h6 q 16) h8 := by rw [e8]; exact WQ.rf.eI.pR.pR
        have f0 : fI h8 q 296 = nI t := by rw [e8, fI_pR, fI_pR, fI_eI]
        have f1 : fR h8 q 298 = some r3 := by rw [e8, fR_pR, if_neg (fun e => absurd e.2 (by decide)), fR_pR, if_pos ⟨rfl, rfl⟩]
        have f2 : fR h8 q 299 = some b2 := by rw [e8, fR_pR, if_pos ⟨rfl, rfl⟩]
        have hk8 : hK h8 q = 17 := by rw [w.2.1.1, hK_nO, if_pos rfl]
        have p68 : KP h6 h8 := w.kp (KP.rf.nO hq) hq
        have k8 := k6.kp p68
        have oe : OT ts (fun a => hK h a = 0) h8 x2 0 0 b2 := (k8.tl0.cons.1).wk fun a ha => pm.fresh ha
        have od : OT ts (fun a => hK h a = 0) h8 (ls ds) 22 298 q := ((kd.kp k8.1).row f1).wkm (fun a ha => pb.fresh ha) (by decide)
        rw [hR]
        exact KV.i (fin_nd pk6 c6 hq w (OT_nd (k := 11) (pk6.fresh hq) (by rw [hk8]; decide) (EX_pl (by decide) ht (by rw [hk8]; exact f0)) (OT_c2 (by decide) (by decide) od ((OT_ef (m' := 1) (i' := 299) (by decide) (by decide)).mpr (OT_f f2 oe))) (by decide)) (CT_exp hk8 (by decide)) (by omega) (by rw [e16]; omega))
      | cons y0 l =>
        cases bs with
        | nil => simp at hlen
        | cons b0 bs =>
        refine ⟨fun z1 => (by simp at z1), fun _ => ?_⟩
        rw [mkLet_2 (by simp)] at hR
        simp only [List.length_cons] at hlen hbs hU u3
        have hrm2 := un_rm (n := 3) (h := h7) (by omega)
        refine ⟨hrm2.1, hrm2.2, fun q2 hq2 => ?_⟩
        intro h8 e8
        obtain ⟨c8, p8, u8, hk8⟩ := nws_st c7 hq2 e8
        rw [e38] at u8
        have k8 := k7.kp p8
        refine C.mono (c_rexp (d := d + 15) (i := 0) k8.2.1 (show ((b0 :: bs) ++ [b2])[0]? = some b0 from rfl) (k8.2.2.2.2 b0 (by simp))) ?_
        rintro _ h8' ⟨rfl, e8'⟩
        rw [e8']
        obtain ⟨ft, hft⟩ := tok_of (k8.tl0.cons.1) (k8.2.2.2.2 b0 (by simp)) (hf2 y0 rfl) ht0
        refine KR.i ⟨hft, ?_⟩
        rw [ft]
        refine C.mono (c_expsOf (d := d + 13) k8.2.1 c8.1 k8.2.2.2.2 (by simp; omega)) ?_
        rintro _ h9 ⟨ar, rfl, har, p9, ka, la, aa, u9, f9⟩
        have c9 := c8.kp p9 (f9 _) (f9 _) (f9 _) (f9 _)
        have u9' : un h9 = un h8 + 16 + (bs.length + 2) := by rw [u9]; simp
        refine KR.i (C.mono (c_X42 (d := d + 13) (p9.hk hk8 (by decide))) ?_)
        rintro _ h10 ⟨rfl, e10⟩
        have w1 : WQ q2 h9 h10 := by rw [e10]; exact WQ.rf.eI.pR
        have f0 : fI h10 q2 296 = nI t0 := by rw [e10, fI_pR, fI_eI]
        have f1 : fR h10 q2 333 = some ar := by rw [e10, fR_pR, if_pos ⟨rfl, rfl⟩]
        clear e10
        have hq2' : hK h10 q2 = 39 := by rw [w1.2.1.1]; exact p9.hk hk8 (by decide)
        have p710 : KP h7 h10 := w1.kp (p8.tr p9) hq2
        have c10 := w1.cs c9 (c7.1.nw hq2)
        refine KV.i (C.mono (c_X17 (d := d + 14) (p710.hk hk7 (by decide))) ?_)
        rintro _ h11 ⟨rfl, e11⟩
        have w : WQ q h10 h11 := by rw [e11]; exact WQ.rf.eI.pR.pR
        have g0 : fI h11 q 296 = nI t := by rw [e11, fI_pR, fI_pR, fI_eI]
        have g1 : fR h11 q 298 = some r3 := by rw [e11, fR_pR, if_neg (fun e => absurd e.2 (by decide)), fR_pR, if_pos ⟨rfl, rfl⟩]
        have g2 : fR h11 q 299 = some q2 := by rw [e11, fR_pR, if_pos ⟨rfl, rfl⟩]
        clear e11
        have hk11 : hK h11 q = 17 := by rw [w.2.1.1]; exact p710.hk hk7 (by decide)
        have hqq : q2 ≠ q := fun e => by rw [e, hk7] at hq2; cases hq2
        have hqa : ar ≠ q := fun e => by rw [e] at har; have := p8.hk hk7 (by decide); omega
        have hqa2 : ar ≠ q2 := fun e => by rw [e] at har; omega
        have p611 : KP h6 h11 := w.kp (p7.tr p710) hq
        have k11 := k6.kp p611
        have tl : TL ts (fun a => hK h a = 0) h11 ((y0 :: l) ++ [x2]) ((b0 :: bs) ++ [b2]) := k11.tl0.wk fun a ha => pm.fresh ha
        have od : OT ts (fun a => hK h a = 0) h11 (ls ds) 22 298 q := ((kd.kp k11.1).row g1).wkm (fun a ha => pb.fresh ha) (by decide)
        have uq2 := w.uk hqq
        have uar := (w1.uk hqa2).tr (w.uk hqa)
        have pq2 := pk6.fresh (p7.fresh hq2)
        have par := pk6.fresh (p7.fresh (p8.fresh har))
        have oq : OT ts (fun a => hK h a = 0) h11 (n1 9 t0 (ls ((y0 :: l) ++ [x2]))) 0 0 q2 := by
          refine OT_nd (k := 9) pq2 (by rw [uq2.1, hq2']; decide) (EX_pl (by decide) ht0 (by rw [uq2.1, hq2']; exact ((uq2.2.2.2.2.2 296 (by decide)).1).trans f0)) (OT_l1 (m := 21) (g := 333) (by decide) (by decide) (OT_arr tl ⟨((uq2.2.2.2.2.2 333 (by decide)).2.2).trans f1, (uar.1.trans ka), par⟩ (by rw [uar.2.1, la]; simp at hlen ⊢; omega) fun j b hj => by rw [uar.2.2.2.2.1]; exact aa j b hj)) (by decide)
        rw [hR]
        refine KV.i ⟨pk6.tr p611, q, rfl, w.cs c10 (c6.1.nw hq), OT_nd (k := 11) (pk6.fresh hq) (by rw [hk11]; decide) (EX_pl (by decide) ht (by rw [hk11]; exact g0)) (OT_c2 (by decide) (by decide) od ((OT_ef (m' := 1) (i' := 299) (by decide) (by decide)).mpr (OT_f g2 oq))) (by decide), CT_exp hk11 (by decide), by omega, ?_⟩
        rw [w.un, w1.un]
        omega
    · have e1 := es.2 (bt z)
      rw [if_pos (bt z), if_neg (by omega)] at hR
      refine IH s4 (l ++ [x2]) (bs ++ [b2]) n' h4 R (by omega) k4 c4 (by omega) (by simp; omega) (fun q => by simp at q) hf2 (by simp; omega) ?_
      rw [hR]
      simp only [List.length_append, List.length_cons, List.length_nil, List.append_assoc, List.singleton_append]
theorem clet_23 (ht : t < 5000) (he : CH G d ts (D + 1) "LetMill$Exp" mX12_exp [] (P 0 (D + 1))) (hdc : CH G d ts (D + 1) "LetMill$Dec" mX12_dec [] (P 6 (D + 1))) (hTk : ∀ (s : St) x s', P 0 (D + 1) s = .ok (x, s') → tk0 x = s.1) (pb : KP h hb) (hB : un h + 200 * (ts.length - t) + 100 ≤ UB) :
    ∀ f (s : St) l bs n h1 R, ts.length - s.1 < f → RB G hb h1 ts "LetMill$Dec" l r bs n → CS G h1 ts (D + 1) s → t < s.1 → bs.length ≤ s.1 → un h1 + (12 * bs.length - 6 * n) + 100 ≤ un h + 200 * (s.1 - t) →
    R = bd (pWhile (fun s => isDc (Kd ts s.1)) (pDecS (Kd ts) P (D + 1)) f s) (fun ds s => bd (pExpect (Kd ts) 265 (D + 1) s) fun _ s1 => bd (pSep (Kd ts) 59 (D + 1) 0 (P 0 (D + 1)) s1) fun l2 s => bd (pExpect (Kd ts) 261 D s) fun _ s => .ok (mkLet t s1.1 (l ++ ds) l2, s)) →
    X G mX12_let (d + 17) none [] 23 [(0, .ref (gW G 7)), (1, .int (nI t)), (3, .ref r)] [] h1 (cP G h ts D t "LetMill$Exp" R) := by
  intro f
  induction f with
  | zero => intro s l bs n h1 R hf; omega
  | succ f IH =>
    intro s l bs n h1 R hf k c hts hbs hU hR
    have hl := c.len
    have hsl := c.2.2.2.1.2
    have hlen : l.length = bs.length := k.2.2.2.1.1
    refine bX12_let_23 G (d + 16) h1 _ _ _ (c.1.at (by decide)) (C.ri (c_isDc (d := d + 15) c) ?_)
    rw [b2_0]
    rw [pWhile_b] at hR
    refine ⟨fun z => ?_, fun z => ?_⟩
    · rw [if_neg (show ¬ (isDc (Kd ts s.1) = true) by rw [z]; decide), List.append_nil] at hR
      refine C.mono (c_cexpect (d := d + 8) (w := 265) c (by decide) (by omega)) ?_
      rintro o h2 ⟨p2, q2⟩
      have pk2 := (pb.tr k.1).tr p2
      cases hr2 : pExpect (Kd ts) 265 (D + 1) s with
      | error e =>
        rw [hr2] at q2 hR
        obtain ⟨a, rfl, f, u⟩ := q2
        change R = .error e at hR
        rw [hR]
        exact KI.t (cP.er pk2 f (by omega))
      | ok y2 =>
      obtain ⟨x2, s2⟩ := y2
      rw [hr2] at q2 hR
      rw [bd_ok] at hR
      obtain ⟨rfl, c2, u2⟩ := q2
      have sl2 := c2.2.2.2.1.2
      refine KI.i ?_
      obtain ⟨-, es2⟩ := pExpect_ok hr2
      have k2 := k.kp p2
      have hrm := un_rm (n := 2) (h := h2) (by omega)
      refine ⟨hrm.1, hrm.2, fun q hq => ?_⟩
      rintro _ rfl
      refine C.mono (r_row (d := d + 15) (E := "LetMill$Exp") c2 KP.rf hq (by omega)) ?_
      rintro _ h3 ⟨rfl, k3, c3, u3, p3, -⟩
      rw [pSep_b] at hR
      exact KV.i (clet_65 ht (by omega) he hTk pb k2 hB FU s2 [] [] 4 h3 R (by unfold FU; omega) k3 c3 (by omega) (Nat.zero_le _) (fun _ => rfl) (fun x0 hx => (by cases hx)) (by simp; omega) hR)
    · rw [if_pos (show isDc (Kd ts s.1) = true from bt z)] at hR
      rw [show pDecS (Kd ts) P (D + 1) s = bd (P 6 (D + 1) s) fun x s => bd (pExpect (Kd ts) 59 (D + 1) s) fun _ s => .ok (x, s) from rfl] at hR
      rw [bd_assoc] at hR
      refine C.mono (hdc h1 s c (by omega)) ?_
      rintro o h2 ⟨p2, q2⟩
      have pk2 := (pb.tr k.1).tr p2
      cases hr2 : P 6 (D + 1) s with
      | error e =>
        rw [hr2] at q2 hR
        obtain ⟨a, rfl, f, u⟩ := q2
        change R = .error e at hR
        rw [hR]
        exact KR.t (cP.er pk2 f (by omega))
      | ok y2 =>
      obtain ⟨x2, s2⟩ := y2
      rw [hr2] at q2 hR
      rw [bd_ok] at hR
      obtain ⟨b2, rfl, c2, ot2, ct2, hs2, u2⟩ := q2
      have sl2 := c2.2.2.2.1.2
      refine KR.i ?_
      refine ⟨(k.kp p2).2.1.1, C.mono (r_add (d := d + 14) k p2 c2 ot2 ct2 (by omega) (Nat.le_refl _) (by omega)) ?_⟩
      rintro _ h3 ⟨rfl, c3, n', k3, u3⟩
      refine KV.i ?_
      rw [bd_assoc] at hR
      refine C.mono (c_cexpect (d := d + 8) (w := 59) c3 (by decide) (by omega)) ?_
      rintro o h4 ⟨p4, q4⟩
      have pk4 := (pb.tr k3.1).tr p4
      cases hr4 : pExpect (Kd ts) 59 (D + 1) s2 with
      | error e =>
        rw [hr4] at q4 hR
        obtain ⟨a, rfl, f, u⟩ := q4
        change R = .error e at hR
        rw [hR]
        exact KI.t (cP.er pk4 f (by omega))
      | ok y4 =>
      obtain ⟨x4, s4⟩ := y4
      rw [hr4] at q4 hR
      rw [bd_ok] at hR
      obtain ⟨rfl, c4, u4⟩ := q4
      have sl4 := c4.2.2.2.1.2
      refine KI.i ?_
      obtain ⟨-, es4⟩ := pExpect_ok hr4
      rw [bd_ok] at hR
      refine IH s4 (l ++ [x2]) (bs ++ [b2]) n' h4 R (by omega) (k3.kp p4) c4 (by omega) (by simp; omega) (by simp; omega) ?_
      rw [hR]
      simp only [List.append_assoc, List.singleton_append]
/-- let -/
theorem c_clet (he : D ≤ 30 → CH G d ts (D + 1) "LetMill$Exp" mX12_exp [] (P 0 (D + 1))) (hdc : D ≤ 30 → CH G d ts (D + 1) "LetMill$Dec" mX12_dec [] (P 6 (D + 1))) (hTk : ∀ (s : St) x s', P 0 (D + 1) s = .ok (x, s') → tk0 x = s.1) : ∀ (h : AH) (s : St), CS G h ts D s → un h + 200 * (ts.length - s.1) + 100 ≤ UB → C G mX12_let (d + 17) [.ref (gW G 7), .int (nI s.1)] h (cP G h ts D s.1 "LetMill$Exp" (bd (pTake (Kd ts) D s) fun t s' => pLet (Kd ts) P t D s')) := by
  intro h s c hu
  have hl := c.len
  have hsl := c.2.2.2.1.2
  obtain ⟨R, hR⟩ : ∃ R, R = bd (pTake (Kd ts) D s) fun t s' => pLet (Kd ts) P t D s' := ⟨_, rfl⟩
  rw [← hR]
  refine bX12_let G (d + 16) h _ _ (c.1.at (by decide)) ?_
  refine C.mono (c_ctake (d := d + 9) c (by omega)) ?_
  rintro o h1 ⟨p1, q1⟩
  have pk1 := (KP.rf).tr p1
  cases hr1 : pTake (Kd ts) D s with
  | error e =>
    rw [hr1] at q1 hR
    obtain ⟨a, rfl, f, u⟩ := q1
    change R = .error e at hR
    rw [hR]
    exact KI.t (cP.er pk1 f (by omega))
  | ok y1 =>
  obtain ⟨x1, s1⟩ := y1
  rw [hr1] at q1 hR
  rw [bd_ok] at hR
  obtain ⟨rfl, c1, u1⟩ := q1
  have sl1 := c1.2.2.2.1.2
  refine KI.i ?_
  obtain ⟨et, es, -⟩ := pTake_ok hr1
  have hd := pTake_le hr1
  have es1 : s1.1 = s.1 + 1 := by rw [es]
  subst et
  unfold pLet at hR
  intro h2 e2
  obtain ⟨c2, p2, u2⟩ := c1.ups (by omega) e2
  have hrm := un_rm (n := 2) (h := h2) (by omega)
  refine ⟨hrm.1, hrm.2, fun r hr => ?_⟩
  rintro _ rfl
  refine C.mono (r_row (d := d + 15) (E := "LetMill$Dec") c2 KP.rf hr (by omega)) ?_
  rintro _ h3 ⟨rfl, k3, c3, u3, p3, -⟩
  exact KV.i (clet_23 (by omega) (he hd) (hdc hd) hTk (pk1.tr p2) hu FU s1 [] [] 4 h3 R (by unfold FU; omega) k3 c3 (by omega) (Nat.zero_le _) (by simp; omega) hR)
end
