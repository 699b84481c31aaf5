/-! THE COMPONENT'S READER: types applied, all types -/
section
variable {G : Gh} {d : Nat} {h h1 h2 h3 h4 h' : AH} {ts : List (Nat × Nat × Nat)} {s s1 s2 : St} {D k i q a b t r n : Nat} {N : Nat → Prop} {E : String} {x p0 : Tr} {l : List Tr} {bs : List Nat} {P : Nat → Nat → St → Except Nat (Tr × St)}
theorem RowC.wq (k : RowC h r bs n) (w : WQ q h h') (hk : hK h q = 48) : RowC h' r bs n := by
  obtain ⟨k1, k2, k3, k7, k8, arr, k4, k5, k6, k9⟩ := k
  have hr : r ≠ q := fun e => by rw [e] at k1; omega
  refine ⟨by rw [w.2.1.1]; exact k1, (w.2.2 r 78 hr).1.trans k2, k3, k7, k8, arr, (w.2.2 r 77 hr).2.2.trans k4, by rw [w.2.1.1]; exact k5, by rw [w.2.1.2.1]; exact k6, fun i x hx => ?_⟩
  obtain ⟨sp, e1, e2, e3⟩ := k9 i x hx
  have hsp : sp ≠ q := fun e => by rw [e] at e2; omega
  exact ⟨sp, by rw [w.2.1.2.2.2.2]; exact e1, by rw [w.2.1.1]; exact e2, (w.2.2 sp 79 hsp).2.2.trans e3⟩
theorem len1 {α : Type} {l : List α} (h : l.length = 1) : ∃ x, l = [x] := by
  cases l with
  | nil => simp at h
  | cons a r =>
    cases r with
    | nil => exact ⟨a, rfl⟩
    | cons b r => simp at h
theorem c_rty {r n b : Nat} {bs : List Nat} (c : RowC h r bs n) (hb : bs[i]? = some b) (hp : CT h b "LetMill$Ty") : C G mX7_ty (d + 1) [.ref r, .int (nI i)] h (Ret (.ref b) h) := by
  refine bX7_ty G d h _ _ _ ⟨c.1, C.mono (c_get c hb) ?_⟩
  rintro _ _ ⟨rfl, rfl⟩
  exact KR.i ⟨hp, rfl, rfl⟩
theorem appl_52 (k : RB G h h4 ts "LetMill$Ty" l r bs n) (hkq : hK h4 q = 48) (pq : hK h q = 0) (tl0 : TL ts (fun a => hK h a = 0 ∧ a ≠ q) h4 l bs) (ht : t < 5000) :
    OT ts (fun a => hK h a = 0) (pR (pI h4 q 354 (nI t)) q 355 (some r)) (n2 58 t (.num (Vl ts t)) (ls l)) 0 0 q ∧ CT (pR (pI h4 q 354 (nI t)) q 355 (some r)) q "LetMill$Ty" := by
  have w : WQ q h4 (pR (pI h4 q 354 (nI t)) q 355 (some r)) := WQ.rf.pI.pR
  have hrl := k.2.1.1
  have hrq : r ≠ q := fun e => by rw [e] at hrl; omega
  have tl : TL ts (fun a => hK h a = 0) (pR (pI h4 q 354 (nI t)) q 355 (some r)) l bs := tl0.mv fun a ha _ => ⟨w.uk ha.2, ha.1⟩
  have hk3 : hK (pR (pI h4 q 354 (nI t)) q 355 (some r)) q = 48 := hkq
  have rc := k.2.1.wq w hkq
  have nn := k.nn
  refine ⟨OT_nd (k := 58) pq (by rw [hk3]; decide) (EX_n2 (by decide) ht (by rw [hk3]; show fI (pR (pI h4 q 354 (nI t)) q 355 (some r)) q 354 = _; rw [fI_pR, fI_pI, if_pos ⟨rfl, rfl⟩])) (OT_c2 (by decide) (by decide) (OT_7 (Or.inl ⟨_, rfl⟩)) ((OT_ef (m' := 22) (i' := 355) (by decide) (by decide)).mpr (OT_row tl (by rw [fR_pR, if_pos ⟨rfl, rfl⟩]) rc ⟨nn.1, fun arr' e => ?_⟩))) (by decide), CT_ty hk3 (by decide)⟩
  rw [(w.2.2 r 77 hrq).2.2] at e
  exact nn.2 arr' e
theorem cappl_40 (hd : D ≤ 30) (ht5 : t < 5000) (hp : CH G d ts (D + 1) "LetMill$Ty" mX12_ty [] (P 3 (D + 1))) (hB : un h + 200 * (ts.length - t) + 100 ≤ UB) :
    ∀ f (s : St) l bs n h1 R, ts.length - s.1 < f → RB G h h1 ts "LetMill$Ty" l r bs n → CS G h1 ts (D + 1) s → t < s.1 → 1 ≤ l.length → l.length ≤ 6 → un h1 + (12 * bs.length - 6 * n) + 40 ≤ un h + 200 * (s.1 - t) →
    R = bd (pMore (pSkip (Kd ts) 44 (D + 1)) (P 3 (D + 1)) 6 f l.length s) (fun r s => aEnd ts D (l ++ r) s) →
    X G mX12_applied (d + 17) none [] 40 [(0, .ref (gW G 7)), (3, .ref r)] [] h1 (cP G h ts D t "LetMill$Ty" R) := by
  intro f
  induction f with
  | zero => intro s l bs n h1 R hf; omega
  | succ f IH =>
    intro s l bs n h1 R hf k c ht h1l h6 hU hR
    have hl := c.len
    have hsl := c.2.2.2.1.2
    have hlen : l.length = bs.length := k.2.2.2.1.1
    rw [pMore_b] at hR
    refine bX12_applied_40 G (d + 16) h1 _ _ (c.1.at (by decide)) ?_
    refine C.mono (c_cskip (d := d + 8) (w := 44) c (by decide) (by omega)) ?_
    rintro o h2 ⟨p2, q⟩
    have k2 := k.kp p2
    cases hr : pSkip (Kd ts) 44 (D + 1) s with
    | error e =>
      rw [hr] at q hR
      obtain ⟨a, rfl, f, u⟩ := q
      change R = .error e at hR
      rw [hR]
      exact KI.t (cP.er k2.1 f (by omega))
    | ok y =>
    obtain ⟨b0, s2⟩ := y
    rw [hr] at q hR
    obtain ⟨rfl, c2, u2⟩ := q
    have es := pSkip_ge hr
    have hs2l := c2.2.2.2.1.2
    refine KI.i ?_
    rw [b2_0]
    refine ⟨fun z => ?_, fun z => ?_⟩
    · have e1 := es.1 z
      subst e1 z
      change R = aEnd ts D (l ++ []) s2 at hR
      rw [List.append_nil] at hR
      unfold aEnd at hR
      rintro _ rfl
      refine C.mono (c_cexpect (d := d + 8) (w := 41) c2.dn (by decide) (by rw [un_pI]; omega)) ?_
      rintro o h6 ⟨p6, q6⟩
      rw [un_pI] at q6
      have k6 := k2.kp ((kp_rd (G := G) (by decide)).tr p6)
      cases hr6 : pExpect (Kd ts) 41 D s2 with
      | error e =>
        rw [hr6] at q6 hR
        obtain ⟨a, rfl, f, u⟩ := q6
        change R = .error e at hR
        rw [hR]
        exact KI.t (cP.er k6.1 f (by omega))
      | ok y6 =>
      obtain ⟨t6, s6⟩ := y6
      rw [hr6] at q6 hR
      obtain ⟨rfl, c6, u6⟩ := q6
      have es6 := (pExpect_ok hr6).2
      have hs6l := c6.2.2.2.1.2
      refine KI.i ⟨k6.2.1.1, ?_⟩
      rw [k6.2.1.2.1, show (1 : Int32) = nI 1 from rfl, nI_eq (by omega) (by decide)]
      refine ⟨fun z1 => ?_, fun z1 => ?_⟩
      · obtain ⟨x, rfl⟩ := len1 (l := l) (by omega)
        obtain ⟨b, rfl⟩ := len1 (l := bs) z1
        change R = pNames (Kd ts) (Vl ts) 22 0 D x s6 at hR
        rw [hR]
        refine C.mono (c_rty (d := d + 15) (i := 0) (b := b) k6.2.1 rfl (k6.2.2.2.2 b (by simp))) ?_
        rintro _ _ ⟨rfl, rfl⟩
        exact KR.i (cappl_185 ht5 hB 22 0 x s6 b _ (by decide) (by decide) k6.1 c6 ((k6.tl fun _ _ _ => Uk.rf).2 0 x b rfl rfl) (k6.2.2.2.2 b (by simp)) (by omega) (by omega))
      · have hR2 : R = bd (bd (pExpect (Kd ts) 280 D s6) fun t s => .ok (n2 58 t (.num (Vl ts t)) (ls l), s)) fun x s => pNames (Kd ts) (Vl ts) 22 0 D x s := by
          rw [hR]
          cases l with
          | nil => simp at h1l
          | cons a r =>
            cases r with
            | nil => exact absurd hlen.symm z1
            | cons b r => rfl
        rw [bd_assoc] at hR2
        have hrm := un_rm (n := 3) (h := h6) (by omega)
        refine ⟨hrm.1, hrm.2, fun q hq => ?_⟩
        rintro _ rfl
        have e47 : (ftab 47).length = 3 := by decide
        refine C.mono (c_cexpect (d := d + 8) (w := 280) (c6.nO hq) (by decide) (by rw [un_nO, e47]; omega)) ?_
        rintro o h7 ⟨p7, q7⟩
        rw [un_nO, e47] at q7
        have pA : KP h6 h7 := (KP.rf.nO hq).tr p7
        have k7 := k6.kp pA
        cases hr7 : pExpect (Kd ts) 280 D s6 with
        | error e =>
          rw [hr7] at q7 hR2
          obtain ⟨a, rfl, f, u⟩ := q7
          change R = .error e at hR2
          rw [hR2]
          exact KI.t (cP.er k7.1 f (by omega))
        | ok y7 =>
        obtain ⟨t7, s7⟩ := y7
        rw [hr7] at q7 hR2
        obtain ⟨rfl, c7, u7⟩ := q7
        obtain ⟨et7, es7⟩ := pExpect_ok hr7
        have hkq : hK h7 q = 48 := p7.hk (by rw [hK_nO, if_pos rfl]) (by decide)
        have pq := k6.1.fresh hq
        refine KI.i (C.mono (c_X52 (d := d + 14) hkq) ?_)
        rintro _ _ ⟨rfl, rfl⟩
        have w : WQ q h7 (pR (pI h7 q 354 (nI t7)) q 355 (some r)) := WQ.rf.pI.pR
        have o2 := appl_52 (t := t7) k7 hkq pq (k6.2.2.2.1.mv fun a ha hl => ⟨pA.2 a hl, ha.1, fun e => hl (by rw [e]; exact hq)⟩) (by omega)
        change R = pNames (Kd ts) (Vl ts) 22 0 D (n2 58 t7 (.num (Vl ts t7)) (ls l)) s7 at hR2
        rw [hR2]
        exact KV.i (cappl_185 ht5 hB 22 0 _ s7 q _ (by decide) (by decide) (w.kp k7.1 pq) (w.cs c7 (c6.1.nw hq)) o2.1 o2.2 (by omega) (by rw [w.un]; omega))
    · have bt' := bt z
      subst bt'
      have e1 := es.2 rfl
      rw [bd_tt] at hR
      refine ⟨k2.2.1.1, ?_⟩
      rw [k2.2.1.2.1, show (6 : Int32) = nI 6 from rfl, nI_eq (by omega) (by decide)]
      refine ⟨fun z6 => ?_, fun z6 => ?_⟩
      · rw [if_pos (by omega)] at hR
        rw [hR]
        rintro _ rfl
        refine C.mono (c_wrong (d := d + 10) (c2.bk (by omega)) (by rw [un_pI]; omega)) ?_
        rintro _ h3 ⟨a, rfl, p, f, u⟩
        rw [un_pI] at u
        exact KR.i (cP.er (k2.1.tr ((kp_rd (G := G) (by decide)).tr p)) f (by omega))
      · rw [if_neg (by omega)] at hR
        refine C.mono (hp h2 s2 c2 (by omega)) ?_
        rintro o h3 ⟨p3, q⟩
        cases hr3 : P 3 (D + 1) s2 with
        | error e =>
          rw [hr3] at q hR
          obtain ⟨a, rfl, f, u⟩ := q
          change R = .error e at hR
          rw [hR]
          exact KR.t (cP.er (k2.1.tr p3) f (by omega))
        | ok y3 =>
        obtain ⟨x, s3⟩ := y3
        rw [hr3] at q hR
        obtain ⟨b, rfl, c3, ot, ct, hs3, u3⟩ := q
        have hs3l := c3.2.2.2.1.2
        change R = bd (pMore _ _ _ f (l.length + 1) s3) _ at hR
        refine KR.i (C.mono (r_add (d := d + 14) k2 p3 c3 ot ct (by omega) (Nat.le_refl _) (by omega)) ?_)
        rintro _ h4 ⟨rfl, c4, n', k4, u4⟩
        refine KV.i (IH s3 (l ++ [x]) (bs ++ [b]) n' h4 R (by omega) k4 c4 (by omega) (by simp) (by simp; omega) (by simp; omega) ?_)
        rw [hR]
        simp only [List.length_append, List.length_cons, List.length_nil, List.append_assoc, List.singleton_append]
theorem pAppl_40 (h40 : Kd ts s.1 = 40) : pAppl (Kd ts) (Vl ts) P D s = bd (pTake (Kd ts) D s) fun _ s => bd (P 3 (D + 1) s) fun a s => bd (pMore (pSkip (Kd ts) 44 (D + 1)) (P 3 (D + 1)) 6 FU 1 s) fun r s => aEnd ts D (a :: r) s := by
  unfold pAppl
  have e0 : pAppl0 (Kd ts) (Vl ts) P D s = bd (pTake (Kd ts) D s) fun _ s => bd (pSep (Kd ts) 44 (D + 1) 6 (P 3 (D + 1)) s) fun l s => bd (pExpect (Kd ts) 41 D s) fun _ s =>
      match l with
      | [a] => .ok (a, s)
      | l => bd (pExpect (Kd ts) 280 D s) fun t s => .ok (n2 58 t (.num (Vl ts t)) (ls l), s) := by unfold pAppl0; rw [if_pos h40]; rfl
  rw [e0, bd_assoc]
  congr 1
  funext _ s
  rw [bd_assoc]
  unfold pSep
  cases P 3 (D + 1) s with
  | error e => rfl
  | ok r =>
    obtain ⟨a, s1⟩ := r
    dsimp only [bd]
    cases pMore (pSkip (Kd ts) 44 (D + 1)) (P 3 (D + 1)) 6 FU 1 s1 with
    | error e => rfl
    | ok r2 =>
      obtain ⟨r2, s2⟩ := r2
      dsimp only
      unfold aEnd
      exact bd_assoc _ _ _
theorem c_cappl (hy : D ≤ 30 → CH G d ts (D + 1) "LetMill$Ty" mX12_ty [] (P 3 (D + 1))) : CH G (d + 1) ts D "LetMill$Ty" mX12_applied [] (pAppl (Kd ts) (Vl ts) P D) := by
  intro h s c hu
  have hl := c.len
  have hsl := c.2.2.2.1.2
  have hk := c.k4 hsl
  have e47 : (ftab 47).length = 3 := by decide
  have e48 : (ftab 48).length = 2 := by decide
  refine bX12_applied G (d + 16) h _ (c.1.at (by decide)) (C.ri (c_kind c) ?_)
  rw [show (40 : Int32) = nI 40 from rfl, nI_eq (by omega) (by decide)]
  refine ⟨fun h40 => ?_, fun h40 => C.ri (c_kind c) ?_⟩
  · rw [pAppl_40 h40]
    refine C.mono (c_ctake (d := d + 9) c (by omega)) ?_
    rintro o h1 ⟨p1, q⟩
    cases hr : pTake (Kd ts) D s with
    | error e =>
      rw [hr] at q
      obtain ⟨a, rfl, f, u⟩ := q
      exact KI.t (cP.er p1 f (by omega))
    | ok y =>
    obtain ⟨t, s1⟩ := y
    rw [hr] at q
    obtain ⟨rfl, c1, u1⟩ := q
    have es1 : s1.1 = s.1 + 1 := by rw [(pTake_ok hr).2.1]
    have hd := pTake_le hr
    have hs1l := c1.2.2.2.1.2
    refine KI.i ?_
    rintro _ rfl
    have c2 := c1.up (by omega)
    generalize hh2 : pI h1 (gW G 7) 116 (fI h1 (gW G 7) 116 + 1) = h2 at *
    have p2 : KP h1 h2 := by rw [← hh2]; exact kp_rd (by decide)
    have u2 : un h2 = un h1 := by rw [← hh2]; rfl
    have hrm := un_rm (n := 2) (h := h2) (by omega)
    refine ⟨hrm.1, hrm.2, fun q hq => ?_⟩
    rintro _ rfl
    refine C.mono (r_row (d := d + 15) (E := "LetMill$Ty") c2 (p1.tr p2) hq (by omega)) ?_
    rintro _ h3 ⟨rfl, k3, c3, u3, p3, -⟩
    refine KV.i (C.mono (hy hd h3 s1 c3 (by omega)) ?_)
    rintro o h4 ⟨p4, q4⟩
    simp only [show ∀ (x : Nat × St) (f : Nat → St → Except Nat (Tr × St)), bd (.ok x) f = f x.1 x.2 from fun _ _ => rfl]
    cases hr4 : P 3 (D + 1) s1 with
    | error e =>
      rw [hr4] at q4
      obtain ⟨a, rfl, f, u⟩ := q4
      exact KR.t (cP.er (k3.1.tr p4) f (by omega))
    | ok y4 =>
    obtain ⟨x, s4⟩ := y4
    rw [hr4] at q4
    obtain ⟨b, rfl, c4, ot, ct, hs4, u4⟩ := q4
    have hs4l := c4.2.2.2.1.2
    refine KR.i (C.mono (r_add (d := d + 14) k3 p4 c4 ot ct (by simp) (Nat.le_refl _) (by simp; omega)) ?_)
    rintro _ h5 ⟨rfl, c5, n', k5, u5⟩
    exact KV.i (cappl_40 hd (by omega) (hy hd) hu FU s4 [x] [b] n' h5 _ (by unfold FU; omega) k5 c5 (by omega) (by simp) (by simp) (by simp at u5 ⊢; omega) rfl)
  · rw [show (282 : Int32) = nI 282 from rfl, nI_eq (by omega) (by decide)]
    refine ⟨fun z => ?_, fun z => ?_⟩
    · have e0 : pAppl (Kd ts) (Vl ts) P D s = bd (pTake (Kd ts) D s) fun t s => pNames (Kd ts) (Vl ts) 22 0 D (n1 57 t (.num (Vl ts t))) s := by
        unfold pAppl pAppl0
        rw [if_neg h40, if_pos z, bd_assoc]
        rfl
      rw [e0]
      have hrm := un_rm (n := 2) (h := h) (by omega)
      refine ⟨hrm.1, hrm.2, fun q hq => ?_⟩
      rintro _ rfl
      refine C.mono (c_ctake (d := d + 9) (c.nO hq) (by rw [un_nO, e48]; omega)) ?_
      rintro o h1 ⟨p1, q1⟩
      rw [un_nO, e48] at q1
      have pA : KP h h1 := (KP.rf.nO hq).tr p1
      cases hr : pTake (Kd ts) D s with
      | error e =>
        rw [hr] at q1
        obtain ⟨a, rfl, f, u⟩ := q1
        exact KI.t (cP.er pA f (by omega))
      | ok y =>
      obtain ⟨t, s1⟩ := y
      rw [hr] at q1
      obtain ⟨rfl, c1, u1⟩ := q1
      obtain ⟨et, es, -⟩ := pTake_ok hr
      have es1 : s1.1 = s.1 + 1 := by rw [es]
      have hkq : hK h1 q = 49 := p1.hk (by rw [hK_nO, if_pos rfl]) (by decide)
      refine KI.i (C.mono (c_X53 (d := d + 14) hkq) ?_)
      rintro _ _ ⟨rfl, rfl⟩
      have w : WQ q h1 (pI h1 q 354 (nI t)) := WQ.rf.pI
      have hk3 : hK (pI h1 q 354 (nI t)) q = 49 := hkq
      simp only [show ∀ (x : Nat × St) (f : Nat → St → Except Nat (Tr × St)), bd (.ok x) f = f x.1 x.2 from fun _ _ => rfl]
      refine KV.i (cappl_185 (by omega) hu 22 0 _ s1 q _ (by decide) (by decide) (w.kp pA hq) (w.cs c1 (c.1.nw hq)) ?_ (CT_ty hk3 (by decide)) (by omega) (by rw [w.un]; omega))
      exact OT_nd (k := 57) hq (by rw [hk3]; decide) (EX_nm (by decide) (by omega) (by rw [hk3]; show fI (pI h1 q 354 (nI t)) q 354 = _; rw [fI_pI, if_pos ⟨rfl, rfl⟩])) (OT_l1 (m := 7) (g := 0) (by decide) (by decide) (OT_7 (Or.inl ⟨_, rfl⟩))) (by decide)
    · have e0 : pAppl (Kd ts) (Vl ts) P D s = bd (pExpect (Kd ts) 280 D s) fun t s => pNames (Kd ts) (Vl ts) 22 0 D (n2 58 t (.num (Vl ts t)) (ls [])) s := by
        unfold pAppl pAppl0
        rw [if_neg h40, if_neg z, bd_assoc]
        rfl
      rw [e0]
      have hrm := un_rm (n := 3) (h := h) (by omega)
      refine ⟨hrm.1, hrm.2, fun q hq => ?_⟩
      rintro _ rfl
      refine C.mono (c_cexpect (d := d + 8) (w := 280) (c.nO hq) (by decide) (by rw [un_nO, e47]; omega)) ?_
      rintro o h1 ⟨p1, q1⟩
      rw [un_nO, e47] at q1
      have pA : KP h h1 := (KP.rf.nO hq).tr p1
      cases hr : pExpect (Kd ts) 280 D s with
      | error e =>
        rw [hr] at q1
        obtain ⟨a, rfl, f, u⟩ := q1
        exact KI.t (cP.er pA f (by omega))
      | ok y =>
      obtain ⟨t, s1⟩ := y
      rw [hr] at q1
      obtain ⟨rfl, c1, u1⟩ := q1
      obtain ⟨et, es1⟩ := pExpect_ok hr
      have hrm1 := un_rm (n := 2) (h := h1) (by omega)
      refine KI.i ⟨hrm1.1, hrm1.2, fun r hr0 => ?_⟩
      rintro _ rfl
      refine C.mono (r_row (d := d + 15) (E := "LetMill$Ty") c1 pA hr0 (by omega)) ?_
      rintro _ h2 ⟨rfl, k2, c2, u2, p2, -⟩
      have hkq : hK h2 q = 48 := p2.hk (p1.hk (by rw [hK_nO, if_pos rfl]) (by decide)) (by decide)
      refine KV.i (C.mono (c_X52 (d := d + 14) hkq) ?_)
      rintro _ _ ⟨rfl, rfl⟩
      have w : WQ q h2 (pR (pI h2 q 354 (nI t)) q 355 (some r)) := WQ.rf.pI.pR
      have o2 := appl_52 (t := t) k2 hkq hq TL.nil (by omega)
      simp only [show ∀ (x : Nat × St) (f : Nat → St → Except Nat (Tr × St)), bd (.ok x) f = f x.1 x.2 from fun _ _ => rfl]
      exact KV.i (cappl_185 (by omega) hu 22 0 _ s1 q _ (by decide) (by decide) (w.kp k2.1 hq) (w.cs c2 (c.1.nw hq)) o2.1 o2.2 (by omega) (by rw [w.un]; omega))
/-- ALL TYPES of the component -/
theorem ctys_ok : ∀ n d D, D ≤ 31 → (nd 3 D ≤ n → CH G (d + 4 * n) ts D "LetMill$Ty" mX12_ty [] (pAll (Kd ts) (Vl ts) n 3 D)) ∧ (nd 4 D ≤ n → CH G (d + 4 * n) ts D "LetMill$Ty" mX12_product [] (pAll (Kd ts) (Vl ts) n 4 D)) ∧ (nd 5 D ≤ n → CH G (d + 4 * n) ts D "LetMill$Ty" mX12_applied [] (pAll (Kd ts) (Vl ts) n 5 D)) := by
  intro n
  induction n with
  | zero =>
    intro d D hd
    exact ⟨fun hn => by unfold nd at hn; omega, fun hn => by unfold nd at hn; omega, fun hn => by unfold nd at hn; omega⟩
  | succ n ih =>
    intro d D hd
    refine ⟨fun hn => ?_, fun hn => ?_, fun hn => ?_⟩
    · have := c_cty ((ih (d + 3) D hd).2.1 (nd_same hn (by decide))) (fun h30 => (ih (d + 3) (D + 1) (by omega)).1 (nd_next hn h30 (by decide)))
      rw [show d + 3 + 4 * n + 1 = d + 4 * (n + 1) by omega] at this
      exact this
    · have := c_cprod ((ih (d + 3) D hd).2.2 (nd_same hn (by decide)))
      rw [show d + 3 + 4 * n + 1 = d + 4 * (n + 1) by omega] at this
      exact this
    · have := c_cappl (P := pAll (Kd ts) (Vl ts) n) (fun h30 => (ih (d + 3) (D + 1) (by omega)).1 (nd_next hn h30 (by decide)))
      rw [show d + 3 + 4 * n + 1 = d + 4 * (n + 1) by omega] at this
      exact this
end
