/-! THE COMPONENT'S READER: patterns, all of them -/
section
variable {G : Gh} {d : Nat} {h h1 h2 h3 h' : AH} {ts : List (Nat × Nat × Nat)} {s s1 s2 : St} {D k i q a b t r n : Nat} {N : Nat → Prop} {E : String} {x p0 : Tr} {P : Nat → Nat → St → Except Nat (Tr × St)}
theorem pat_tail (hsl0 : s.1 < 5000) (hp : D ≤ 30 → CH G d ts (D + 1) "LetMill$Pat" mX12_pat [] (P 1 (D + 1))) (p2 : KP h h2) (c2 : CS G h2 ts D s2) (ot : OT ts (fun a => hK h a = 0) h2 p0 0 0 b) (ct : CT h2 b "LetMill$Pat") (hsx : s.1 < s2.1) (hu : un h2 + 120 ≤ un h + 200 * (s2.1 - s.1)) (hB : un h + 200 * (ts.length - s.1) + 100 ≤ UB) {R : Except Nat (Tr × St)}
    (hR : R = if Kd ts s2.1 ≠ 286 then .ok (p0, s2) else bd (pTakeP (Kd ts) D s2) fun _ s3 => bd (P 1 (D + 1) s3) fun q s4 => .ok (n2 39 s.1 p0 q, s4)) :
    C G mX12_kind (d + 16) [.ref (gW G 7)] h2 (KI (cP G h ts D s.1 "LetMill$Pat" R) (fun x46 h44 => (x46 = 286 → (C G mX12_takePat (d + 16) [.ref (gW G 7)] h44 (KI (cP G h ts D s.1 "LetMill$Pat" R) (fun x50 h48 => ∀ h51, h51 = pI h48 (gW G 7) 116 ((fI h48 (gW G 7) 116) + 1) → (C G mX12_pat (d + 16) [.ref (gW G 7)] h51 (KR (cP G h ts D s.1 "LetMill$Pat" R) (fun b54 h52 => ∀ h55, h55 = pI h52 (gW G 7) 116 ((fI h52 (gW G 7) 116) - 1) → ((hc h55 + 1 ≤ MC) ∧ (hs h55 + 3 ≤ MS) ∧ ∀ q56, hK h55 q56 = 0 → ∀ h58, h58 = nO h55 q56 26 → (C G mX28_init (d + 16) [.ref (q56), .int (nI s.1), .ref b, .ref (b54)] h58 (KV (cP G h ts D s.1 "LetMill$Pat" R) (fun h61 => cP G h ts D s.1 "LetMill$Pat" R (.returned (some (.ref (q56)))) h61))))))))))) ∧ (¬ x46 = 286 → (cP G h ts D s.1 "LetMill$Pat" R (.returned (some (.ref b))) h44)))) := by
  have hl := c2.len
  have hs2l := c2.2.2.2.1.2
  have hk := c2.k4 hs2l
  refine C.ri (c_kind c2) ?_
  rw [show (286 : Int32) = nI 286 from rfl, nI_eq (by omega) (by decide)]
  refine ⟨fun z => ?_, fun z => ?_⟩
  · rw [if_neg (by simp [z])] at hR
    refine C.mono (c_ctakeP (d := d + 8) c2 (by omega)) ?_
    rintro o h3 ⟨p3, q⟩
    cases hr : pTakeP (Kd ts) D s2 with
    | error e =>
      rw [hr] at q hR
      obtain ⟨a, rfl, f, u⟩ := q
      change R = .error e at hR
      rw [hR]
      exact KI.t (cP.er (p2.tr p3) f (by omega))
    | ok y =>
    obtain ⟨v, s3⟩ := y
    rw [hr] at q hR
    obtain ⟨rfl, c3, u3⟩ := q
    have hd := pTakeP_le hr
    have es3 : s3.1 = s2.1 + 1 := by rw [(pTakeP_ok hr).2.1]
    have hs3l := c3.2.2.2.1.2
    change R = bd (P 1 (D + 1) s3) _ at hR
    refine KI.i ?_
    rintro _ rfl
    refine C.mono (hp hd _ s3 (c3.up (by omega)) (by rw [un_pI]; omega)) ?_
    rintro o h4 ⟨p4, q⟩
    rw [un_pI] at q
    have pk : KP h2 h4 := (p3.tr (kp_rd (G := G) (by decide))).tr p4
    cases hr4 : P 1 (D + 1) s3 with
    | error e =>
      rw [hr4] at q hR
      obtain ⟨a, rfl, f, u⟩ := q
      change R = .error e at hR
      rw [hR]
      exact KR.t (cP.er (p2.tr pk) f (by omega))
    | ok y4 =>
    obtain ⟨x, s4⟩ := y4
    rw [hr4] at q hR
    obtain ⟨b', rfl, c4, ot4, ct4, hs4, u4⟩ := q
    change R = .ok (n2 39 s.1 p0 x, s4) at hR
    refine KR.i ?_
    rintro _ rfl
    have hs4l := c4.2.2.2.1.2
    have c5 := c4.dn
    have hrm := un_rm (n := 3) (h := pI h4 (gW G 7) 116 (fI h4 (gW G 7) 116 - 1)) (by rw [un_pI]; omega)
    refine ⟨hrm.1, hrm.2, fun q hq => ?_⟩
    rintro _ rfl
    refine C.mono (c_X28 (d := d + 14) (by rw [hK_nO, if_pos rfl])) ?_
    rintro _ _ ⟨rfl, rfl⟩
    generalize hh5 : pI h4 (gW G 7) 116 (fI h4 (gW G 7) 116 - 1) = h5 at *
    have p5 : KP h4 h5 := by rw [← hh5]; exact kp_rd (by decide)
    have u5 : un h5 = un h4 := by rw [← hh5]; rfl
    have w : WQ q (nO h5 q 26) (pR (pR (pI (nO h5 q 26) q 302 (nI s.1)) q 311 (some b)) q 312 (some b')) := WQ.rf.pI.pR.pR
    have pA : KP h h5 := p2.tr (pk.tr p5)
    have pq := pA.fresh hq
    have hk3 : hK (pR (pR (pI (nO h5 q 26) q 302 (nI s.1)) q 311 (some b)) q 312 (some b')) q = 27 := by rw [hK_pR, hK_pR, hK_pI, hK_nO, if_pos rfl]
    have hw : ∀ (y : Tr) (c : Nat), OT ts (fun a => hK h a = 0) h5 y 0 0 c → OT ts (fun a => hK h a = 0) (pR (pR (pI (nO h5 q 26) q 302 (nI s.1)) q 311 (some b)) q 312 (some b')) y 0 0 c := by
      intro y c oc
      refine OT.mv (fun a ha hl => ⟨?_, ha⟩) y 0 0 c (Or.inl rfl) (fun q => by omega) (fun q => by omega) (fun q => by omega) oc
      have hne : a ≠ q := fun e => hl (by rw [e]; exact hq)
      exact ((KP.rf.nO (c := 26) hq).2 a hl).tr (w.uk hne)
    have o1 := hw _ _ (ot.kp (pk.tr p5))
    have o2 := hw _ _ ((ot4.kp p5).wk fun a ha => ((p2.tr p3).tr (kp_rd (G := G) (g := 116) (v := fI h3 (gW G 7) 116 + 1) (by decide))).fresh ha)
    rw [hR]
    refine KV.i ⟨w.kp (pA.nO hq) pq, q, rfl, w.cs (c5.nO hq) (c5.1.nw hq), OT_nd (k := 39) pq (by rw [hk3]; decide) (EX_pl (by decide) hsl0 (by rw [hk3]; show fI (pR (pR (pI (nO h5 q 26) q 302 (nI s.1)) q 311 (some b)) q 312 (some b')) q 302 = _; rw [fI_pR, fI_pR, fI_pI, if_pos ⟨rfl, rfl⟩])) (OT_c2 (by decide) (by decide) (OT_f ?_ o1) ((OT_ef (m' := 1) (i' := 312) (by decide) (by decide)).mpr (OT_f ?_ o2))) (by decide), CT_pat hk3 (by decide), by omega, ?_⟩
    · show fR (pR (pR (pI (nO h5 q 26) q 302 (nI s.1)) q 311 (some b)) q 312 (some b')) q 311 = some b
      rw [fR_pR, if_neg (fun e => absurd e.2 (by decide)), fR_pR, if_pos ⟨rfl, rfl⟩]
    · rw [fR_pR, if_pos ⟨rfl, rfl⟩]
    · rw [w.un, un_nO, u5]
      show un h4 + 16 + 3 + 120 ≤ _
      omega
  · rw [if_pos z] at hR
    rw [hR]
    exact ⟨p2, b, rfl, c2, ot, ct, hsx, hu⟩
theorem c_cpat (ha : CH G d ts D "LetMill$Pat" mX12_atPat [] (P 2 D)) (hp : D ≤ 30 → CH G d ts (D + 1) "LetMill$Pat" mX12_pat [] (P 1 (D + 1))) : CH G (d + 1) ts D "LetMill$Pat" mX12_pat [] (pPat (Kd ts) (Vl ts) P D) := by
  intro h s c hu
  have hl := c.len
  have hsl := c.2.2.2.1.2
  have hk := c.k4 hsl
  refine bX12_pat G (d + 16) h _ (c.1.at (by decide)) ?_
  rintro _ rfl
  rw [c.2.2.2.1.1]
  refine C.ri (c_kind c) ?_
  rw [show (281 : Int32) = nI 281 from rfl, nI_eq (by omega) (by decide)]
  unfold pPat pAPat
  refine ⟨fun z => ?_, fun z => ?_⟩
  · rw [if_pos z, bd_assoc]
    refine C.mono (c_ctakeP (d := d + 8) c (by omega)) ?_
    rintro o h1 ⟨p1, q⟩
    cases hr : pTakeP (Kd ts) D s with
    | error e =>
      rw [hr] at q
      obtain ⟨a, rfl, f, u⟩ := q
      exact KI.t (cP.er p1 f (by omega))
    | ok y =>
    obtain ⟨t, s1⟩ := y
    rw [hr] at q
    obtain ⟨rfl, c1, u1⟩ := q
    obtain ⟨et, es, -⟩ := pTakeP_ok hr
    subst et
    have es1 : s1.1 = s.1 + 1 := by rw [es]
    have hs1l := c1.2.2.2.1.2
    have hrm := un_rm (n := 3) (h := h1) (by omega)
    simp only [show ∀ (x : Nat × St) (f : Nat → St → Except Nat (Tr × St)), bd (.ok x) f = f x.1 x.2 from fun _ _ => rfl]
    refine KI.i ⟨hrm.1, hrm.2, fun q hq => ?_⟩
    rintro _ rfl
    have c2 := c1.nO (c' := 18) hq
    have pq := p1.fresh hq
    have p2 : KP h (nO h1 q 18) := p1.nO hq
    have u2 : un (nO h1 q 18) = un h1 + 19 := by rw [un_nO]; rfl
    refine C.ri (c_bPat (d := d + 15) c2) ?_
    rw [b2_0]
    refine ⟨fun zb => ?_, fun zb => ?_⟩
    · rw [if_neg (by simp [zb])]
      refine C.mono (c_X20 (d := d + 14) (b := none) (by rw [hK_nO, if_pos rfl])) ?_
      rintro _ _ ⟨rfl, rfl⟩
      have w : WQ q (nO h1 q 18) (pR (pI (nO h1 q 18) q 302 (nI s.1)) q 303 none) := WQ.rf.pI.pR
      have k2 : hK (pR (pI (nO h1 q 18) q 302 (nI s.1)) q 303 none) q = 19 := by rw [hK_pR, hK_pI, hK_nO, if_pos rfl]
      refine KV.i (pat_tail (p0 := n2 33 s.1 (.num (Vl ts s.1)) (.num 0)) (by omega) hp (w.kp p2 pq) (w.cs c2 (c1.1.nw hq)) ?_ (CT_pat k2 (by decide)) (by omega) (by rw [w.un, u2]; omega) hu rfl)
      exact OT_nd (k := 33) pq (by rw [k2]; decide) (EX_n2 (by decide) (by omega) (by rw [k2]; show fI (pR (pI (nO h1 q 18) q 302 (nI s.1)) q 303 none) q 302 = _; rw [fI_pR, fI_pI, if_pos ⟨rfl, rfl⟩])) (OT_c2 (by decide) (by decide) (OT_7 (Or.inl ⟨_, rfl⟩)) ((OT_ef (m' := 5) (i' := 303) (by decide) (by decide)).mpr (OT_50 (by rw [fR_pR, if_pos ⟨rfl, rfl⟩])))) (by decide)
    · rw [if_pos (bt zb), bd_assoc]
      refine C.mono (ha _ s1 c2 (by rw [u2]; omega)) ?_
      rintro o h3 ⟨p3, q3⟩
      rw [u2] at q3
      cases hr3 : P 2 D s1 with
      | error e =>
        rw [hr3] at q3
        obtain ⟨a, rfl, f, u⟩ := q3
        exact KR.t (cP.er (p2.tr p3) f (by omega))
      | ok y3 =>
      obtain ⟨x, s3⟩ := y3
      rw [hr3] at q3
      obtain ⟨b, rfl, c3, ot, ct, hs3, u3⟩ := q3
      have hk3 : hK h3 q = 19 := p3.hk (by rw [hK_nO, if_pos rfl]) (by decide)
      refine KR.i (C.mono (c_X20 (d := d + 14) (b := some b) hk3) ?_)
      rintro _ _ ⟨rfl, rfl⟩
      have w : WQ q h3 (pR (pI h3 q 302 (nI s.1)) q 303 (some b)) := WQ.rf.pI.pR
      have k2 : hK (pR (pI h3 q 302 (nI s.1)) q 303 (some b)) q = 19 := hk3
      have o1 : OT ts (fun a => hK h a = 0) (pR (pI h3 q 302 (nI s.1)) q 303 (some b)) x 0 0 b := (w.ot (fun a ha e => (by rw [e, hK_nO, if_pos rfl] at ha; cases ha)) ot).wk fun a ha => p2.fresh ha
      refine KV.i (pat_tail (p0 := n2 33 s.1 (.num (Vl ts s.1)) x) (by omega) hp (w.kp (p2.tr p3) pq) (w.cs c3 (c1.1.nw hq)) ?_ (CT_pat k2 (by decide)) (by omega) (by rw [w.un]; omega) hu rfl)
      exact OT_nd (k := 33) pq (by rw [k2]; decide) (EX_n2 (by decide) (by omega) (by rw [k2]; show fI (pR (pI h3 q 302 (nI s.1)) q 303 (some b)) q 302 = _; rw [fI_pR, fI_pI, if_pos ⟨rfl, rfl⟩])) (OT_c2 (by decide) (by decide) (OT_7 (Or.inl ⟨_, rfl⟩)) ((OT_ef (m' := 5) (i' := 303) (by decide) (by decide)).mpr (OT_f5 (by rw [fR_pR, if_pos ⟨rfl, rfl⟩]) o1))) (by decide)
  · rw [if_neg z]
    refine C.mono (ha _ s c hu) ?_
    rintro o h3 ⟨p3, q3⟩
    cases hr3 : P 2 D s with
    | error e =>
      rw [hr3] at q3
      obtain ⟨a, rfl, f, u⟩ := q3
      exact KR.t (cP.er p3 f (by omega))
    | ok y3 =>
    obtain ⟨x, s3⟩ := y3
    rw [hr3] at q3
    obtain ⟨b, rfl, c3, ot, ct, hs3, u3⟩ := q3
    exact KR.i (pat_tail (by omega) hp p3 c3 ot ct hs3 u3 hu rfl)
/-- ALL PATTERNS of the component -/
theorem cpats_ok (hts : TsOK ts) : ∀ n d D, D ≤ 31 → (nd 1 D ≤ n → CH G (d + 4 * n) ts D "LetMill$Pat" mX12_pat [] (pAll (Kd ts) (Vl ts) n 1 D)) ∧ (nd 2 D ≤ n → CH G (d + 4 * n) ts D "LetMill$Pat" mX12_atPat [] (pAll (Kd ts) (Vl ts) n 2 D)) := by
  intro n
  induction n with
  | zero =>
    intro d D hd
    exact ⟨fun hn => by unfold nd at hn; omega, fun hn => by unfold nd at hn; omega⟩
  | succ n ih =>
    intro d D hd
    refine ⟨fun hn => ?_, fun hn => ?_⟩
    · have := c_cpat ((ih (d + 3) D hd).2 (nd_same hn (by decide))) (fun h30 => (ih (d + 3) (D + 1) (by omega)).1 (nd_next hn h30 (by decide)))
      rw [show d + 3 + 4 * n + 1 = d + 4 * (n + 1) by omega] at this
      exact this
    · refine c_catPat (P := pAll (Kd ts) (Vl ts) n) fun h2 s c hu hk => ?_
      have := c_brk (d := d + 4 * n + 2) (P := pAll (Kd ts) (Vl ts) n) (fun h30 => by have := (ih (d + 2) (D + 1) (by omega)).1 (nd_next hn h30 (by decide)); rw [show d + 2 + 4 * n = d + 4 * n + 2 by omega] at this; exact this) c hu hk
      rw [show d + 4 * n + 2 + 17 = d + 4 * (n + 1) + 15 by omega] at this
      exact this
end
