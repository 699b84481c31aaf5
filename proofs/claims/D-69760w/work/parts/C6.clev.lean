/-! THE COMPONENT'S READER: levels -/
section
variable {G : Gh} {d : Nat} {h h0 h1 h2 h3 h4 h' : AH} {ts : List (Nat × Nat × Nat)} {s s1 s2 s4 : St} {D D0 k i q a b t r n m p arr so be L : Nat} {s0 : St} {N N' : Nat → Prop} {E : String} {x y e p0 : Tr} {l vs : List Tr} {bs : List Nat} {sl : List Int32} {P : Nat → Nat → St → Except Nat (Tr × St)}
theorem SG.sgc (k : SG G h h1 so sl m) : SgC (fun a => hK h a = 0) h1 so sl := by
  obtain ⟨k0, k1, k2, k3, k7, k8, arr, k4, kn, k5, k6, k9⟩ := k
  exact ⟨k1, k0, k2, arr, k4, k5, kn.1, by omega, k9⟩
theorem clev_128 (hL : 1 ≤ L ∧ L ≤ 7) (ht : t < 5000) (hsub : CH G d ts D "LetMill$Exp" mX12_level [.int (nI (L + 1))] (pSub P L D)) (c0 : CS G h ts D0 s0) (hB : un h + 200 * (ts.length - t) + 100 ≤ UB) :
    ∀ f (s : St) (ps : List (Nat × Tr)) bs n m h1 R, ts.length - s.1 < f → CB G h h1 ts (ps.map (·.2)) r bs n so (ps.map fun p => nI p.1) m e be → CS G h1 ts D s → t < s.1 → bs.length ≤ s.1 → (bs.length = 0 → lvl (Kd ts s.1) = L) → un h1 + (12 * bs.length - 6 * n) + (4 * bs.length - 2 * m) + 44 + 250 * bs.length ≤ un h + 200 * (s.1 - t) →
    R = bd (pWhile (fun s => lvl (Kd ts s.1) == L) (pOpd (Kd ts) P L D) f s) (fun r s2 => .ok (n2 16 t e (ls (ps.map opx ++ r)), s2)) →
    X G mX12_level (d + 17) none [] 128 [(0, .ref (gW G 7)), (1, .int (nI L)), (2, .int (nI t)), (3, .ref be), (4, .ref r), (5, .ref so)] [] h1 (cP G h ts D t "LetMill$Exp" R) := by
  intro f
  induction f with
  | zero => intro s ps bs n m h1 R hf; omega
  | succ f IH =>
    intro s ps bs n m h1 R hf k c hts hbs h0l hU hR
    have hl := c.len
    have hsl := c.2.2.2.1.2
    have hlen : ps.length = bs.length := by have := k.2.2.1; simpa using this
    have hk := c.k4 hsl
    have hlv := lvl_le (Kd ts s.1)
    refine bX12_level_128 G (d + 16) h1 _ _ _ _ _ _ (c.1.at (by decide)) (c.1.at (by decide)) (C.ri (c_kind c) (C.ri (c_lvl hk) ?_))
    rw [nI_eq (by omega) (by omega)]
    rw [pWhile_b] at hR
    refine ⟨fun z => ?_, fun z => ?_⟩
    · rw [if_pos (show (lvl (Kd ts s.1) == L) = true by simp [z])] at hR
      rw [show pOpd (Kd ts) P L D s = bd (pTake (Kd ts) D s) fun g s => bd (pSub P L D s) fun r s => .ok (.add (.num (Kd ts g)) r, s) from rfl] at hR
      rw [bd_assoc] at hR
      refine C.mono (c_ctake (d := d + 9) c (by omega)) ?_
      rintro o h2 ⟨p2, q2⟩
      have pk2 := (k.1.1).tr p2
      cases hr2 : pTake (Kd ts) D s with
      | error e =>
        rw [hr2] at q2 hR
        obtain ⟨a, rfl, f, u⟩ := q2
        change R = .error e at hR
        rw [hR]
        exact KI.t (cP.er pk2 f (by omega))
      | ok y2 =>
      obtain ⟨x2, s2⟩ := y2
      rw [hr2] at q2 hR
      rw [bd_ok] at hR
      obtain ⟨rfl, c2, u2⟩ := q2
      have sl2 := c2.2.2.2.1.2
      refine KI.i ?_
      have k2 := k.kp p2
      obtain ⟨et, es, -⟩ := pTake_ok hr2
      have es2 : s2.1 = s.1 + 1 := by rw [es]
      refine ⟨vp_in_nI (by omega) (by decide), k2.2.1.2.1, ?_⟩
      rw [nI_cn (by omega), (c2.kd (i := x2) (by omega)).1]
      refine C.mono (cb_sgn (d := d + 16) c0 k2 c2 (by simp; omega) (Nat.le_refl _) (by simp; omega)) ?_
      rintro _ h3 ⟨rfl, c3, m', k3, u3⟩
      have u3' : un h3 + (4 * (bs.length + 1) - 2 * m') ≤ un h2 + (4 * bs.length - 2 * m) + 20 := by simpa [hlen] using u3
      refine KV.i ?_
      rw [nI_1]
      rw [bd_assoc] at hR
      refine C.mono (hsub h3 s2 c3 (by omega)) ?_
      rintro o h4 ⟨p4, q4⟩
      have pk4 := (k3.1.1).tr p4
      cases hr4 : pSub P L D s2 with
      | error e =>
        rw [hr4] at q4 hR
        obtain ⟨a, rfl, f, u⟩ := q4
        change R = .error e at hR
        rw [hR]
        exact KR.t (cP.er pk4 f (by omega))
      | ok y4 =>
      obtain ⟨x4, s4⟩ := y4
      rw [hr4] at q4 hR
      rw [bd_ok] at hR
      obtain ⟨b4, rfl, c4, ot4, ct4, hs4, u4⟩ := q4
      have sl4 := c4.2.2.2.1.2
      refine KR.i ?_
      rw [bd_ok] at hR
      refine ⟨(k3.kp p4).1.2.1.1, C.mono (cb_add (d := d + 14) k3 p4 c4 ot4 ct4 (by omega) (Nat.le_refl _) (by omega)) ?_⟩
      rintro _ h5 ⟨rfl, c5, n', k5, u5⟩
      refine KV.i (IH s4 (ps ++ [(Kd ts x2, x4)]) (bs ++ [b4]) n' m' h5 R (by omega) ?_ c5 (by omega) (by simp; omega) (fun q => by simp at q) (by simp; omega) ?_)
      · rw [List.map_append, List.map_append]
        exact k5
      · rw [hR]
        simp only [List.map_append, List.map_cons, List.map_nil, List.append_assoc, List.singleton_append, opx]
    · rw [if_neg (show ¬ ((lvl (Kd ts s.1) == L) = true) by simp [z])] at hR
      rw [List.append_nil] at hR
      have hb1 : 1 ≤ bs.length := by
        refine Classical.byContradiction fun hn => z (h0l (by omega))
      have hrm := un_rm (n := 5) (h := h1) (by omega)
      refine ⟨hrm.1, hrm.2, fun q hq => ?_⟩
      rintro _ rfl
      have e43 : (ftab 43).length = 5 := by decide
      have p2 : KP h1 (nO h1 q 43) := KP.rf.nO hq
      have k2 := k.kp p2
      have c2 := c.nO (c' := 43) hq
      have u2 : un (nO h1 q 43) = un h1 + 21 := by rw [un_nO, e43]
      have hkq : hK (nO h1 q 43) q = 44 := by rw [hK_nO, if_pos rfl]
      generalize nO h1 q 43 = h2 at *
      refine C.mono (c_expsOf (d := d + 13) k2.1.2.1 c2.1 k2.1.2.2.2 (by omega)) ?_
      rintro _ h3 ⟨ar, rfl, har, p3, ka, la, aa, u3, f3⟩
      have k3 := k2.kp p3
      have c3 := c2.kp p3 (f3 _) (f3 _) (f3 _) (f3 _)
      refine KR.i (C.mono (c_X47 (d := d + 14) (p3.hk hkq (by decide))) ?_)
      rintro _ h4 ⟨rfl, e4⟩
      have w : WQ q h3 h4 := by rw [e4]; exact WQ.rf.eI.pR.pR.pR
      have f0 : fI h4 q 296 = nI t := by rw [e4, fI_pR, fI_pR, fI_pR, fI_eI]
      have f1 : fR h4 q 341 = some be := by rw [e4, fR_pR, if_neg (fun e => absurd e.2 (by decide)), fR_pR, if_neg (fun e => absurd e.2 (by decide)), fR_pR, if_pos ⟨rfl, rfl⟩]
      have f2 : fR h4 q 342 = some so := by rw [e4, fR_pR, if_neg (fun e => absurd e.2 (by decide)), fR_pR, if_pos ⟨rfl, rfl⟩]
      have f4 : fR h4 q 343 = some ar := by rw [e4, fR_pR, if_pos ⟨rfl, rfl⟩]
      clear e4
      have hk4 : hK h4 q = 44 := by rw [w.2.1.1]; exact p3.hk hkq (by decide)
      have p14 : KP h1 h4 := w.kp (p2.tr p3) hq
      have k4 := k.kp p14
      have pq := k.1.1.fresh hq
      have hqa : ar ≠ q := fun e => by rw [e, hkq] at har; cases har
      have tl4 : TL ts (fun a => hK h a = 0) h4 (e :: ps.map (·.2)) (be :: bs) := k4.2.2.mv fun a ha hl => ⟨Uk.rf, ha.1.1⟩
      obtain ⟨oe, tl⟩ := tl4.cons
      have hA : ArF (fun a => hK h a = 0) h4 q 343 ar := ⟨f4, (by rw [w.2.1.1]; exact ka), k.1.1.fresh (p2.fresh har)⟩
      have hne : ps ≠ [] := fun e => by rw [e] at hlen; simp at hlen; omega
      rw [hR]
      refine KV.i ⟨k4.1.1, q, rfl, w.cs c3 (c.1.nw hq), OT_nd (k := 16) pq (by rw [hk4]; decide) (EX_ch (so := so) ht (by rw [hk4]; exact f0) f2 (by rw [sgs_opx]; exact k4.2.1.sgc)) (OT_c2 (by decide) (by decide) (OT_f f1 oe) ((OT_ef (m' := 23) (i' := 343) (by decide) (by decide)).mpr (OT_chn hne tl hA (by rw [w.2.1.2.1, la, hlen]) fun j b hj => by rw [w.2.1.2.2.2.2]; exact aa j b hj))) (by decide), CT_exp hk4 (by decide), hts, ?_⟩
      rw [w.un]
      omega
theorem c_clevel8 (ha : CH G d ts D "LetMill$Exp" mX12_application [] (P 7 D)) : CH G (d + 1) ts D "LetMill$Exp" mX12_level [.int (nI 8)] (P 7 D) := by
  intro h s c hu
  refine bX12_level G (d + 16) h _ _ (c.1.at (by decide)) (c.1.at (by decide)) ⟨fun _ => ?_, fun z => absurd rfl z⟩
  exact C.mono (ha h s c hu) fun o h1 q => q.kr
/-- a level -/
theorem c_clevel (hL : 1 ≤ L ∧ L ≤ 7) (hsub : CH G d ts D "LetMill$Exp" mX12_level [.int (nI (L + 1))] (pSub P L D)) (h5 : L = 5 → D ≤ 30 → CH G d ts (D + 1) "LetMill$Exp" mX12_level [.int (nI 5)] (P 15 (D + 1))) : CH G (d + 1) ts D "LetMill$Exp" mX12_level [.int (nI L)] (pLevel (Kd ts) P L D) := by
  intro h s c hu
  have hl := c.len
  have hsl := c.2.2.2.1.2
  refine bX12_level G (d + 16) h _ _ (c.1.at (by decide)) (c.1.at (by decide)) ⟨fun z => ?_, fun _ => ?_⟩
  · rw [show (8 : Int32) = nI 8 from rfl, nI_eq (by omega) (by decide)] at z
    omega
  rintro _ rfl
  rw [c.2.2.2.1.1, nI_1, show (5 : Int32) = nI 5 from rfl, nI_eq (by omega) (by decide)]
  obtain ⟨R, hR⟩ : ∃ R, R = pLevel (Kd ts) P L D s := ⟨_, rfl⟩
  rw [← hR]
  unfold pLevel at hR
  refine C.mono (hsub h s c hu) ?_
  rintro o h1 ⟨p1, q1⟩
  have pk1 := (KP.rf).tr p1
  cases hr1 : pSub P L D s with
  | error e =>
    rw [hr1] at q1 hR
    obtain ⟨a, rfl, f, u⟩ := q1
    change R = .error e at hR
    rw [hR]
    exact KR.t (cP.er pk1 f (by omega))
  | ok y1 =>
  obtain ⟨x1, s1⟩ := y1
  rw [hr1] at q1 hR
  rw [bd_ok] at hR
  obtain ⟨b1, rfl, c1, ot1, ct1, hs1, u1⟩ := q1
  have sl1 := c1.2.2.2.1.2
  refine KR.i ?_
  have hk1 := c1.k4 sl1
  have hlv := lvl_le (Kd ts s1.1)
  refine ⟨fun z5 => ?_, fun z5 => ?_⟩
  · refine C.ri (c_kind c1) (C.ri (c_lvl hk1) ?_)
    rw [nI_eq (by omega) (by decide)]
    refine ⟨fun z => ?_, fun z => ?_⟩
    · rw [if_neg (by omega), if_pos z5] at hR
      refine C.mono (c_ctake (d := d + 9) c1 (by omega)) ?_
      rintro o h2 ⟨p2, q2⟩
      have pk2 := (pk1).tr p2
      cases hr2 : pTake (Kd ts) D s1 with
      | error e =>
        rw [hr2] at q2 hR
        obtain ⟨a, rfl, f, u⟩ := q2
        change R = .error e at hR
        rw [hR]
        exact KI.t (cP.er pk2 f (by omega))
      | ok y2 =>
      obtain ⟨x2, s2⟩ := y2
      rw [hr2] at q2 hR
      rw [bd_ok] at hR
      obtain ⟨rfl, c2, u2⟩ := q2
      have sl2 := c2.2.2.2.1.2
      refine KI.i ?_
      obtain ⟨et, es, -⟩ := pTake_ok hr2
      have hd := pTake_le hr2
      have es2 : s2.1 = s1.1 + 1 := by rw [es]
      refine ⟨vp_in_nI (by omega) (by decide), ?_⟩
      rintro _ rfl
      rw [nI_cn (by omega), (c2.kd (i := x2) (by omega)).1]
      intro h3 e3
      obtain ⟨c3, p3, u3⟩ := c2.ups (by omega) e3
      refine C.mono (h5 z5 hd h3 s2 c3 (by omega)) ?_
      rintro o h4 ⟨p4, q4⟩
      have pk4 := (pk2.tr p3).tr p4
      cases hr4 : P 15 (D + 1) s2 with
      | error e =>
        rw [hr4] at q4 hR
        obtain ⟨a, rfl, f, u⟩ := q4
        change R = .error e at hR
        rw [hR]
        exact KR.t (cP.er pk4 f (by omega))
      | ok y4 =>
      obtain ⟨x4, s4⟩ := y4
      rw [hr4] at q4 hR
      rw [bd_ok] at hR
      obtain ⟨b4, rfl, c4, ot4, ct4, hs4, u4⟩ := q4
      have sl4 := c4.2.2.2.1.2
      refine KR.i ?_
      intro h6 e6
      obtain ⟨c6, p6, u6⟩ := c4.dns e6
      have hrm := un_rm (n := 5) (h := h6) (by omega)
      refine ⟨hrm.1, hrm.2, fun q hq => ?_⟩
      rintro _ rfl
      refine C.mono (c_X45 (d := d + 14) (by rw [hK_nO, if_pos rfl])) ?_
      rintro _ h7 ⟨rfl, e7⟩
      have w : WQ q (nO h6 q 41) h7 := by rw [e7]; exact WQ.rf.eI.pI.pR.pR
      have hk7 : hK h7 q = 42 := by rw [w.2.1.1, hK_nO, if_pos rfl]
      have f0 : fI h7 q 296 = nI s.1 := by rw [e7, fI_pR, fI_pR, fI_pI, if_neg (fun e => absurd e.2 (by decide)), fI_eI]
      have f6 : fI h7 q 336 = nI (Kd ts x2) := by rw [e7, fI_pR, fI_pR, fI_pI, if_pos ⟨rfl, rfl⟩]
      have f1 : fR h7 q 337 = some b1 := by rw [e7, fR_pR, if_neg (fun e => absurd e.2 (by decide)), fR_pR, if_pos ⟨rfl, rfl⟩]
      have f2 : fR h7 q 338 = some b4 := by rw [e7, fR_pR, if_pos ⟨rfl, rfl⟩]
      have p67 : KP h6 h7 := w.kp (KP.rf.nO hq) hq
      have pA := pk4.tr p6
      have o1 : OT ts (fun a => hK h a = 0) h7 x1 0 0 b1 := ot1.kp (p2.tr (p3.tr (p4.tr (p6.tr p67))))
      have o4 : OT ts (fun a => hK h a = 0) h7 x4 0 0 b4 := (ot4.kp (p6.tr p67)).wk fun a ha => (pk2.tr p3).fresh ha
      have e41 : (ftab 41).length = 5 := by decide
      have hkk : Kd ts x2 = 286 ∨ Kd ts x2 = 64 := by
        rw [et]
        unfold lvl at z
        repeat' split at z
        all_goals omega
      rw [hR]
      refine KV.i (fin_nd pA c6 hq w ?_ (CT_exp hk7 (by decide)) (by omega) (by rw [e41]; omega))
      rcases hkk with hkk | hkk
      · rw [if_pos hkk]
        exact OT_nd (k := 17) (pA.fresh hq) (by rw [hk7]; decide) (EX_sg (by decide) (by omega) (by rw [hk7]; exact f0) (by rw [f6, hkk]; rfl)) (OT_c2 (by decide) (by decide) (OT_f f1 o1) ((OT_ef (m' := 1) (i' := 338) (by decide) (by decide)).mpr (OT_f f2 o4))) (by decide)
      · rw [if_neg (by omega)]
        exact OT_nd (k := 18) (pA.fresh hq) (by rw [hk7]; decide) (EX_sg (by decide) (by omega) (by rw [hk7]; exact f0) (by rw [f6, hkk]; rfl)) (OT_c2 (by decide) (by decide) (OT_f f1 o1) ((OT_ef (m' := 1) (i' := 338) (by decide) (by decide)).mpr (OT_f f2 o4))) (by decide)
    · rw [if_pos (by omega)] at hR
      rw [hR]
      exact ⟨pk1, b1, rfl, c1, ot1, ct1, hs1, u1⟩
  · refine C.ri (c_kind c1) (C.ri (c_lvl hk1) ?_)
    rw [nI_eq (by omega) (by omega)]
    refine ⟨fun z => ?_, fun z => ?_⟩
    · rw [if_neg (by omega), if_neg z5] at hR
      have hrm := un_rm (n := 2) (h := h1) (by omega)
      refine ⟨hrm.1, hrm.2, fun q hq => ?_⟩
      rintro _ rfl
      refine C.mono (r_row (d := d + 15) (E := "LetMill$Exp") c1 pk1 hq (by omega)) ?_
      rintro _ h2 ⟨rfl, k2, c2, u2, p2, hf2⟩
      have hrm2 := un_rm (n := 2) (h := h2) (by omega)
      refine KV.i ⟨hrm2.1, hrm2.2, fun so hso => ?_⟩
      rintro _ rfl
      refine C.mono (r_sgs (d := d + 15) c2 hso (by omega)) ?_
      rintro _ h3 ⟨rfl, sg, c3, u3, p3⟩
      have k3 := CB.nil ot1 k2 p2 hq hf2 sg p3
      exact KV.i (clev_128 hL (by omega) hsub c hu FU s1 [] [] 4 4 h3 R (by unfold FU; omega) k3 c3 hs1 (Nat.zero_le _) (fun _ => z) (by simp; omega) hR)
    · rw [if_pos (by omega)] at hR
      rw [hR]
      exact ⟨pk1, b1, rfl, c1, ot1, ct1, hs1, u1⟩
end
