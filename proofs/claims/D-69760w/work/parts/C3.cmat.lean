/-! THE COMPONENT'S READER: clauses behind one another -/
/-- a list was read into a row -/
def cL (G : Gh) (h : AH) (ts : List (Nat × Nat × Nat)) (D p : Nat) (E : String) (r : Except Nat (List Tr × St)) : Outcome → AH → Prop := fun o h' => KP h h' ∧ match r with
  | .ok (l, s') => ∃ a bs n, o = .returned (some (.ref a)) ∧ CS G h' ts D s' ∧ RB G h h' ts E l a bs n ∧ p < s'.1 ∧ un h' + 120 ≤ un h + 200 * (s'.1 - p)
  | .error k => ∃ a, o = .threw a ∧ FA h' ts a k ∧ un h' ≤ un h + 200 * (ts.length - p) + 100
theorem bd_ok {α β : Type} {a : α} {s : St} {f : α → St → Except Nat (β × St)} : bd (.ok (a, s)) f = f a s := rfl
section
variable {G : Gh} {d : Nat} {h h0 h1 h2 h3 h4 h' : AH} {ts : List (Nat × Nat × Nat)} {s s1 s2 s4 : St} {D k i q a b t r n p arr : Nat} {N : Nat → Prop} {E : String} {x y e p0 : Tr} {l vs : List Tr} {bs : List Nat} {P : Nat → Nat → St → Except Nat (Tr × St)}
theorem cL.er {p e : Nat} (p1 : KP h h1) (f : FA h1 ts a e) (hu : un h1 ≤ un h + 200 * (ts.length - p) + 100) : cL G h ts D p E (.error e) (.threw a) h1 := ⟨p1, a, rfl, f, hu⟩
theorem cmatch_8 (hp : CH G d ts D "LetMill$Pat" mX12_pat [] (P 1 D)) (he : CH G d ts D "LetMill$Exp" mX12_exp [] (P 0 D)) (hB : un h + 200 * (ts.length - t) + 140 ≤ UB) :
    ∀ f (s : St) l bs n h1 R, ts.length - s.1 < f + 1 → RB G h h1 ts "LetMill$Clause" l r bs n → CS G h1 ts D s → t ≤ s.1 → (1 ≤ bs.length → t < s.1) → bs.length ≤ 8 → un h1 + (12 * bs.length - 6 * n) ≤ un h + 38 + 200 * (s.1 - t) →
    R = (if l.length = 8 then .error (s.1 - 1) else bd (pArm (Kd ts) P D s) fun a s => bd (pMore (pSkip (Kd ts) 124 D) (pArm (Kd ts) P D) 8 f (l.length + 1) s) fun r s => .ok (l ++ a :: r, s)) →
    X G mX12_match (d + 17) none [] 8 [(0, .ref (gW G 7)), (1, .ref r)] [] h1 (cL G h ts D t "LetMill$Clause" R) := by
  intro f
  induction f with
  | zero =>
    intro s l bs n h1 R hf k c
    have hsl := c.2.2.2.1.2
    omega
  | succ f IH =>
    intro s l bs n h1 R hf k c hts hts1 hb8 hU hR
    have hl := c.len
    have hsl := c.2.2.2.1.2
    have hlen : l.length = bs.length := k.2.2.2.1.1
    refine bX12_match_8 G (d + 16) h1 _ _ (c.1.at (by decide)) ⟨k.2.1.1, ?_⟩
    rw [k.2.1.2.1, show (8 : Int32) = nI 8 from rfl, nI_eq (by omega) (by decide), ← hlen]
    refine ⟨fun z => ?_, fun z => ?_⟩
    · rw [if_pos z] at hR
      rw [hR]
      intro h2 e2
      obtain ⟨c2, p2, u2⟩ := c.bks (by omega) e2
      refine C.mono (c_wrong (d := d + 10) c2 (by omega)) ?_
      rintro _ h3 ⟨a, rfl, p3, f, u⟩
      exact KR.i (cL.er (k.1.tr (p2.tr p3)) f (by omega))
    · rw [if_neg z] at hR
      rw [show pArm (Kd ts) P D s = bd (P 1 D (s.1, s.2.1, 0)) fun p s1 => bd (pExpect (Kd ts) 284 D s1) fun _ s2 => bd (P 0 D s2) fun e s3 => .ok (n3 50 s.1 (.num 0) (ls [p]) e, s3) from rfl] at hR
      rw [bd_assoc] at hR
      rintro _ rfl h2 e2
      rw [c.2.2.2.1.1]
      obtain ⟨c2, p2, u2⟩ := c.p0s e2
      have pk2 := k.1.tr p2
      have e20 : ((s.1, s.2.1, 0) : St).1 = s.1 := rfl
      generalize ((s.1, s.2.1, 0) : St) = s0 at hR c2 e20
      refine C.mono (hp h2 s0 c2 (by omega)) ?_
      rintro o h3 ⟨p3, q3⟩
      have pk3 := (pk2).tr p3
      cases hr3 : P 1 D s0 with
      | error e =>
        rw [hr3] at q3 hR
        obtain ⟨a, rfl, f, u⟩ := q3
        change R = .error e at hR
        rw [hR]
        exact KR.t (cL.er pk3 f (by omega))
      | ok y3 =>
      obtain ⟨x3, s3⟩ := y3
      rw [hr3] at q3 hR
      rw [bd_ok] at hR
      obtain ⟨b3, rfl, c3, ot3, ct3, hs3, u3⟩ := q3
      have sl3 := c3.2.2.2.1.2
      refine KR.i ?_
      rw [bd_assoc] at hR
      refine C.mono (c_cexpect (d := d + 8) (w := 284) c3 (by decide) (by omega)) ?_
      rintro o h4 ⟨p4, q4⟩
      have pk4 := (pk3).tr p4
      cases hr4 : pExpect (Kd ts) 284 D s3 with
      | error e =>
        rw [hr4] at q4 hR
        obtain ⟨a, rfl, f, u⟩ := q4
        change R = .error e at hR
        rw [hR]
        exact KI.t (cL.er pk4 f (by omega))
      | ok y4 =>
      obtain ⟨x4, s4⟩ := y4
      rw [hr4] at q4 hR
      rw [bd_ok] at hR
      obtain ⟨rfl, c4, u4⟩ := q4
      have sl4 := c4.2.2.2.1.2
      refine KI.i ?_
      obtain ⟨-, es4⟩ := pExpect_ok hr4
      have hrm := un_rm (n := 3) (h := h4) (by omega)
      refine ⟨hrm.1, hrm.2, fun q hq => ?_⟩
      intro h5 e5
      have p5 : KP h4 h5 := by rw [e5]; exact KP.rf.nO hq
      have c5 : CS G h5 ts D s4 := by rw [e5]; exact c4.nO hq
      have hk5 : hK h5 q = 29 := by rw [e5, hK_nO, if_pos rfl]
      have u5 : un h5 = un h4 + 19 := by rw [e5, un_nO]; rfl
      clear e5
      have e1 : (1 : Int32).toNatClampNeg = 1 := by decide
      have e0 : (0 : Int32).toNatClampNeg = 0 := by decide
      rw [e1, e0]
      have hrm2 := un_rm (n := 1) (h := h5) (by omega)
      refine ⟨by decide, hrm2.1, hrm2.2, fun ar har => ?_⟩
      intro h6 e6
      have p6 : KP h5 h6 := by rw [e6]; exact KP.rf.nA har
      have p36 : KP h3 h6 := p4.tr (p5.tr p6)
      refine ⟨c5.1.ns har, by rw [e6, hL_nA, if_pos rfl]; exact vp_in_nI (by decide) (by decide), ?_, ?_⟩
      · obtain ⟨k0, k1, k2, k3⟩ := ct3.kp p36
        exact Or.inl ⟨k0, k1, k2, Or.inr k3⟩
      intro h7 e7
      have p7 : KP h5 h7 := by rw [e7, e6]; exact (KP.rf.nA har).sR har
      have c7 : CS G h7 ts D s4 := c5.kp p7 (by rw [e7, e6]; rfl) (by rw [e7, e6]; rfl) (by rw [e7, e6]; rfl) (by rw [e7, e6]; rfl)
      have hk7 : hK h7 ar = 1008 := by rw [e7, e6, hK_sR, hK_nA, if_pos rfl]
      have hl7 : hL h7 ar = 1 := by rw [e7, e6, hL_sR, hL_nA, if_pos rfl]
      have ha7 : aR h7 ar 0 = some b3 := by rw [e7, aR_sR, if_pos ⟨rfl, rfl⟩]
      have u7 : un h7 = un h5 + 17 := by rw [e7, e6, un_sR, un_nA]
      clear e6 e7 p6 p36
      have pk7 := pk4.tr (p5.tr p7)
      rw [bd_assoc] at hR
      refine C.mono (he h7 s4 c7 (by omega)) ?_
      rintro o h8 ⟨p8, q8⟩
      have pk8 := (pk7).tr p8
      cases hr8 : P 0 D s4 with
      | error e =>
        rw [hr8] at q8 hR
        obtain ⟨a, rfl, f, u⟩ := q8
        change R = .error e at hR
        rw [hR]
        exact KR.t (cL.er pk8 f (by omega))
      | ok y8 =>
      obtain ⟨x8, s8⟩ := y8
      rw [hr8] at q8 hR
      rw [bd_ok] at hR
      obtain ⟨b8, rfl, c8, ot8, ct8, hs8, u8⟩ := q8
      have sl8 := c8.2.2.2.1.2
      refine KR.i ?_
      rw [bd_ok] at hR
      have hkq8 : hK h8 q = 29 := p8.hk (p7.hk hk5 (by decide)) (by decide)
      refine C.mono (c_X31 (d := d + 15) hkq8) ?_
      rintro _ h9 ⟨rfl, e9⟩
      have w : WQ q h8 h9 := by rw [e9]; exact WQ.rf.pI.pR.pR
      have f16 : fI h9 q 316 = nI s.1 := by rw [e9, fI_pR, fI_pR, fI_pI, if_pos ⟨rfl, rfl⟩]
      have f17 : fR h9 q 317 = some ar := by rw [e9, fR_pR, if_neg (fun e => absurd e.2 (by decide)), fR_pR, if_pos ⟨rfl, rfl⟩]
      have f18 : fR h9 q 318 = some b8 := by rw [e9, fR_pR, if_pos ⟨rfl, rfl⟩]
      clear e9
      have hkq9 : hK h9 q = 29 := by rw [w.2.1.1]; exact hkq8
      have hq3 : hK h3 q = 0 := p4.fresh hq
      have p38 : KP h3 h8 := p4.tr (p5.tr (p7.tr p8))
      have p39 : KP h3 h9 := w.kp p38 hq3
      have p13 : KP h1 h3 := p2.tr p3
      have p19 : KP h1 h9 := p13.tr p39
      have hq1 : hK h1 q = 0 := p13.fresh hq3
      have har1 : hK h1 ar = 0 := p13.fresh (p4.fresh (p5.fresh har))
      have uar := (p8.2 ar (by rw [hk7]; decide)).tr (w.uk (a := ar) fun e => by rw [e] at hk7; have := p7.hk hk5 (by decide); omega)
      have o3 : OT ts (fun a => hK h1 a = 0) h9 x3 0 0 b3 := (ot3.kp p39).wk fun a ha => p2.fresh ha
      have p17 : KP h1 h7 := p13.tr (p4.tr (p5.tr p7))
      have o8 : OT ts (fun a => hK h1 a = 0) h9 x8 0 0 b8 := (w.ot (fun a ha e => by rw [e] at ha; have := p7.hk hk5 (by decide); omega) ot8).wk fun a ha => p17.fresh ha
      have o9 : OT ts (fun a => hK h1 a = 0) h9 (n3 50 s.1 (.num 0) (ls [x3]) x8) 0 0 q := by
        refine cl_ot (bs := [b3]) hq1 hkq9 (by omega) f16 f17 f18 ⟨uar.1.trans hk7, har1⟩ (TL.nil.snoc o3) (uar.2.1.trans hl7) (fun j b hj => ?_) o8 ⟨0, rfl⟩
        cases j with
        | zero => cases hj; rw [uar.2.2.2.2.1]; exact ha7
        | succ j => simp at hj
      have c9 := w.cs c8 (c4.1.nw hq)
      have u9 := w.un
      refine KV.i (C.mono (r_add (d := d + 14) k p19 c9 o9 ⟨28, by decide, hkq9, by decide⟩ (by omega) (Nat.le_refl _) (by omega)) ?_)
      rintro _ h10 ⟨rfl, c10, n', k10, u10⟩
      rw [pMore_b] at hR
      refine KV.i ?_
      refine C.mono (c_cskip (d := d + 8) (w := 124) c10 (by decide) (by omega)) ?_
      rintro o h11 ⟨p11, q11⟩
      have pk11 := (k10.1).tr p11
      cases hr11 : pSkip (Kd ts) 124 D s8 with
      | error e =>
        rw [hr11] at q11 hR
        obtain ⟨a, rfl, f, u⟩ := q11
        change R = .error e at hR
        rw [hR]
        exact KI.t (cL.er pk11 f (by omega))
      | ok y11 =>
      obtain ⟨x11, s11⟩ := y11
      rw [hr11] at q11 hR
      rw [bd_ok] at hR
      obtain ⟨rfl, c11, u11⟩ := q11
      have sl11 := c11.2.2.2.1.2
      refine KI.i ?_
      have es := pSkip_ge hr11
      have k11 := k10.kp p11
      rw [b2_0]
      refine ⟨fun z1 => ?_, fun z1 => ?_⟩
      · have e1 := es.1 z1
        rw [if_neg (by rw [z1]; decide)] at hR
        rw [hR, e1]
        rw [e1] at c11
        exact ⟨k11.1, r, bs ++ [q], n', rfl, c11, k11, by omega, by omega⟩
      · have e1 := es.2 (bt z1)
        rw [if_pos (bt z1)] at hR
        refine IH s11 (l ++ [n3 50 s.1 (.num 0) (ls [x3]) x8]) (bs ++ [q]) n' h11 R (by omega) k11 c11 (by omega) (fun _ => by omega) (by simp; omega) (by simp; omega) ?_
        rw [hR]
        simp only [List.length_append, List.length_cons, List.length_nil, List.append_assoc, List.singleton_append]
/-- clauses behind one another -/
theorem c_cmatch (hp : CH G d ts D "LetMill$Pat" mX12_pat [] (P 1 D)) (he : CH G d ts D "LetMill$Exp" mX12_exp [] (P 0 D)) (c : CS G h ts D s) (hB : un h + 200 * (ts.length - s.1) + 140 ≤ UB) : C G mX12_match (d + 17) [.ref (gW G 7)] h (cL G h ts D s.1 "LetMill$Clause" (pMatch (Kd ts) P D s)) := by
  have hl := c.len
  have hsl := c.2.2.2.1.2
  have hrm := un_rm (n := 2) (h := h) (by omega)
  refine bX12_match G (d + 16) h _ ⟨hrm.1, hrm.2, fun q hq => ?_⟩
  rintro _ rfl
  refine C.mono (r_row (d := d + 15) (E := "LetMill$Clause") c KP.rf hq (by omega)) ?_
  rintro _ h2 ⟨rfl, k2, c2, u2, p2, -⟩
  refine KV.i (cmatch_8 hp he hB FU s [] [] 4 h2 _ (by unfold FU; omega) k2 c2 (Nat.le_refl _) (fun q => by simp at q) (by simp) (by simp; omega) ?_)
  unfold pMatch
  rw [show pSep (Kd ts) 124 D 8 (pArm (Kd ts) P D) s = bd (pSep (Kd ts) 124 D 8 (pArm (Kd ts) P D) s) (fun l s => .ok (l, s)) from ?_, pSep_b]
  · rfl
  · cases pSep (Kd ts) 124 D 8 (pArm (Kd ts) P D) s with
    | error e => rfl
    | ok y => rfl
end
