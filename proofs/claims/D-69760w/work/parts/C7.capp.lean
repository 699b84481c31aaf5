/-! THE COMPONENT'S READER: applications; arrays of expressions -/
section
variable {G : Gh} {d : Nat} {h hb h0 h1 h2 h3 h4 h' : AH} {ts : List (Nat × Nat × Nat)} {s s1 s2 s4 : St} {D D0 k i q a b t r n m p arr so be L : Nat} {s0 : St} {N N' : Nat → Prop} {E : String} {x y e p0 : Tr} {l vs : List Tr} {bs : List Nat} {sl : List Int32} {P : Nat → Nat → St → Except Nat (Tr × St)}
theorem nws_st {cc : Nat} (c : CS G h ts D s) (hq : hK h q = 0) (e : h' = nO h q cc) : CS G h' ts D s ∧ KP h h' ∧ un h' = un h + 16 + (ftab cc).length ∧ hK h' q = cc + 1 := by
  subst e
  exact ⟨c.nO hq, KP.rf.nO hq, un_nO, by rw [hK_nO, if_pos rfl]⟩
/-- a row's trees, once no more is added -/
theorem RB.tl0 (k : RB G h h1 ts E l r bs n) : TL ts (fun a => hK h a = 0) h1 l bs := k.tl fun _ _ _ => Uk.rf
theorem TL.wk (hN : ∀ a, N a → N' a) (k : TL ts N h l bs) : TL ts N' h l bs := k.mv fun a ha _ => ⟨Uk.rf, hN a ha⟩
theorem capp_27 (ht : t < 5000) (ha : CH G d ts D "LetMill$Exp" mX12_atom [] (P 8 D)) (pb : KP h hb) (oe : OT ts (fun a => hK h a = 0) hb e 0 0 be) (hB : un h + 200 * (ts.length - t) + 100 ≤ UB) :
    ∀ f (s : St) l bs n h1 R, ts.length - s.1 < f → RB G hb h1 ts "LetMill$Exp" l r bs n → CS G h1 ts D s → t < s.1 → bs.length ≤ s.1 → (bs.length = 0 → isExp (Kd ts s.1) = true) → un h1 + (12 * bs.length - 6 * n) + 80 + 80 * bs.length ≤ un h + 200 * (s.1 - t) →
    R = bd (pWhile (fun s => isExp (Kd ts s.1)) (P 8 D) f s) (fun r s2 => .ok (n2 15 t e (ls (l ++ r)), s2)) →
    X G mX12_application (d + 17) none [] 27 [(0, .ref (gW G 7)), (1, .int (nI t)), (2, .ref be), (3, .ref r)] [] h1 (cP G h ts D t "LetMill$Exp" R) := by
  intro f
  induction f with
  | zero => intro s l bs n h1 R hf; omega
  | succ f IH =>
    intro s l bs n h1 R hf k c hts hbs h0l hU hR
    have hl := c.len
    have hsl := c.2.2.2.1.2
    have hlen : l.length = bs.length := k.2.2.2.1.1
    have pk1 := pb.tr k.1
    refine bX12_application_27 G (d + 16) h1 _ _ _ _ (c.1.at (by decide)) (C.ri (c_bExp (d := d + 15) c) ?_)
    rw [b2_0]
    rw [pWhile_b] at hR
    refine ⟨fun z => ?_, fun z => ?_⟩
    · rw [if_neg (show ¬ (isExp (Kd ts s.1) = true) by rw [z]; decide), List.append_nil] at hR
      have hb1 : 1 ≤ bs.length := Classical.byContradiction fun hn => by
        have := h0l (by omega)
        rw [z] at this
        cases this
      have hrm := un_rm (n := 4) (h := h1) (by omega)
      refine ⟨hrm.1, hrm.2, fun q hq => ?_⟩
      intro h2 e2
      obtain ⟨c2, p2, u2, hkq⟩ := nws_st c hq e2
      have e40 : (ftab 40).length = 4 := by decide
      rw [e40] at u2
      have k2 := k.kp p2
      refine C.mono (c_expsOf (d := d + 13) k2.2.1 c2.1 k2.2.2.2.2 (by omega)) ?_
      rintro _ h3 ⟨ar, rfl, har, p3, ka, la, aa, u3, f3⟩
      have c3 := c2.kp p3 (f3 _) (f3 _) (f3 _) (f3 _)
      refine KR.i (C.mono (c_X44 (d := d + 14) (p3.hk hkq (by decide))) ?_)
      rintro _ h4 ⟨rfl, e4⟩
      have w : WQ q h3 h4 := by rw [e4]; exact WQ.rf.eI.pR.pR
      have f0 : fI h4 q 296 = nI t := by rw [e4, fI_pR, fI_pR, fI_eI]
      have f1 : fR h4 q 334 = some be := by rw [e4, fR_pR, if_neg (fun e => absurd e.2 (by decide)), fR_pR, if_pos ⟨rfl, rfl⟩]
      have f4 : fR h4 q 335 = some ar := by rw [e4, fR_pR, if_pos ⟨rfl, rfl⟩]
      clear e4
      have hk4 : hK h4 q = 41 := by rw [w.2.1.1]; exact p3.hk hkq (by decide)
      have p14 : KP h1 h4 := w.kp (p2.tr p3) hq
      have k4 := k.kp p14
      have pq := pk1.fresh hq
      have tl := k4.tl0.wk (N' := fun a => hK h a = 0) fun a ha => pb.fresh ha
      have oe4 := oe.kp (k.1.tr p14)
      have hA : ArF (fun a => hK h a = 0) h4 q 335 ar := ⟨f4, (by rw [w.2.1.1]; exact ka), pk1.fresh (p2.fresh har)⟩
      rw [hR]
      refine KV.i ⟨pb.tr k4.1, q, rfl, w.cs c3 (c.1.nw hq), OT_nd (k := 15) pq (by rw [hk4]; decide) (EX_pl (by decide) ht (by rw [hk4]; exact f0)) (OT_c2 (by decide) (by decide) (OT_f f1 oe4) ((OT_ef (m' := 21) (i' := 335) (by decide) (by decide)).mpr (OT_arr tl hA (by rw [w.2.1.2.1, la, hlen]) fun j b hj => by rw [w.2.1.2.2.2.2]; exact aa j b hj))) (by decide), CT_exp hk4 (by decide), hts, ?_⟩
      rw [w.un]
      omega
    · rw [if_pos (show isExp (Kd ts s.1) = true from bt z)] at hR
      refine C.mono (ha h1 s c (by omega)) ?_
      rintro o h4 ⟨p4, q4⟩
      have pk4 := (pk1).tr p4
      cases hr4 : P 8 D s with
      | error e =>
        rw [hr4] at q4 hR
        obtain ⟨a, rfl, f, u⟩ := q4
        change R = .error e at hR
        rw [hR]
        exact KR.t (cP.er pk4 f (by omega))
      | ok y4 =>
      obtain ⟨x4, s4⟩ := y4
      rw [hr4] at q4 hR
      rw [bd_ok] at hR
      obtain ⟨b4, rfl, c4, ot4, ct4, hs4, u4⟩ := q4
      have sl4 := c4.2.2.2.1.2
      refine KR.i ?_
      refine ⟨(k.kp p4).2.1.1, C.mono (r_add (d := d + 14) k p4 c4 ot4 ct4 (by omega) (Nat.le_refl _) (by omega)) ?_⟩
      rintro _ h5 ⟨rfl, c5, n', k5, u5⟩
      refine KV.i (IH s4 (l ++ [x4]) (bs ++ [b4]) n' h5 R (by omega) k5 c5 (by omega) (by simp; omega) (fun q => by simp at q) (by simp; omega) ?_)
      rw [hR]
      simp only [List.append_assoc, List.singleton_append]
/-- an application -/
theorem c_capp (ha : CH G d ts D "LetMill$Exp" mX12_atom [] (P 8 D)) : CH G (d + 1) ts D "LetMill$Exp" mX12_application [] (pApp (Kd ts) P D) := by
  intro h s c hu
  have hl := c.len
  have hsl := c.2.2.2.1.2
  refine bX12_application G (d + 16) h _ (c.1.at (by decide)) ?_
  rintro _ rfl
  rw [c.2.2.2.1.1]
  obtain ⟨R, hR⟩ : ∃ R, R = pApp (Kd ts) P D s := ⟨_, rfl⟩
  rw [← hR]
  unfold pApp at hR
  refine C.mono (ha h s c hu) ?_
  rintro o h1 ⟨p1, q1⟩
  have pk1 := (KP.rf).tr p1
  cases hr1 : P 8 D s with
  | error e =>
    rw [hr1] at q1 hR
    obtain ⟨a, rfl, f, u⟩ := q1
    change R = .error e at hR
    rw [hR]
    exact KR.t (cP.er pk1 f (by omega))
  | ok y1 =>
  obtain ⟨x1, s1⟩ := y1
  rw [hr1] at q1 hR
  rw [bd_ok] at hR
  obtain ⟨b1, rfl, c1, ot1, ct1, hs1, u1⟩ := q1
  have sl1 := c1.2.2.2.1.2
  refine KR.i ?_
  refine C.ri (c_bExp (d := d + 15) c1) ?_
  rw [b2_0]
  refine ⟨fun z => ?_, fun z => ?_⟩
  · rw [if_pos z] at hR
    rw [hR]
    exact ⟨pk1, b1, rfl, c1, ot1, ct1, hs1, u1⟩
  · rw [if_neg z] at hR
    have hrm := un_rm (n := 2) (h := h1) (by omega)
    refine ⟨hrm.1, hrm.2, fun q hq => ?_⟩
    rintro _ rfl
    refine C.mono (r_row (d := d + 15) (E := "LetMill$Exp") c1 KP.rf hq (by omega)) ?_
    rintro _ h2 ⟨rfl, k2, c2, u2, p2, -⟩
    exact KV.i (capp_27 (by omega) ha pk1 ot1 hu FU s1 [] [] 4 h2 R (by unfold FU; omega) k2 c2 hs1 (Nat.zero_le _) (fun _ => bt z) (by simp; omega) hR)
/-- the ends of tuples, sequences and lists -/
theorem parts_end {cc kk : Nat} {μ : Mu} {R : Except Nat (Tr × St)} (hI : ∀ (h : AH) (a v : Nat), hK h a = cc + 1 → C G μ (d + 16) [.ref a, .int (nI t), .ref v] h (fun o h' => o = .returned none ∧ h' = pR (eI h a (nI t)) a 333 (some v))) (hcc : (cc = 37 ∧ kk = 8) ∨ (cc = 38 ∧ kk = 9) ∨ (cc = 39 ∧ kk = 10)) (ht : t < 5000) (pb : KP h hb) (k : RB G hb h1 ts "LetMill$Exp" l r bs n) (c : CS G h1 ts D s) (hts : p < s.1) (hu : un h1 + bs.length + 155 ≤ un h + 200 * (s.1 - p)) (hB : un h1 + bs.length + 100 ≤ UB) (hR : R = .ok (n1 kk t (ls l), s)) :
    (hc h1 + 1 ≤ MC) ∧ (hs h1 + 3 ≤ MS) ∧ ∀ q15, hK h1 q15 = 0 → ∀ h17, h17 = nO h1 q15 cc → (C G mX12_expsOf (d + 16) [.ref r] h17 (KR (cP G h ts D p "LetMill$Exp" R) (fun b22 h20 => C G μ (d + 16) [.ref (q15), .int (nI t), .ref (b22)] h20 (KV (cP G h ts D p "LetMill$Exp" R) (fun h23 => cP G h ts D p "LetMill$Exp" R (.returned (some (.ref (q15)))) h23))))) := by
  have hl := c.len
  have hlen : l.length = bs.length := k.2.2.2.1.1
  have hrm := un_rm (n := 3) (h := h1) (by omega)
  refine ⟨hrm.1, hrm.2, fun q hq => ?_⟩
  intro h2 e2
  obtain ⟨c2, p2, u2, hkq⟩ := nws_st c hq e2
  have e40 : (ftab cc).length = 3 := by rcases hcc with ⟨rfl, -⟩ | ⟨rfl, -⟩ | ⟨rfl, -⟩ <;> decide
  rw [e40] at u2
  have k2 := k.kp p2
  have pk1 := pb.tr k.1
  refine C.mono (c_expsOf (d := d + 13) k2.2.1 c2.1 k2.2.2.2.2 (by omega)) ?_
  rintro _ h3 ⟨ar, rfl, har, p3, ka, la, aa, u3, f3⟩
  have c3 := c2.kp p3 (f3 _) (f3 _) (f3 _) (f3 _)
  refine KR.i (C.mono (hI h3 q ar (p3.hk hkq (by omega))) ?_)
  rintro _ h4 ⟨rfl, e4⟩
  have w : WQ q h3 h4 := by rw [e4]; exact WQ.rf.eI.pR
  have f0 : fI h4 q 296 = nI t := by rw [e4, fI_pR, fI_eI]
  have f4 : fR h4 q 333 = some ar := by rw [e4, fR_pR, if_pos ⟨rfl, rfl⟩]
  clear e4
  have hk4 : hK h4 q = cc + 1 := by rw [w.2.1.1]; exact p3.hk hkq (by omega)
  have p14 : KP h1 h4 := w.kp (p2.tr p3) hq
  have k4 := k.kp p14
  have pq := pk1.fresh hq
  have tl := k4.tl0.wk (N' := fun a => hK h a = 0) fun a ha => pb.fresh ha
  have hA : ArF (fun a => hK h a = 0) h4 q 333 ar := ⟨f4, (by rw [w.2.1.1]; exact ka), pk1.fresh (p2.fresh har)⟩
  rw [hR]
  refine KV.i ⟨pb.tr k4.1, q, rfl, w.cs c3 (c.1.nw hq), ?_, ?_, hts, by rw [w.un]; omega⟩
  · have oa : OT ts (fun a => hK h a = 0) h4 (ls l) 21 333 q := OT_arr tl hA (by rw [w.2.1.2.1, la, hlen]) fun j b hj => by rw [w.2.1.2.2.2.2]; exact aa j b hj
    rcases hcc with ⟨rfl, rfl⟩ | ⟨rfl, rfl⟩ | ⟨rfl, rfl⟩
    · exact OT_nd (k := 8) pq (by rw [hk4]; decide) (EX_pl (by decide) ht (by rw [hk4]; exact f0)) (OT_l1 (m := 21) (g := 333) (by decide) (by decide) oa) (by decide)
    · exact OT_nd (k := 9) pq (by rw [hk4]; decide) (EX_pl (by decide) ht (by rw [hk4]; exact f0)) (OT_l1 (m := 21) (g := 333) (by decide) (by decide) oa) (by decide)
    · exact OT_nd (k := 10) pq (by rw [hk4]; decide) (EX_pl (by decide) ht (by rw [hk4]; exact f0)) (OT_l1 (m := 21) (g := 333) (by decide) (by decide) oa) (by decide)
  · rcases hcc with ⟨rfl, -⟩ | ⟨rfl, -⟩ | ⟨rfl, -⟩ <;> exact CT_exp hk4 (by decide)
end
