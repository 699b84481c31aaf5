/-! THE COMPONENT'S READER: types -/
section
variable {G : Gh} {d : Nat} {h h1 h2 h3 h' : AH} {ts : List (Nat × Nat × Nat)} {s s1 s2 : St} {D k i q a b t r n : Nat} {N : Nat → Prop} {E : String} {x p0 : Tr} {l : List Tr} {bs : List Nat} {P : Nat → Nat → St → Except Nat (Tr × St)}
theorem c_X51 {p : Int32} (hf : HF h a 354 0) : C G mX51_init (d + 1) [.ref a, .int p] h (fun o h' => o = .returned none ∧ h' = pI h a 354 p) := bX51_init G (d + 1) (Nat.le_add_left _ _) h _ _ _ ⟨hf, fun _ e => ⟨rfl, e⟩⟩
theorem c_X53 {p : Int32} (hk : hK h a = 49) : C G mX53_init (d + 2) [.ref a, .int p] h (fun o h' => o = .returned none ∧ h' = pI h a 354 p) := by
  refine bX53_init G (d + 1) h _ _ _ (C.mono (c_X51 (hf_of 48 hk rfl (by decide) (by decide))) ?_)
  rintro _ _ ⟨rfl, rfl⟩
  exact KV.i ⟨rfl, rfl⟩
theorem c_X52 {p : Int32} {b : Nat} (hk : hK h a = 48) : C G mX52_init (d + 2) [.ref a, .int p, .ref b] h (fun o h' => o = .returned none ∧ h' = pR (pI h a 354 p) a 355 (some b)) := by
  refine bX52_init G (d + 1) h _ _ _ _ (C.mono (c_X51 (hf_of 47 hk rfl (by decide) (by decide))) ?_)
  rintro _ _ ⟨rfl, rfl⟩
  exact KV.i ⟨hk, fun _ e => ⟨rfl, e⟩⟩
theorem c_X54 {p : Int32} {b : Nat} (hk : hK h a = 50) : C G mX54_init (d + 2) [.ref a, .int p, .ref b] h (fun o h' => o = .returned none ∧ h' = pR (pI h a 354 p) a 358 (some b)) := by
  refine bX54_init G (d + 1) h _ _ _ _ (C.mono (c_X51 (hf_of 49 hk rfl (by decide) (by decide))) ?_)
  rintro _ _ ⟨rfl, rfl⟩
  exact KV.i ⟨hk, fun _ e => ⟨rfl, e⟩⟩
theorem c_X55 {p : Int32} {b c : Nat} (hk : hK h a = 51) : C G mX55_init (d + 2) [.ref a, .int p, .ref b, .ref c] h (fun o h' => o = .returned none ∧ h' = pR (pR (pI h a 354 p) a 359 (some b)) a 360 (some c)) := by
  refine bX55_init G (d + 1) h _ _ _ _ _ (C.mono (c_X51 (hf_of 50 hk rfl (by decide) (by decide))) ?_)
  rintro _ _ ⟨rfl, rfl⟩
  refine KV.i ⟨hk, ?_⟩
  rintro _ rfl _ rfl
  exact ⟨rfl, rfl⟩
theorem CT_ty (hk : hK h q = k + 1) (hm : k = 47 ∨ k = 48 ∨ k = 49 ∨ k = 50) : CT h q "LetMill$Ty" := by
  refine ⟨k, by omega, hk, ?_⟩
  rcases hm with rfl | rfl | rfl | rfl <;> decide
theorem Uk.rf : Uk h h a := ⟨rfl, rfl, rfl, rfl, rfl, fun _ _ => ⟨rfl, rfl, rfl⟩⟩
/-- the list of a row, as an object's child -/
theorem RB.row {g : Nat} (k : RB G h h2 ts E l r bs n) (hf : fR h2 q g = some r) : OT ts (fun a => hK h a = 0) h2 (ls l) 22 g q :=
  OT_row (k.tl fun _ _ _ => Uk.rf) hf k.2.1 k.nn
/-- trees that were there behind h stay, when a new object is written -/
theorem ot_new {cc : Nat} (hq : hK h1 q = 0) (w : WQ q (nO h1 q cc) h2) (ot : OT ts (fun a => hK h a = 0) h1 x 0 0 b) : OT ts (fun a => hK h a = 0) h2 x 0 0 b := by
  refine OT.mv (fun a ha hl => ⟨?_, ha⟩) x 0 0 b (Or.inl rfl) (fun q => by omega) (fun q => by omega) (fun q => by omega) ot
  have hne : a ≠ q := fun e => hl (by rw [e]; exact hq)
  exact ((KP.rf.nO (c := cc) hq).2 a hl).tr (w.uk hne)
theorem c_cty (hpr : CH G d ts D "LetMill$Ty" mX12_product [] (P 4 D)) (hy : D ≤ 30 → CH G d ts (D + 1) "LetMill$Ty" mX12_ty [] (P 3 (D + 1))) : CH G (d + 1) ts D "LetMill$Ty" mX12_ty [] (pTy (Kd ts) P D) := by
  intro h s c hu
  have hl := c.len
  have hsl := c.2.2.2.1.2
  refine bX12_ty G (d + 16) h _ (c.1.at (by decide)) ?_
  rintro _ rfl
  rw [c.2.2.2.1.1]
  unfold pTy
  refine C.mono (hpr h s c hu) ?_
  rintro o h1 ⟨p1, q⟩
  cases hr : P 4 D s with
  | error e =>
    rw [hr] at q
    obtain ⟨a, rfl, f, u⟩ := q
    exact KR.t (cP.er p1 f (by omega))
  | ok y =>
  obtain ⟨x, s1⟩ := y
  rw [hr] at q
  obtain ⟨b, rfl, c1, ot, ct, hs1, u1⟩ := q
  have hs1l := c1.2.2.2.1.2
  simp only [show ∀ (x : Tr × St) (f : Tr → St → Except Nat (Tr × St)), bd (.ok x) f = f x.1 x.2 from fun _ _ => rfl]
  refine KR.i (C.mono (c_cskip (d := d + 8) (w := 285) c1 (by decide) (by omega)) ?_)
  rintro o h2 ⟨p2, q⟩
  cases hr2 : pSkip (Kd ts) 285 D s1 with
  | error e =>
    rw [hr2] at q
    obtain ⟨a, rfl, f, u⟩ := q
    exact KI.t (cP.er (p1.tr p2) f (by omega))
  | ok y2 =>
  obtain ⟨b2', s2⟩ := y2
  rw [hr2] at q
  obtain ⟨rfl, c2, u2⟩ := q
  have es := pSkip_ge hr2
  have hs2l := c2.2.2.2.1.2
  refine KI.i ?_
  rw [b2_0]
  show (b2' = false → cP G h ts D s.1 _ (if b2' = false then .ok (x, s2) else _) _ _) ∧ (¬ b2' = false → _)
  refine ⟨fun z => ?_, fun z => ?_⟩
  · rw [if_pos z]
    have e1 := es.1 z
    subst e1
    exact ⟨p1.tr p2, b, rfl, c2, ot.kp p2, ct.kp p2, hs1, by omega⟩
  · have e1 := es.2 (bt z)
    rintro _ rfl
    refine C.mono (hy e1.2 _ s2 (c2.up (by omega)) (by rw [un_pI]; omega)) ?_
    rintro o h3 ⟨p3, q⟩
    rw [un_pI] at q
    have pk : KP h1 h3 := (p2.tr (kp_rd (G := G) (by decide))).tr p3
    show KR (cP G h ts D s.1 _ (bd (.ok (b2', s2)) fun b s2 => if b = false then .ok (x, s2) else bd (P 3 (D + 1) s2) fun c s3 => .ok (n2 59 s.1 x c, s3))) _ _ _
    have eR : (bd (.ok (b2', s2)) fun b s2 => if b = false then .ok (x, s2) else bd (P 3 (D + 1) s2) fun c s3 => .ok (n2 59 s.1 x c, s3)) = bd (P 3 (D + 1) s2) fun c s3 => .ok (n2 59 s.1 x c, s3) := by
      show (if b2' = false then _ else _) = _
      rw [if_neg z]
    rw [eR]
    cases hr3 : P 3 (D + 1) s2 with
    | error e =>
      rw [hr3] at q
      obtain ⟨a, rfl, f, u⟩ := q
      exact KR.t (cP.er (p1.tr pk) f (by omega))
    | ok y3 =>
    obtain ⟨x3, s3⟩ := y3
    rw [hr3] at q
    obtain ⟨b3, rfl, c3, ot3, ct3, hs3, u3⟩ := q
    have hs3l := c3.2.2.2.1.2
    refine KR.i ?_
    rintro _ rfl
    have c4 := c3.dn
    have hrm := un_rm (n := 3) (h := pI h3 (gW G 7) 116 (fI h3 (gW G 7) 116 - 1)) (by rw [un_pI]; omega)
    refine ⟨hrm.1, hrm.2, fun q hq => ?_⟩
    rintro _ rfl
    refine C.mono (c_X55 (d := d + 14) (by rw [hK_nO, if_pos rfl])) ?_
    rintro _ _ ⟨rfl, rfl⟩
    generalize hh4 : pI h3 (gW G 7) 116 (fI h3 (gW G 7) 116 - 1) = h4 at *
    have p4 : KP h3 h4 := by rw [← hh4]; exact kp_rd (by decide)
    have u4 : un h4 = un h3 := by rw [← hh4]; rfl
    have w : WQ q (nO h4 q 50) (pR (pR (pI (nO h4 q 50) q 354 (nI s.1)) q 359 (some b)) q 360 (some b3)) := WQ.rf.pI.pR.pR
    have pA : KP h h4 := p1.tr (pk.tr p4)
    have pq := pA.fresh hq
    have hk3 : hK (pR (pR (pI (nO h4 q 50) q 354 (nI s.1)) q 359 (some b)) q 360 (some b3)) q = 51 := by rw [hK_pR, hK_pR, hK_pI, hK_nO, if_pos rfl]
    have o1 := ot_new hq w (ot.kp (pk.tr p4))
    have o2 := ot_new hq w ((ot3.kp p4).wk fun a ha => ((p1.tr p2).tr (kp_rd (G := G) (g := 116) (v := fI h2 (gW G 7) 116 + 1) (by decide))).fresh ha)
    refine KV.i ⟨w.kp (pA.nO hq) pq, q, rfl, w.cs (c4.nO hq) (c4.1.nw hq), OT_nd (k := 59) pq (by rw [hk3]; decide) (EX_pl (by decide) (by omega) (by rw [hk3]; show fI (pR (pR (pI (nO h4 q 50) q 354 (nI s.1)) q 359 (some b)) q 360 (some b3)) q 354 = _; rw [fI_pR, fI_pR, fI_pI, if_pos ⟨rfl, rfl⟩])) (OT_c2 (by decide) (by decide) (OT_f ?_ o1) ((OT_ef (m' := 1) (i' := 360) (by decide) (by decide)).mpr (OT_f ?_ o2))) (by decide), CT_ty hk3 (by decide), by omega, ?_⟩
    · show fR (pR (pR (pI (nO h4 q 50) q 354 (nI s.1)) q 359 (some b)) q 360 (some b3)) q 359 = some b
      rw [fR_pR, if_neg (fun e => absurd e.2 (by decide)), fR_pR, if_pos ⟨rfl, rfl⟩]
    · rw [fR_pR, if_pos ⟨rfl, rfl⟩]
    · rw [w.un, un_nO, u4]
      show un h3 + 16 + 3 + 120 ≤ _
      omega
end
