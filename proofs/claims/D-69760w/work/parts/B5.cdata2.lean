/-! THE COMPONENT'S READER: a datatype's constructors -/
section
variable {G : Gh} {d : Nat} {h h0 h1 h2 h3 h4 h' : AH} {ts : List (Nat × Nat × Nat)} {s s1 s2 s4 : St} {D k i q a b t r n p arr : Nat} {N : Nat → Prop} {E : String} {x y p0 : Tr} {l vs : List Tr} {bs : List Nat} {P : Nat → Nat → St → Except Nat (Tr × St)}
/-- the whole tree of a datatype -/
theorem data_ot (k : RB G h h1 ts "LetMill$ConDec" l r bs n) (dO : DO G h h1 q r arr t vs) (ht : t < 5000) : OT ts (fun a => hK h a = 0) h1 (n3 55 t (.num (Vl ts t)) (ls vs) (ls l)) 0 0 q ∧ CT h1 q "LetMill$Data" := by
  obtain ⟨k1, k2, ⟨f1, f2, f3, f4⟩, ⟨a1, a2, a3, a4⟩, k5, k6⟩ := dO
  have hl7 : ∀ l : List Tr, (∃ v, ls l = .num v) ∨ ∃ y z, ls l = .add y z := by
    intro l
    cases l with
    | nil => exact Or.inl ⟨_, rfl⟩
    | cons a r => exact Or.inr ⟨_, _, rfl⟩
  refine ⟨OT_nd (k := 55) k1 (by rw [k2]; decide) ?_ (OT_c2 (by decide) (by decide) (OT_7 (Or.inl ⟨_, rfl⟩)) (OT_c2 (by decide) (by decide) (OT_7 (hl7 _)) ((OT_ef (m' := 22) (i' := 352) (by decide) (by decide)).mpr (k.row f4)))) (by decide), ⟨46, by decide, k2, by decide⟩⟩
  refine ⟨?_, ?_, ?_, ⟨fun q => by omega, fun q => by omega, fun q => by omega⟩, fun q => by omega, fun q => by omega, fun q => by omega, fun q => by omega, fun t' y' e => ⟨fun q => by omega, fun q => ?_, fun q => by omega, fun q => by omega, fun q => by omega, fun q => ?_⟩⟩
  · show (0 : Int) ≤ (t : Nat); omega
  · show ((t : Nat) : Int) < 5000; omega
  · rw [k2]
    show (fI h1 _ 349).toInt = _
    rw [f1, nI_toInt (by omega)]; rfl
  · cases e; exact ⟨_, rfl⟩
  · cases e; exact ⟨_, _, _, arr, rfl, f2, a3, a4, a1, f3, k5, k6⟩
theorem cdata_133 {t0 : Nat} (ht : t < 5000) (hy : D ≤ 30 → CH G d ts (D + 1) "LetMill$Ty" mX12_ty [] (P 3 (D + 1))) (hB : un h + 200 * (ts.length - t0) + 100 ≤ UB) :
    ∀ f (s : St) l bs n h1 R, ts.length - s.1 < f + 1 → RB G h h1 ts "LetMill$ConDec" l r bs n → DO G h h1 q r arr t vs → CS G h1 ts D s → t0 < s.1 → bs.length ≤ s.1 → un h1 + (12 * bs.length - 6 * n) + 20 ≤ un h + 200 * (s.1 - t0) →
    R = bd (pCon (Kd ts) (Vl ts) P D s) (fun a s => bd (pMore (pSkip (Kd ts) 124 D) (pCon (Kd ts) (Vl ts) P D) 0 f (l.length + 1) s) fun r s => .ok (n3 55 t (.num (Vl ts t)) (ls vs) (ls (l ++ a :: r)), s)) →
    X G mX12_data (d + 17) none [] 133 [(0, .ref (gW G 7)), (3, .ref q)] [] h1 (cP G h ts D t0 "LetMill$Data" R) := by
  intro f
  induction f with
  | zero =>
    intro s l bs n h1 R hf k dO c
    have hsl := c.2.2.2.1.2
    omega
  | succ f IH =>
    intro s l bs n h1 R hf k dO c h0s hbs hU hR
    have hl := c.len
    have hsl := c.2.2.2.1.2
    have hlen : l.length = bs.length := k.2.2.2.1.1
    have e51 : (ftab 51).length = 3 := by decide
    -- behind a constructor
    have tail : ∀ (h4 : AH) (s4 : St) (tc : Nat) (y : Tr) (ob : Option Nat) (v : Int32), v = nI tc → tc < 5000 → RB G h h4 ts "LetMill$ConDec" l r bs n → DO G h h4 q r arr t vs → CS G h4 ts D s4 → s.1 < s4.1 → ((y = .num 0 ∧ ob = none) ∨ ∃ b, ob = some b ∧ OT ts (Nr h h4 r) h4 y 0 0 b) →
        un h4 + (12 * bs.length - 6 * n) + 220 ≤ un h + 200 * (s4.1 - t0) + 200 → un h4 + (12 * bs.length - 6 * n) + 180 ≤ un h + 200 * (s4.1 - t0) →
        R = bd (pMore (pSkip (Kd ts) 124 D) (pCon (Kd ts) (Vl ts) P D) 0 (f + 1) (l.length + 1) s4) (fun r s => .ok (n3 55 t (.num (Vl ts t)) (ls vs) (ls (l ++ n2 56 tc (.num (Vl ts tc)) y :: r)), s)) →
        (hc h4 + 1 ≤ MC) ∧ (hs h4 + 3 ≤ MS) ∧ ∀ q11, hK h4 q11 = 0 → ∀ h13, h13 = nO h4 q11 51 → (C G mX56_init (d + 16) [.ref (q11), .int v, va_rf ob] h13 (KV (cP G h ts D t0 "LetMill$Data" R) (fun h16 => hK h16 r = 6 ∧ (C G mX7_add (d + 16) [.ref r, .ref (q11)] h16 (KV (cP G h ts D t0 "LetMill$Data" R) (fun h18 => C G mX12_skip (d + 16) [.ref (gW G 7), .int (124)] h18 (KI (cP G h ts D t0 "LetMill$Data" R) (fun x23 h21 => (x23 = 0 → (cP G h ts D t0 "LetMill$Data" R (.returned (some (.ref q))) h21)) ∧ (¬ x23 = 0 → (X G mX12_data (d + 17) none [] 133 [(0, .ref (gW G 7)), (3, .ref q)] [] h21 (cP G h ts D t0 "LetMill$Data" R))))))))))) := by
      rintro h4 s4 tc y ob _ rfl htc k4 dO4 c4 hs4 hy4 - u4 hR4
      have hs4l := c4.2.2.2.1.2
      have hrm := un_rm (n := 3) (h := h4) (by omega)
      refine ⟨hrm.1, hrm.2, fun p hp => ?_⟩
      rintro _ rfl
      refine C.mono (c_X56 (d := d + 15) (by rw [hK_nO, if_pos rfl])) ?_
      rintro _ _ ⟨rfl, rfl⟩
      have o5 := con_mk (ob := ob) (t := tc) k4 hp htc hy4
      have w : WQ p (nO h4 p 51) (pR (pI (nO h4 p 51) p 361 (nI tc)) p 362 ob) := WQ.rf.pI.pR
      have p5 := w.kp (KP.rf.nO (c := 51) hp) hp
      have k5 := k4.kp p5
      have dO5 := dO4.kp p5
      have c5 := w.cs (c4.nO hp) (c4.1.nw hp)
      have u5 : un (pR (pI (nO h4 p 51) p 361 (nI tc)) p 362 ob) = un h4 + 19 := by rw [w.un, un_nO, e51]
      generalize pR (pI (nO h4 p 51) p 361 (nI tc)) p 362 ob = h5 at *
      refine KV.i ⟨k5.2.1.1, ?_⟩
      refine C.use (r_addN (d := d + 14) k5 c5 o5.1 o5.2 (by omega) (Nat.le_refl _) (by omega)) (by decide) ?_
      rintro _ h6 ⟨rfl, c6, n', k6, u6⟩ lm -
      have dO6 := dO5.lm lm
      refine KV.i (C.mono (c_cskip (d := d + 8) (w := 124) c6 (by decide) (by omega)) ?_)
      rintro o h7 ⟨p7, q7⟩
      have k7 := k6.kp p7
      have dO7 := dO6.kp p7
      rw [pMore_b] at hR4
      cases hr : pSkip (Kd ts) 124 D s4 with
      | error e =>
        rw [hr] at q7 hR4
        obtain ⟨a, rfl, f, u⟩ := q7
        change R = .error e at hR4
        rw [hR4]
        exact KI.t (cP.er k7.1 f (by omega))
      | ok y7 =>
      obtain ⟨b0, s7⟩ := y7
      rw [hr] at q7 hR4
      obtain ⟨rfl, c7, u7⟩ := q7
      have es := pSkip_ge hr
      have hs7l := c7.2.2.2.1.2
      refine KI.i ?_
      rw [b2_0]
      refine ⟨fun z => ?_, fun z => ?_⟩
      · have e1 := es.1 z
        subst e1 z
        rw [bd_ff] at hR4
        rw [hR4]
        have o7 := data_ot k7 dO7 ht
        exact ⟨k7.1, q, rfl, c7, o7.1, o7.2, by omega, by omega⟩
      · have bt' := bt z
        subst bt'
        have e1 := es.2 rfl
        rw [bd_tt, if_neg (by omega)] at hR4
        refine IH s7 (l ++ [n2 56 tc (.num (Vl ts tc)) y]) (bs ++ [p]) n' h7 R (by omega) k7 dO7 c7 (by omega) (by simp; omega) (by simp; omega) ?_
        rw [hR4]
        simp only [List.length_append, List.length_cons, List.length_nil, List.append_assoc, List.singleton_append]
    refine bX12_data_133 G (d + 16) h1 _ _ (c.1.at (by decide)) ?_
    refine C.mono (c_cexpect (d := d + 8) (w := 281) c (by decide) (by omega)) ?_
    rintro o h2 ⟨p2, q2⟩
    have k2 := k.kp p2
    have dO2 := dO.kp p2
    unfold pCon at hR
    rw [bd_assoc] at hR
    cases hr : pExpect (Kd ts) 281 D s with
    | error e =>
      rw [hr] at q2 hR
      obtain ⟨a, rfl, f, u⟩ := q2
      change R = .error e at hR
      rw [hR]
      exact KI.t (cP.er k2.1 f (by omega))
    | ok y2 =>
    obtain ⟨tc, s2⟩ := y2
    rw [hr] at q2 hR
    obtain ⟨rfl, c2, u2⟩ := q2
    obtain ⟨etc, es2⟩ := pExpect_ok hr
    have hs2l := c2.2.2.2.1.2
    change R = bd (bd (pSkip (Kd ts) 268 D s2) _) _ at hR
    rw [bd_assoc] at hR
    refine KI.i (C.mono (c_cskip (d := d + 8) (w := 268) c2 (by decide) (by omega)) ?_)
    rintro o h3 ⟨p3, q3⟩
    have k3 := k2.kp p3
    have dO3 := dO2.kp p3
    cases hr3 : pSkip (Kd ts) 268 D s2 with
    | error e =>
      rw [hr3] at q3 hR
      obtain ⟨a, rfl, f, u⟩ := q3
      change R = .error e at hR
      rw [hR]
      exact KI.t (cP.er k3.1 f (by omega))
    | ok y3 =>
    obtain ⟨b0, s3⟩ := y3
    rw [hr3] at q3 hR
    obtain ⟨rfl, c3, u3⟩ := q3
    have es := pSkip_ge hr3
    have hs3l := c3.2.2.2.1.2
    refine KI.i ?_
    rw [b2_0]
    refine ⟨fun z => ?_, fun z => ?_⟩
    · have e1 := es.1 z
      subst e1 z
      exact ⟨dO3.2.1, r, dO3.2.2.1.2.2.2, tail h3 s3 tc (.num 0) none _ rfl (by omega) k3 dO3 c3 (by omega) (Or.inl ⟨rfl, rfl⟩) (by omega) (by omega) hR⟩
    · have bt' := bt z
      subst bt'
      have e1 := es.2 rfl
      change R = bd (bd (P 3 (D + 1) s3) _) _ at hR
      rw [bd_assoc] at hR
      rintro _ rfl
      have k3' := k3.kp (kp_rd (G := G) (g := 116) (v := fI h3 (gW G 7) 116 + 1) (by decide))
      have dO3' := dO3.kp (kp_rd (G := G) (g := 116) (v := fI h3 (gW G 7) 116 + 1) (by decide))
      refine C.mono (hy e1.2 _ s3 (c3.up (by omega)) (by rw [un_pI]; omega)) ?_
      rintro o h4 ⟨p4, q4⟩
      rw [un_pI] at q4
      generalize pI h3 (gW G 7) 116 (fI h3 (gW G 7) 116 + 1) = hx at *
      have k4 := k3'.kp p4
      have dO4 := dO3'.kp p4
      cases hr4 : P 3 (D + 1) s3 with
      | error e =>
        rw [hr4] at q4 hR
        obtain ⟨a, rfl, f, u⟩ := q4
        change R = .error e at hR
        rw [hR]
        exact KR.t (cP.er k4.1 f (by omega))
      | ok y4 =>
      obtain ⟨x, s4⟩ := y4
      rw [hr4] at q4 hR
      obtain ⟨b, rfl, c4, ot, ct, hs4, u4⟩ := q4
      refine KR.i ?_
      rintro _ rfl
      have p5 : KP h4 (pI h4 (gW G 7) 116 (fI h4 (gW G 7) 116 - 1)) := kp_rd (by decide)
      have c5 := c4.dn
      have k5 := k4.kp p5
      have dO5 := dO4.kp p5
      have u5 : un (pI h4 (gW G 7) 116 (fI h4 (gW G 7) 116 - 1)) = un h4 := rfl
      have hr1 : hK hx r ≠ 0 := by rw [k3'.2.1.1]; decide
      obtain ⟨ar, har⟩ : ∃ ar, fR hx r 77 = some ar ∧ hK hx ar = 1004 := by
        obtain ⟨q1, q2, q3, q4, q5, ar, q6, q7, -⟩ := k3'.2.1
        exact ⟨ar, q6, q7⟩
      have e77 : fR (pI h4 (gW G 7) 116 (fI h4 (gW G 7) 116 - 1)) r 77 = fR hx r 77 := (((p4.tr p5).2 r hr1).2.2.2.2.2 77 (by decide)).2.2
      have oN : OT ts (Nr h (pI h4 (gW G 7) 116 (fI h4 (gW G 7) 116 - 1)) r) (pI h4 (gW G 7) 116 (fI h4 (gW G 7) 116 - 1)) x 0 0 b := by
        refine (ot.kp p5).wk fun a ha => ⟨k3'.1.fresh ha, fun e => hr1 (by rw [← e]; exact ha), fun e => ?_⟩
        rw [e77, har.1] at e
        cases e
        rw [har.2] at ha
        cases ha
      generalize pI h4 (gW G 7) 116 (fI h4 (gW G 7) 116 - 1) = h5 at *
      exact ⟨dO5.2.1, r, dO5.2.2.1.2.2.2, tail h5 s4 tc x (some b) _ rfl (by omega) k5 dO5 c5 (by omega) (Or.inr ⟨b, rfl, oN⟩) (by omega) (by omega) hR⟩
end
