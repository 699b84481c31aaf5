/-! THE COMPONENT'S READER: types, names behind them -/
section
variable {G : Gh} {d : Nat} {h h1 h2 h3 h' : AH} {ts : List (Nat × Nat × Nat)} {s s1 s2 : St} {D k i q a b t r n : Nat} {N : Nat → Prop} {E : String} {x p0 : Tr} {l : List Tr} {bs : List Nat} {P : Nat → Nat → St → Except Nat (Tr × St)}
theorem cappl_185 {t0 : Nat} (ht0 : t0 < 5000) (hB : un h + 200 * (ts.length - t0) + 100 ≤ UB) :
    ∀ f n (x : Tr) (s : St) b h1, 22 ≤ f + n → n ≤ 20 → KP h h1 → CS G h1 ts D s → OT ts (fun a => hK h a = 0) h1 x 0 0 b → CT h1 b "LetMill$Ty" → t0 < s.1 → un h1 + 120 ≤ un h + 200 * (s.1 - t0) →
    X G mX12_applied (d + 17) none [] 185 [(0, .ref (gW G 7)), (1, .ref b), (2, .int (nI n))] [] h1 (cP G h ts D t0 "LetMill$Ty" (pNames (Kd ts) (Vl ts) f n D x s)) := by
  intro f
  induction f with
  | zero => intro n x s b h1 hf hn; omega
  | succ f IH =>
    intro n x s b h1 hf hn p c ot ct ht hu
    have hl := c.len
    have hsl := c.2.2.2.1.2
    have hk := c.k4 hsl
    refine bX12_applied_185 G (d + 16) h1 _ _ _ (c.1.at (by decide)) (C.ri (c_kind c) ?_)
    rw [show (280 : Int32) = nI 280 from rfl, nI_eq (by omega) (by decide), show (20 : Int32) = nI 20 from rfl, nI_eq (a := n) (by omega) (by decide), pNames]
    refine ⟨fun z => ?_, fun z => ?_⟩
    · rw [if_pos z]
      refine ⟨fun z2 => ?_, fun z2 => ?_⟩
      · rw [if_pos z2]
        refine C.mono (c_wrong (d := d + 10) c (by omega)) ?_
        rintro _ h2 ⟨a, rfl, p2, f, u⟩
        exact KR.i (cP.er (p.tr p2) f (by omega))
      · rw [if_neg z2]
        have hrm := un_rm (n := 2) (h := h1) (by omega)
        refine ⟨hrm.1, hrm.2, fun r hr => ?_⟩
        rintro _ rfl
        refine C.mono (r_row (d := d + 15) (E := "LetMill$Ty") c p hr (by omega)) ?_
        rintro _ h2 ⟨rfl, k2, c2, u2, p2, hf2⟩
        refine KV.i (C.mono (r_addN (d := d + 14) k2 c2 (ot_nr p2 hr hf2 ot) (ct.kp p2) (by simp) (Nat.le_refl _) (by simp; omega)) ?_)
        rintro _ h3 ⟨rfl, c3, n', k3, u3⟩
        simp at u3
        have hrm3 := un_rm (n := 3) (h := h3) (by omega)
        refine KV.i ⟨hrm3.1, hrm3.2, fun q hq => ?_⟩
        rintro _ rfl
        have e47 : (ftab 47).length = 3 := by decide
        refine C.mono (c_ctake (d := d + 9) (c3.nO hq) (by rw [un_nO, e47]; omega)) ?_
        rintro o h4 ⟨p4, q4⟩
        rw [un_nO, e47] at q4
        have pA : KP h3 h4 := (KP.rf.nO hq).tr p4
        have k4 := k3.kp pA
        cases hr4 : pTake (Kd ts) D s with
        | error e =>
          rw [hr4] at q4
          obtain ⟨a, rfl, f, u⟩ := q4
          exact KI.t (cP.er k4.1 f (by omega))
        | ok y4 =>
        obtain ⟨t, s4⟩ := y4
        rw [hr4] at q4
        obtain ⟨rfl, c4, u4⟩ := q4
        obtain ⟨et, es, -⟩ := pTake_ok hr4
        have es4 : s4.1 = s.1 + 1 := by rw [es]
        have hkq : hK h4 q = 48 := p4.hk (by rw [hK_nO, if_pos rfl]) (by decide)
        refine KI.i (C.mono (c_X52 (d := d + 14) hkq) ?_)
        rintro _ _ ⟨rfl, rfl⟩
        have w : WQ q h4 (pR (pI h4 q 354 (nI t)) q 355 (some r)) := WQ.rf.pI.pR
        have pq := k3.1.fresh hq
        have hrl : hK h3 r = 6 := k3.2.1.1
        have hrq : r ≠ q := fun e => by rw [e, hq] at hrl; cases hrl
        obtain ⟨arr, q77, karr⟩ : ∃ arr, fR h3 r 77 = some arr ∧ hK h3 arr = 1004 := by
          obtain ⟨q1, q2, q3, q5, q6, arr, q7, q8, -⟩ := k3.2.1
          exact ⟨arr, q7, q8⟩
        have e77 : fR h4 r 77 = fR h3 r 77 := ((pA.2 r (by rw [hrl]; decide)).2.2.2.2.2 77 (by decide)).2.2
        have ear : aR h4 arr = aR h3 arr := (pA.2 arr (by rw [karr]; decide)).2.2.2.2.1
        -- trees of the row lie in what was there before q
        have k5 : RB G h h4 ts "LetMill$Ty" ([] ++ [x]) r ([] ++ [b]) n' := k4
        have tl3 := k3.2.2.2.1
        have o2 : OT ts (fun a => hK h a = 0) (pR (pI h4 q 354 (nI t)) q 355 (some r)) (n2 58 t (.num (Vl ts t)) (ls [x])) 0 0 q ∧ CT (pR (pI h4 q 354 (nI t)) q 355 (some r)) q "LetMill$Ty" := by
          have k6 : RB G h h4 ts "LetMill$Ty" [x] r [b] n' := k4
          have kq : TL ts (fun a => Nr h h4 r a ∧ a ≠ q) h4 [x] [b] := tl3.mv fun a ha hl => ⟨pA.2 a hl, ⟨ha.1, ha.2.1, by rw [e77]; exact ha.2.2⟩, fun e => hl (by rw [e]; exact hq)⟩
          have w' := w
          have tl : TL ts (fun a => hK h a = 0) (pR (pI h4 q 354 (nI t)) q 355 (some r)) [x] [b] := kq.mv fun a ha _ => ⟨w.uk ha.2, ha.1.1⟩
          have hk3 : hK (pR (pI h4 q 354 (nI t)) q 355 (some r)) q = 48 := hkq
          have rc : RowC (pR (pI h4 q 354 (nI t)) q 355 (some r)) r [b] n' := (k3.2.1).kp (w.kp pA hq)
          have nn := k6.nn
          refine ⟨OT_nd (k := 58) pq (by rw [hk3]; decide) (EX_n2 (by decide) (by omega) (by rw [hk3]; show fI (pR (pI h4 q 354 (nI t)) q 355 (some r)) q 354 = _; rw [fI_pR, fI_pI, if_pos ⟨rfl, rfl⟩])) (OT_c2 (by decide) (by decide) (OT_7 (Or.inl ⟨_, rfl⟩)) ((OT_ef (m' := 22) (i' := 355) (by decide) (by decide)).mpr (OT_row tl (by rw [fR_pR, if_pos ⟨rfl, rfl⟩]) rc ⟨nn.1, fun arr' e => ?_⟩))) (by decide), CT_ty hk3 (by decide)⟩
          rw [(w.2.2 r 77 hrq).2.2] at e
          exact nn.2 arr' e
        refine KV.i ?_
        rintro _ rfl
        rw [nI_1]
        simp only [show ∀ (x : Nat × St) (f : Nat → St → Except Nat (Tr × St)), bd (.ok x) f = f x.1 x.2 from fun _ _ => rfl]
        exact IH (n + 1) _ s4 q _ (by omega) (by omega) (w.kp k4.1 pq) (w.cs c4 (c3.1.nw hq)) o2.1 o2.2 (by omega) (by rw [w.un]; omega)
    · rw [if_neg z]
      exact ⟨p, b, rfl, c, ot, ct, ht, hu⟩
end
