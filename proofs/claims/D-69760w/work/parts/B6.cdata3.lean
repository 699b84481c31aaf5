/-! THE COMPONENT'S READER: a datatype's object -/
section
variable {G : Gh} {d : Nat} {h hb h0 h1 h2 h3 h4 h' : AH} {ts : List (Nat × Nat × Nat)} {s s1 s2 s4 : St} {D k i q a b t r n p arr : Nat} {N : Nat → Prop} {E : String} {x y p0 : Tr} {l vs : List Tr} {bs : List Nat} {P : Nat → Nat → St → Except Nat (Tr × St)}
theorem RB.wq0 (k : RB G hb h ts E [] r [] n) (w : WQ q h h') (hk : hK h q = 47) (hq : hK hb q = 0) : RB G hb h' ts E [] r [] n := by
  obtain ⟨k1, ⟨r1, r2, r3, r7, r8, ar, r4, r5, r6, r9⟩, k3, k4, k5⟩ := k
  have hr : r ≠ q := fun e => by rw [e] at r1; omega
  have e77 := (w.2.2 r 77 hr).2.2
  refine ⟨w.kp k1 hq, ⟨by rw [w.2.1.1]; exact r1, (w.2.2 r 78 hr).1.trans r2, r3, r7, r8, ar, e77.trans r4, by rw [w.2.1.1]; exact r5, by rw [w.2.1.2.1]; exact r6, fun i x hx => by simp at hx⟩, ⟨k3.1, fun arr e => ?_⟩, TL.nil, fun b hb => (by cases hb)⟩
  rw [e77] at e
  obtain ⟨n1, n2, n3⟩ := k3.2 arr e
  refine ⟨n1, n2, fun i sp e => ?_⟩
  rw [w.2.1.2.2.2.2] at e
  rw [w.2.1.1]
  exact n3 i sp e
theorem c_X50 (c : CS G h ts D s) (p : KP hb h) (hk : hK h a = 47) (ha : hK hb a = 0) (hA : hK hb arr = 0 ∧ Ns (gW G) arr ∧ hK h arr = 1000 ∧ hL h arr = 6) (hv6 : (tks (ls vs)).length ≤ 6) (hv : ∀ i u, (tks (ls vs))[i]? = some u → aI h arr i = u) (hu : un h + 38 ≤ UB) (hn : ∀ i, i < 10 → gW G i ≠ a) :
    C G mX50_init (d + 2) [.ref a, .int (nI t), .ref arr, .int (nI (tks (ls vs)).length)] h (fun o h' => o = .returned none ∧ ∃ r, RB G hb h' ts "LetMill$ConDec" [] r [] 4 ∧ DO G hb h' a r arr t vs ∧ CS G h' ts D s ∧ un h' = un h + 38) := by
  have hrm := un_rm (n := 2) (h := h) (by omega)
  refine bX50_init G (d + 1) h _ _ _ _ _ ⟨hrm.1, hrm.2, fun r hr => ?_⟩
  rintro _ rfl
  refine C.mono (r_row (d := d) (E := "LetMill$ConDec") c p hr (by omega)) ?_
  rintro _ h6 ⟨rfl, k6, c6, u6, p6, -⟩
  have hk6 : hK h6 a = 47 := p6.hk hk (by decide)
  have uA := p6.2 arr (by rw [hA.2.2.1]; decide)
  refine KV.i ⟨hk6, ?_⟩
  rintro _ rfl _ rfl _ rfl _ rfl
  have w : WQ a h6 (pI (pR (pI (pR h6 a 352 (some r)) a 349 (nI t)) a 350 (some arr)) a 351 (nI (tks (ls vs)).length)) := WQ.rf.pR.pI.pR.pI
  refine ⟨rfl, r, k6.wq0 w hk6 ha, ⟨ha, by rw [w.2.1.1]; exact hk6, ⟨?_, ?_, ?_, ?_⟩, ⟨hA.1, hA.2.1, by rw [w.2.1.1, uA.1]; exact hA.2.2.1, by rw [w.2.1.2.1, uA.2.1]; exact hA.2.2.2⟩, hv6, fun i u e => by rw [w.2.1.2.2.1, uA.2.2.1]; exact hv i u e⟩, w.cs c6 hn, by rw [w.un, u6]⟩
  · rw [fI_pI, if_neg (fun e => absurd e.2 (by decide)), fI_pR, fI_pI, if_pos ⟨rfl, rfl⟩]
  · rw [fR_pI, fR_pR, if_pos ⟨rfl, rfl⟩]
  · rw [fI_pI, if_pos ⟨rfl, rfl⟩]
  · rw [fR_pI, fR_pR, if_neg (fun e => absurd e.2 (by decide)), fR_pI, fR_pR, if_pos ⟨rfl, rfl⟩]
/-- behind the variables -/
theorem data_end {t0 : Nat} {R : Except Nat (Tr × St)} {v : Int32} (hv0 : v = nI (tks (ls vs)).length) (p : KP h h1) (c : CS G h1 ts D s) (hA : hK h arr = 0 ∧ Ns (gW G) arr ∧ hK h1 arr = 1000 ∧ hL h1 arr = 6) (hv6 : (tks (ls vs)).length ≤ 6) (hv : ∀ i u, (tks (ls vs))[i]? = some u → aI h1 arr i = u) (h0s : t0 ≤ s.1)
    (hy : D ≤ 30 → CH G d ts (D + 1) "LetMill$Ty" mX12_ty [] (P 3 (D + 1))) (hB : un h + 200 * (ts.length - t0) + 100 ≤ UB) (hU : un h1 ≤ un h + 200 * (s.1 - t0) + 30)
    (hR : R = bd (pExpect (Kd ts) 280 D s) fun t s => bd (pExpect (Kd ts) 61 D s) fun _ s => bd (pSep (Kd ts) 124 D 0 (pCon (Kd ts) (Vl ts) P D) s) fun cs s => .ok (n3 55 t (.num (Vl ts t)) (ls vs) (ls cs), s)) :
    (hc h1 + 1 ≤ MC) ∧ (hs h1 + 5 ≤ MS) ∧ ∀ q15, hK h1 q15 = 0 → ∀ h17, h17 = nO h1 q15 46 → (C G mX12_expect (d + 16) [.ref (gW G 7), .int (280)] h17 (KI (cP G h ts D t0 "LetMill$Data" R) (fun x22 h20 => C G mX50_init (d + 16) [.ref (q15), .int (x22), .ref arr, .int v] h20 (KV (cP G h ts D t0 "LetMill$Data" R) (fun h23 => C G mX12_expect (d + 16) [.ref (gW G 7), .int (61)] h23 (KI (cP G h ts D t0 "LetMill$Data" R) (fun x27 h25 => X G mX12_data (d + 17) none [] 133 [(0, .ref (gW G 7)), (3, .ref (q15))] [] h25 (cP G h ts D t0 "LetMill$Data" R)))))))) := by
  subst hv0
  have hl := c.len
  have hsl := c.2.2.2.1.2
  have e46 : (ftab 46).length = 5 := by decide
  have hrm := un_rm (n := 5) (h := h1) (by omega)
  refine ⟨hrm.1, hrm.2, fun q hq => ?_⟩
  rintro _ rfl
  refine C.mono (c_cexpect (d := d + 8) (w := 280) (c.nO hq) (by decide) (by rw [un_nO, e46]; omega)) ?_
  rintro o h2 ⟨p2, q2⟩
  rw [un_nO, e46] at q2
  have pA : KP h1 h2 := (KP.rf.nO hq).tr p2
  cases hr : pExpect (Kd ts) 280 D s with
  | error e =>
    rw [hr] at q2 hR
    obtain ⟨a, rfl, f, u⟩ := q2
    change R = .error e at hR
    rw [hR]
    exact KI.t (cP.er (p.tr pA) f (by omega))
  | ok y2 =>
  obtain ⟨t, s2⟩ := y2
  rw [hr] at q2 hR
  obtain ⟨rfl, c2, u2⟩ := q2
  obtain ⟨et, es2⟩ := pExpect_ok hr
  have hs2l := c2.2.2.2.1.2
  change R = bd (pExpect (Kd ts) 61 D s2) _ at hR
  have hkq : hK h2 q = 47 := p2.hk (by rw [hK_nO, if_pos rfl]) (by decide)
  have uA := pA.2 arr (by rw [hA.2.2.1]; decide)
  refine KI.i (C.mono (c_X50 (d := d + 14) (t := t) (vs := vs) c2 (p.tr pA) hkq (p.fresh hq) ⟨hA.1, hA.2.1, uA.1.trans hA.2.2.1, uA.2.1.trans hA.2.2.2⟩ hv6 (fun i u e => by rw [uA.2.2.1]; exact hv i u e) (by omega) (c.1.nw hq)) ?_)
  rintro _ h3 ⟨rfl, r, k3, dO3, c3, u3⟩
  refine KV.i (C.mono (c_cexpect (d := d + 8) (w := 61) c3 (by decide) (by omega)) ?_)
  rintro o h4 ⟨p4, q4⟩
  have k4 := k3.kp p4
  have dO4 := dO3.kp p4
  cases hr4 : pExpect (Kd ts) 61 D s2 with
  | error e =>
    rw [hr4] at q4 hR
    obtain ⟨a, rfl, f, u⟩ := q4
    change R = .error e at hR
    rw [hR]
    exact KI.t (cP.er k4.1 f (by omega))
  | ok y4 =>
  obtain ⟨t4, s4⟩ := y4
  rw [hr4] at q4 hR
  obtain ⟨rfl, c4, u4⟩ := q4
  obtain ⟨et4, es4⟩ := pExpect_ok hr4
  have hs4l := c4.2.2.2.1.2
  change R = bd (pSep (Kd ts) 124 D 0 (pCon (Kd ts) (Vl ts) P D) s4) _ at hR
  rw [pSep_b] at hR
  exact KI.i (cdata_133 (t0 := t0) (by omega) hy hB FU s4 [] [] 4 h4 R (by unfold FU; omega) k4 dO4 c4 (by omega) (by simp) (by simp; omega) hR)
end
