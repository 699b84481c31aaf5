/-! THE COMPONENT'S READER: patterns -/
section
variable {G : Gh} {d : Nat} {h0 h h1 h2 h' : AH} {ts : List (Nat × Nat × Nat)} {s s1 : St} {D k i q a b t : Nat} {N : Nat → Prop} {y : Tr} {E : String} {P : Nat → Nat → St → Except Nat (Tr × St)}
theorem EX_pl (hk : k = 8 ∨ k = 9 ∨ k = 10 ∨ k = 11 ∨ k = 12 ∨ k = 13 ∨ k = 14 ∨ k = 15 ∨ k = 19 ∨ k = 37 ∨ k = 38 ∨ k = 39 ∨ k = 50 ∨ k = 51 ∨ k = 52 ∨ k = 59 ∨ k = 60) (ht : t < 5000) (hf : fI h b (tf (hK h b)) = nI t) : EX ts N h k b (.add (.num t) y) := by
  refine ⟨?_, ?_, ?_, ⟨fun q => by omega, fun q => by omega, fun _ => ⟨_, _, rfl⟩⟩, fun q => by omega, fun q => by omega, fun q => by omega, fun q => by omega, fun t' y' e => ⟨fun q => by omega, fun q => by omega, fun q => by omega, fun q => by omega, fun q => by omega, fun q => by omega⟩⟩
  · show (0 : Int) ≤ (t : Nat); omega
  · show ((t : Nat) : Int) < 5000; omega
  · rw [hf, nI_toInt (by omega)]; rfl
theorem EX_53 (ht : t < 5000) (hf : fI h b (tf (hK h b)) = nI t) (h0 : fI h b 365 = 0) : EX ts N h 53 b (.add (.num t) y) := by
  refine ⟨?_, ?_, ?_, ⟨fun q => by omega, fun _ => h0, fun q => by omega⟩, fun q => by omega, fun q => by omega, fun q => by omega, fun q => by omega, fun t' y' e => ⟨fun q => by omega, fun q => by omega, fun q => by omega, fun q => by omega, fun q => by omega, fun q => by omega⟩⟩
  · show (0 : Int) ≤ (t : Nat); omega
  · show ((t : Nat) : Int) < 5000; omega
  · rw [hf, nI_toInt (by omega)]; rfl
theorem EX_nm (hk : k = 1 ∨ k = 2 ∨ k = 32 ∨ k = 57) (ht : t < 5000) (hf : fI h b (tf (hK h b)) = nI t) : EX ts N h k b (.add (.num t) (.num (Vl ts t))) := by
  refine ⟨?_, ?_, ?_, ⟨fun q => by omega, fun q => by omega, fun q => by omega⟩, fun q => by omega, fun q => by omega, fun q => by omega, fun q => by omega, fun t' y' e => ⟨fun q => ?_, fun q => by omega, fun q => by omega, fun q => by omega, fun q => by omega, fun q => by omega⟩⟩
  · show (0 : Int) ≤ (t : Nat); omega
  · show ((t : Nat) : Int) < 5000; omega
  · rw [hf, nI_toInt (by omega)]; rfl
  · cases e; rfl
theorem EX_n2 {z : Tr} (hk : k = 33 ∨ k = 54 ∨ k = 56 ∨ k = 58) (ht : t < 5000) (hf : fI h b (tf (hK h b)) = nI t) : EX ts N h k b (.add (.num t) (.add (.num (Vl ts t)) z)) := by
  refine ⟨?_, ?_, ?_, ⟨fun q => by omega, fun q => by omega, fun q => by omega⟩, fun q => by omega, fun q => by omega, fun q => by omega, fun q => by omega, fun t' y' e => ⟨fun q => by omega, fun q => ?_, fun q => by omega, fun q => by omega, fun q => by omega, fun q => by omega⟩⟩
  · show (0 : Int) ≤ (t : Nat); omega
  · show ((t : Nat) : Int) < 5000; omega
  · rw [hf, nI_toInt (by omega)]; rfl
  · cases e; exact ⟨z, rfl⟩
theorem EX_np {v : Int} (hk : k = 34 ∨ k = 35) (ht : t < 5000) (hf : fI h b (tf (hK h b)) = nI t) (h6 : (fI h b 306).toInt = v) (h7 : fI h b 307 = if k = 34 then 0 else 1) : EX ts N h k b (.add (.num t) (.num v)) := by
  refine ⟨?_, ?_, ?_, ⟨fun q => by omega, fun q => by omega, fun q => by omega⟩, fun q => by omega, fun q => by omega, fun q => by omega, fun q => by omega, fun t' y' e => ⟨fun q => by omega, fun q => by omega, fun q => by omega, fun q => ?_, fun q => by omega, fun q => by omega⟩⟩
  · show (0 : Int) ≤ (t : Nat); omega
  · show ((t : Nat) : Int) < 5000; omega
  · rw [hf, nI_toInt (by omega)]; rfl
  · cases e; exact ⟨v, rfl, h6, h7⟩
theorem EX_0 (hk : k = 31 ∨ k = 36) (ht : t < 5000) (hf : fI h b (tf (hK h b)) = nI t) : EX ts N h k b (.num t) := by
  refine ⟨?_, ?_, ?_, ⟨fun q => by omega, fun q => by omega, fun q => by omega⟩, fun q => by omega, fun q => by omega, fun q => by omega, fun q => by omega, fun t' y' e => (by cases e)⟩
  · show (0 : Int) ≤ (t : Nat); omega
  · show ((t : Nat) : Int) < 5000; omega
  · rw [hf, nI_toInt (by omega)]; rfl
/-- a new object behind its token: the answer -/
theorem leafQ {cc p : Nat} {tr : Tr} (c : CS G h ts D s) (hq : hK h q = 0) (p1 : KP (nO h q cc) h1) (w : WQ q h1 h2) (c1 : CS G h1 ts D s1) (hs : p < s1.1) (hu : un h1 + 120 ≤ un h + 200 * (s1.1 - p)) (ot : OT ts (fun b => hK h b = 0) h2 tr 0 0 q) (ct : CT h2 q E) : cP G h ts D p E (.ok (tr, s1)) (.returned (some (.ref q))) h2 :=
  ⟨w.kp ((KP.rf.nO hq).tr p1) hq, q, rfl, w.cs c1 (c.1.nw hq), ot, ct, hs, by rw [w.un]; exact hu⟩
theorem cP.er {p e : Nat} (p1 : KP h h1) (f : FA h1 ts a e) (hu : un h1 ≤ un h + 200 * (ts.length - p) + 60) : cP G h ts D p E (.error e) (.threw a) h1 := ⟨p1, a, rfl, f, hu⟩
theorem cP.kr {p : Nat} {r : Except Nat (Tr × St)} {o : Outcome} (k : cP G h ts D p E r o h1) : KR (cP G h ts D p E r) (fun x h2 => cP G h ts D p E r (.returned (some (.ref x))) h2) o h1 := by
  obtain ⟨k1, k2⟩ := id k
  cases hr : r with
  | error e =>
    rw [hr] at k2
    obtain ⟨a, rfl, -⟩ := k2
    rw [← hr]
    exact KR.t k
  | ok z =>
    obtain ⟨tr, s'⟩ := z
    rw [hr] at k2
    obtain ⟨a, rfl, -⟩ := k2
    rw [← hr]
    exact KR.i k
theorem CT_pat (hk : hK h q = k + 1) (hm : k = 18 ∨ k = 19 ∨ k = 20 ∨ k = 21 ∨ k = 22 ∨ k = 23 ∨ k = 24 ∨ k = 25 ∨ k = 26) : CT h q "LetMill$Pat" := by
  refine ⟨k, by omega, hk, ?_⟩
  rcases hm with rfl | rfl | rfl | rfl | rfl | rfl | rfl | rfl | rfl <;> decide
theorem OT_l1 {m g : Nat} (e : ef (2000 + 8 * k) 0 = (m, g)) (hm : m < 2000) (hy : OT ts N h y m g q) : OT ts N h y (2000 + 8 * k) 0 q := (OT_ef e hm).mpr hy
theorem lN_i32 {v : Nat} (hv : v < 2147483648) : (lN v).toInt32.toInt = v := by
  rw [Int64.toInt_toInt32, lN_toInt (by omega)]
  exact Int.bmod_eq_of_le (by omega) (by omega)
theorem lN_neg {v : Nat} (hv : v < 2147483648) : (-(lN v)).toInt32.toInt = -(v : Int) := by
  rw [Int64.toInt_toInt32, Int64.toInt_neg, lN_toInt (by omega)]
  have e : (-(v : Int)).bmod (2 ^ 64) = -(v : Int) := Int.bmod_eq_of_le (by omega) (by omega)
  rw [e]
  exact Int.bmod_eq_of_le (by omega) (by omega)
theorem c_catPat (hb : ∀ h2 : AH, ∀ s : St, CS G h2 ts D s → un h2 + 200 * (ts.length - s.1) + 100 ≤ UB → (Kd ts s.1 = 40 ∨ Kd ts s.1 = 91) → C G mX12_bracketed (d + 15) [.ref (gW G 7), .int (nI s.1)] h2 (cP G h2 ts D s.1 "LetMill$Pat" (bd (pTakeP (Kd ts) D s) fun t s => pBrack (Kd ts) P t D s))) : CH G d ts D "LetMill$Pat" mX12_atPat [] (pAtPat (Kd ts) (Vl ts) P D) := by
  intro h s c hu
  have hl := c.len
  have hsl := c.2.2.2.1.2
  have hk := c.k4 hsl
  have K : ∀ n, n < 300 → (nI (Kd ts s.1) = nI n ↔ Kd ts s.1 = n) := fun n hn => nI_eq (by omega) (by omega)
  have hr1 := un_rm (n := 1) (h := h) (by omega)
  have hr2 := un_rm (n := 2) (h := h) (by omega)
  have hr3 := un_rm (n := 3) (h := h) (by omega)
  -- what all that take one token share
  have go : ∀ (cc : Nat) (F : Nat → St → Except Nat (Tr × St)) (Q : Int32 → AH → Prop), (ftab cc).length ≤ 3 → pAtPat (Kd ts) (Vl ts) P D s = bd (pTakeP (Kd ts) D s) F → ∀ q, hK h q = 0 → (∀ h1 s1, KP (nO h q cc) h1 → CS G h1 ts D s1 → s1.1 = s.1 + 1 → un h1 + 141 ≤ un h + 200 * (s1.1 - s.1) → pAtPat (Kd ts) (Vl ts) P D s = F s.1 s1 → Q (nI s.1) h1) → C G mX12_takePat (d + 15) [.ref (gW G 7)] (nO h q cc) (KI (cP G h ts D s.1 "LetMill$Pat" (pAtPat (Kd ts) (Vl ts) P D s)) Q) := by
    intro cc F Q hc eR q hq hQ
    refine C.mono (c_ctakeP (d := d + 7) (c.nO hq) (by rw [un_nO]; omega)) ?_
    rintro o h1 ⟨p1, r⟩
    rw [un_nO] at r
    cases hr : pTakeP (Kd ts) D s with
    | error e =>
      rw [hr] at r eR
      obtain ⟨a, rfl, f, u⟩ := r
      rw [eR]
      exact KI.t (cP.er ((KP.rf.nO hq).tr p1) f (by omega))
    | ok x =>
      obtain ⟨t, s1⟩ := x
      rw [hr] at r eR
      obtain ⟨rfl, c1, u1⟩ := r
      obtain ⟨et, es, -⟩ := pTakeP_ok hr
      subst et
      have es1 : s1.1 = s.1 + 1 := by rw [es]
      exact KI.i (hQ h1 s1 p1 c1 es1 (by omega) eR)
  have hq0 : ∀ {q cc : Nat} {h1 : AH}, KP (nO h q cc) h1 → hK h1 q = cc + 1 := fun p1 => p1.hk (by rw [hK_nO, if_pos rfl]) (by omega)
  have wrong : pAtPat (Kd ts) (Vl ts) P D s = .error s.1 → C G mX12_wrong (d + 15) [.ref (gW G 7)] h (KR (cP G h ts D s.1 "LetMill$Pat" (pAtPat (Kd ts) (Vl ts) P D s)) (fun b h2 => cP G h ts D s.1 "LetMill$Pat" (pAtPat (Kd ts) (Vl ts) P D s) (.threw b) h2)) := by
    intro e
    rw [e]
    refine C.mono (c_wrong (d := d + 9) c (by omega)) ?_
    rintro _ h1 ⟨a, rfl, p, f, u⟩
    exact KR.i (cP.er p f (by omega))
  refine bX12_atPat G (d + 15) h _ (c.1.at (by decide)) (c.1.at (by decide)) ?_
  rintro _ rfl
  rw [c.2.2.2.1.1]
  refine C.ri (c_kind c) ?_
  simp only [show (40 : Int32) = nI 40 from rfl, show (91 : Int32) = nI 91 from rfl, show (95 : Int32) = nI 95 from rfl, show (126 : Int32) = nI 126 from rfl, show (280 : Int32) = nI 280 from rfl, show (281 : Int32) = nI 281 from rfl, show (283 : Int32) = nI 283 from rfl, show (272 : Int32) = nI 272 from rfl, show (273 : Int32) = nI 273 from rfl, K 40 (by decide), K 91 (by decide), K 95 (by decide), K 126 (by decide), K 280 (by decide), K 281 (by decide), K 283 (by decide), K 272 (by decide), K 273 (by decide)]
  have isP : ∀ n, Kd ts s.1 = n → isPat n = true → pAtPat (Kd ts) (Vl ts) P D s = bd (pTakeP (Kd ts) D s) fun t s => if Kd ts t = 280 then .ok (n1 32 t (.num (Vl ts t)), s) else if Kd ts t = 281 then .ok (n2 33 t (.num (Vl ts t)) (.num 0), s) else if Kd ts t = 283 then .ok (n1 34 t (.num (Vl ts t)), s) else if Kd ts t = 95 then .ok (n0 31 t, s) else if Kd ts t = 126 then (if Kd ts s.1 ≠ 283 then .error s.1 else bd (pTakeP (Kd ts) D s) fun v s => .ok (n1 34 t (.num (- (Vl ts v : Int))), s)) else if Kd ts t = 272 then .ok (n1 35 t (.num 1), s) else if Kd ts t = 273 then .ok (n1 35 t (.num 0), s) else pBrack (Kd ts) P t D s := by
    intro n e h1
    unfold pAtPat
    rw [if_neg (by rw [e, h1]; decide)]
  have br : (Kd ts s.1 = 40 ∨ Kd ts s.1 = 91) → C G mX12_bracketed (d + 15) [.ref (gW G 7), .int (nI s.1)] h (KR (cP G h ts D s.1 "LetMill$Pat" (pAtPat (Kd ts) (Vl ts) P D s)) (fun b8 h6 => cP G h ts D s.1 "LetMill$Pat" (pAtPat (Kd ts) (Vl ts) P D s) (.returned (some (.ref b8))) h6)) := by
    intro z
    have e : pAtPat (Kd ts) (Vl ts) P D s = bd (pTakeP (Kd ts) D s) fun t s => pBrack (Kd ts) P t D s := by
      rcases z with z | z
      · rw [isP 40 z rfl]
        cases hr : pTakeP (Kd ts) D s with
        | error e => rfl
        | ok x =>
          obtain ⟨t, s1⟩ := x
          obtain ⟨et, -⟩ := pTakeP_ok hr
          subst et
          show (if Kd ts s.1 = 280 then _ else _) = pBrack (Kd ts) P s.1 D s1
          rw [if_neg (by omega), if_neg (by omega), if_neg (by omega), if_neg (by omega), if_neg (by omega), if_neg (by omega), if_neg (by omega)]
      · rw [isP 91 z rfl]
        cases hr : pTakeP (Kd ts) D s with
        | error e => rfl
        | ok x =>
          obtain ⟨t, s1⟩ := x
          obtain ⟨et, -⟩ := pTakeP_ok hr
          subst et
          show (if Kd ts s.1 = 280 then _ else _) = pBrack (Kd ts) P s.1 D s1
          rw [if_neg (by omega), if_neg (by omega), if_neg (by omega), if_neg (by omega), if_neg (by omega), if_neg (by omega), if_neg (by omega)]
    rw [e]
    exact C.mono (hb h s c hu z) fun o h1 q => q.kr
  have ht5 : s.1 < 5000 := by omega
  refine ⟨fun z => br (Or.inl z), fun z => br (Or.inr z), fun z => ?_, fun z => ?_, fun z => ?_, fun z => ?_, fun z => ?_, fun z => ?_, fun z => ?_, fun z => ?_⟩
  · refine ⟨hr1.1, hr1.2, fun q hq => ?_⟩
    rintro _ rfl
    refine go 19 _ _ (by decide) (isP 95 z rfl) q hq fun h1 s1 p1 c1 es1 u1 eR => ?_
    rw [if_neg (by omega), if_neg (by omega), if_neg (by omega), if_pos z] at eR
    rw [eR]
    refine C.mono (c_X21 (d := d + 13) (hq0 p1)) ?_
    rintro _ _ ⟨rfl, rfl⟩
    have k2 : hK (pI h1 q 302 (nI s.1)) q = 20 := hq0 (h1 := h1) p1
    exact KV.i (leafQ c hq p1 WQ.rf.pI c1 (by omega) (by omega) (OT_nd0 (k := 31) hq (by rw [k2]; decide) (EX_0 (by decide) ht5 (by rw [k2]; show fI (pI h1 q 302 (nI s.1)) q 302 = _; rw [fI_pI, if_pos ⟨rfl, rfl⟩])) (by decide)) (CT_pat k2 (by decide)))
  · have e0 := isP 126 z rfl
    refine C.mono (c_ctakeP (d := d + 7) c (by omega)) ?_
    rintro o h1 ⟨p1, r⟩
    cases hr : pTakeP (Kd ts) D s with
    | error e =>
      rw [hr] at r e0
      obtain ⟨a, rfl, f, u⟩ := r
      rw [e0]
      exact KI.t (cP.er p1 f (by omega))
    | ok x =>
    obtain ⟨t, s1⟩ := x
    rw [hr] at r e0
    obtain ⟨rfl, c1, u1⟩ := r
    obtain ⟨et, es, -⟩ := pTakeP_ok hr
    subst et
    have es1 : s1.1 = s.1 + 1 := by rw [es]
    change _ = (if Kd ts s.1 = 280 then _ else _) at e0
    rw [if_neg (by omega), if_neg (by omega), if_neg (by omega), if_neg (by omega), if_pos z] at e0
    have hs1l := c1.2.2.2.1.2
    have hk1 := c1.k4 hs1l
    refine KI.i (C.ri (c_kind c1) ?_)
    rw [nI_eq (by omega) (by decide)]
    refine ⟨fun z1 => ?_, fun z1 => ?_⟩
    · rw [if_neg (by simp [z1])] at e0
      have hr3' := un_rm (n := 3) (h := h1) (by omega)
      refine ⟨hr3'.1, hr3'.2, fun q hq => ?_⟩
      rintro _ rfl
      refine C.mono (c_ctakeP (d := d + 7) (c1.nO hq) (by rw [un_nO]; show _ + 16 + 3 + 24 ≤ UB; omega)) ?_
      rintro o h2 ⟨p2, r⟩
      rw [un_nO] at r
      cases hr2 : pTakeP (Kd ts) D s1 with
      | error e =>
        rw [hr2] at r e0
        obtain ⟨a, rfl, f, u⟩ := r
        rw [e0]
        exact KI.t (cP.er (p1.tr ((KP.rf.nO hq).tr p2)) f (by change un h2 ≤ un h1 + 16 + 3 + 24 at u; omega))
      | ok x2 =>
      obtain ⟨v, s2⟩ := x2
      rw [hr2] at r e0
      obtain ⟨rfl, c2, u2⟩ := r
      obtain ⟨ev, es', -⟩ := pTakeP_ok hr2
      subst ev
      have es2 : s2.1 = s1.1 + 1 := by rw [es']
      change un h2 = un h1 + 16 + 3 at u2
      refine KI.i ⟨vp_in_nI (by omega) (by decide), ?_⟩
      rw [nI_cn (by omega), (c2.kd hs1l).2.2.2 z1]
      have k2 : hK h2 q = 22 := p2.hk (by rw [hK_nO, if_pos rfl]) (by decide)
      refine C.mono (c_X23 (d := d + 13) k2 (Or.inl rfl)) ?_
      rintro _ _ ⟨rfl, rfl⟩
      rw [e0]
      have hvl : Vl ts s1.1 < 2147483648 := by
        have := c2.2.2.1.1 ts[s1.1] (List.getElem_mem hs1l)
        unfold Kd at z1
        unfold Vl
        rw [List.getD, List.getElem?_eq_getElem hs1l] at z1 ⊢
        exact this.2.2 z1
      have w : WQ q h2 (pI (pI (pI h2 q 302 (nI s.1)) q 306 (-(lN (Vl ts s1.1))).toInt32) q 307 0) := WQ.rf.pI.pI.pI
      have pq := p1.fresh hq
      refine KV.i ⟨w.kp (p1.tr ((KP.rf.nO hq).tr p2)) pq, q, rfl, w.cs c2 (c1.1.nw hq), ?_, CT_pat (k := 21) k2 (by decide), by omega, by rw [w.un]; omega⟩
      refine OT_nd (k := 34) pq (by rw [show hK (pI (pI (pI h2 q 302 (nI s.1)) q 306 (-(lN (Vl ts s1.1))).toInt32) q 307 0) q = 22 from k2]; decide) (EX_np (Or.inl rfl) ht5 ?_ ?_ ?_) (OT_l1 (m := 7) (g := 0) (by decide) (by decide) (OT_7 (Or.inl ⟨_, rfl⟩))) (by decide)
      · rw [show hK (pI (pI (pI h2 q 302 (nI s.1)) q 306 (-(lN (Vl ts s1.1))).toInt32) q 307 0) q = 22 from k2]
        show fI (pI (pI (pI h2 q 302 (nI s.1)) q 306 _) q 307 0) q 302 = _
        rw [fI_pI, if_neg (fun e => absurd e.2 (by decide)), fI_pI, if_neg (fun e => absurd e.2 (by decide)), fI_pI, if_pos ⟨rfl, rfl⟩]
      · rw [fI_pI, if_neg (fun e => absurd e.2 (by decide)), fI_pI, if_pos ⟨rfl, rfl⟩]
        exact lN_neg hvl
      · rw [fI_pI, if_pos ⟨rfl, rfl⟩]; rfl
    · rw [if_pos z1] at e0
      rw [e0]
      refine C.mono (c_wrong (d := d + 9) c1 (by omega)) ?_
      rintro _ h2 ⟨a, rfl, p, f, u⟩
      exact KR.i (cP.er (p1.tr p) f (by omega))
  · refine ⟨hr3.1, hr3.2, fun q hq => ?_⟩
    rintro _ rfl
    refine go 21 _ _ (by decide) (isP 272 z rfl) q hq fun h1 s1 p1 c1 es1 u1 eR => ?_
    rw [if_neg (by omega), if_neg (by omega), if_neg (by omega), if_neg (by omega), if_neg (by omega), if_pos z] at eR
    rw [eR, nI_cn (by omega), (c1.kd hsl).1, z]
    refine ⟨vp_in_nI (by omega) (by decide), fun _ => C.mono (c_X23 (d := d + 13) (hq0 p1) (Or.inr rfl)) ?_, fun z2 => absurd rfl z2⟩
    rintro _ _ ⟨rfl, rfl⟩
    have k2 : hK (pI (pI (pI h1 q 302 (nI s.1)) q 306 (1 : Int64).toInt32) q 307 1) q = 22 := hq0 (h1 := h1) p1
    refine KV.i (leafQ c hq p1 WQ.rf.pI.pI.pI c1 (by omega) (by omega) (OT_nd (k := 35) hq (by rw [k2]; decide) (EX_np (Or.inr rfl) ht5 ?_ ?_ ?_) (OT_l1 (m := 7) (g := 0) (by decide) (by decide) (OT_7 (Or.inl ⟨_, rfl⟩))) (by decide)) (CT_pat k2 (by decide)))
    · rw [k2]
      show fI (pI (pI (pI h1 q 302 (nI s.1)) q 306 _) q 307 1) q 302 = _
      rw [fI_pI, if_neg (fun e => absurd e.2 (by decide)), fI_pI, if_neg (fun e => absurd e.2 (by decide)), fI_pI, if_pos ⟨rfl, rfl⟩]
    · rw [fI_pI, if_neg (fun e => absurd e.2 (by decide)), fI_pI, if_pos ⟨rfl, rfl⟩]; rfl
    · rw [fI_pI, if_pos ⟨rfl, rfl⟩]; rfl
  · refine ⟨hr3.1, hr3.2, fun q hq => ?_⟩
    rintro _ rfl
    refine go 21 _ _ (by decide) (isP 273 z rfl) q hq fun h1 s1 p1 c1 es1 u1 eR => ?_
    rw [if_neg (by omega), if_neg (by omega), if_neg (by omega), if_neg (by omega), if_neg (by omega), if_neg (by omega), if_pos z] at eR
    rw [eR, nI_cn (by omega), (c1.kd hsl).1, z]
    refine ⟨vp_in_nI (by omega) (by decide), fun z2 => absurd z2 (by decide), fun _ => C.mono (c_X23 (d := d + 13) (hq0 p1) (Or.inr rfl)) ?_⟩
    rintro _ _ ⟨rfl, rfl⟩
    have k2 : hK (pI (pI (pI h1 q 302 (nI s.1)) q 306 (0 : Int64).toInt32) q 307 1) q = 22 := hq0 (h1 := h1) p1
    refine KV.i (leafQ c hq p1 WQ.rf.pI.pI.pI c1 (by omega) (by omega) (OT_nd (k := 35) hq (by rw [k2]; decide) (EX_np (Or.inr rfl) ht5 ?_ ?_ ?_) (OT_l1 (m := 7) (g := 0) (by decide) (by decide) (OT_7 (Or.inl ⟨_, rfl⟩))) (by decide)) (CT_pat k2 (by decide)))
    · rw [k2]
      show fI (pI (pI (pI h1 q 302 (nI s.1)) q 306 _) q 307 1) q 302 = _
      rw [fI_pI, if_neg (fun e => absurd e.2 (by decide)), fI_pI, if_neg (fun e => absurd e.2 (by decide)), fI_pI, if_pos ⟨rfl, rfl⟩]
    · rw [fI_pI, if_neg (fun e => absurd e.2 (by decide)), fI_pI, if_pos ⟨rfl, rfl⟩]; rfl
    · rw [fI_pI, if_pos ⟨rfl, rfl⟩]; rfl
  · refine ⟨hr2.1, hr2.2, fun q hq => ?_⟩
    rintro _ rfl
    refine go 20 _ _ (by decide) (isP 280 z rfl) q hq fun h1 s1 p1 c1 es1 u1 eR => ?_
    rw [if_pos z] at eR
    rw [eR]
    refine C.mono (c_X22 (d := d + 13) (hq0 p1)) ?_
    rintro _ _ ⟨rfl, rfl⟩
    have k2 : hK (pI h1 q 302 (nI s.1)) q = 21 := hq0 (h1 := h1) p1
    exact KV.i (leafQ c hq p1 WQ.rf.pI c1 (by omega) (by omega) (OT_nd (k := 32) hq (by rw [k2]; decide) (EX_nm (by decide) ht5 (by rw [k2]; show fI (pI h1 q 302 (nI s.1)) q 302 = _; rw [fI_pI, if_pos ⟨rfl, rfl⟩])) (OT_l1 (m := 7) (g := 0) (by decide) (by decide) (OT_7 (Or.inl ⟨_, rfl⟩))) (by decide)) (CT_pat k2 (by decide)))
  · refine ⟨hr3.1, hr3.2, fun q hq => ?_⟩
    rintro _ rfl
    refine go 18 _ _ (by decide) (isP 281 z rfl) q hq fun h1 s1 p1 c1 es1 u1 eR => ?_
    rw [if_neg (by omega), if_pos z] at eR
    rw [eR]
    refine C.mono (c_X20 (d := d + 13) (b := none) (hq0 p1)) ?_
    rintro _ _ ⟨rfl, rfl⟩
    have k2 : hK (pR (pI h1 q 302 (nI s.1)) q 303 none) q = 19 := hq0 (h1 := h1) p1
    exact KV.i (leafQ c hq p1 WQ.rf.pI.pR c1 (by omega) (by omega) (OT_nd (k := 33) hq (by rw [k2]; decide) (EX_n2 (by decide) ht5 (by rw [k2]; show fI (pR (pI h1 q 302 (nI s.1)) q 303 none) q 302 = _; rw [fI_pR, fI_pI, if_pos ⟨rfl, rfl⟩])) (OT_c2 (by decide) (by decide) (OT_7 (Or.inl ⟨_, rfl⟩)) ((OT_ef (m' := 5) (i' := 303) (by decide) (by decide)).mpr (OT_50 (by rw [fR_pR, if_pos ⟨rfl, rfl⟩])))) (by decide)) (CT_pat k2 (by decide)))
  · refine ⟨hr3.1, hr3.2, fun q hq => ?_⟩
    rintro _ rfl
    refine go 21 _ _ (by decide) (isP 283 z rfl) q hq fun h1 s1 p1 c1 es1 u1 eR => ?_
    rw [if_neg (by omega), if_neg (by omega), if_pos z] at eR
    have hvl : Vl ts s.1 < 2147483648 := by
      have := c.2.2.1.1 ts[s.1] (List.getElem_mem hsl)
      unfold Kd at z
      unfold Vl
      rw [List.getD, List.getElem?_eq_getElem hsl] at z ⊢
      exact this.2.2 z
    rw [eR, nI_cn (by omega), (c1.kd hsl).2.2.2 z]
    refine ⟨vp_in_nI (by omega) (by decide), C.mono (c_X23 (d := d + 13) (hq0 p1) (Or.inl rfl)) ?_⟩
    rintro _ _ ⟨rfl, rfl⟩
    have k2 : hK (pI (pI (pI h1 q 302 (nI s.1)) q 306 (lN (Vl ts s.1)).toInt32) q 307 0) q = 22 := hq0 (h1 := h1) p1
    refine KV.i (leafQ c hq p1 WQ.rf.pI.pI.pI c1 (by omega) (by omega) (OT_nd (k := 34) hq (by rw [k2]; decide) (EX_np (Or.inl rfl) ht5 ?_ ?_ ?_) (OT_l1 (m := 7) (g := 0) (by decide) (by decide) (OT_7 (Or.inl ⟨_, rfl⟩))) (by decide)) (CT_pat k2 (by decide)))
    · rw [k2]
      show fI (pI (pI (pI h1 q 302 (nI s.1)) q 306 _) q 307 0) q 302 = _
      rw [fI_pI, if_neg (fun e => absurd e.2 (by decide)), fI_pI, if_neg (fun e => absurd e.2 (by decide)), fI_pI, if_pos ⟨rfl, rfl⟩]
    · rw [fI_pI, if_neg (fun e => absurd e.2 (by decide)), fI_pI, if_pos ⟨rfl, rfl⟩]
      exact lN_i32 hvl
    · rw [fI_pI, if_pos ⟨rfl, rfl⟩]; rfl
  · obtain ⟨z1, z2, z3, z4, z5, z6, z7, z8, z9⟩ := z
    refine wrong ?_
    unfold pAtPat
    rw [if_pos (by simp [isPat, z1, z2, z3, z4, z5, z6, z7, z8, z9])]
end
