/-! THE COMPONENT'S READER: tokens are taken -/
def CS (G : Gh) (h : AH) (ts : List (Nat × Nat × Nat)) (D : Nat) (s : St) : Prop := SoA G h ∧ Tks G h ts ∧ TsOK ts ∧ (fI h (gW G 7) 115 = nI s.1 ∧ s.1 < ts.length) ∧ (fI h (gW G 7) 116 = nI D ∧ D < 1000) ∧ (fI h (gW G 7) 117 = nI s.2.1 ∧ s.2.1 ≤ 60) ∧ (fI h (gW G 7) 118 = nI s.2.2 ∧ s.2.2 ≤ 24)
/-- a fault that was thrown at the token k -/
def FA (h : AH) (ts : List (Nat × Nat × Nat)) (a k : Nat) : Prop := hK h a = 18 ∧ fI h a 300 = 1 ∧ fI h a 301 = nI (Pl ts k)
/-- a token was taken -/
def cN (G : Gh) (h : AH) (ts : List (Nat × Nat × Nat)) (D : Nat) (r : Except Nat (Nat × St)) : Outcome → AH → Prop := fun o h' => KP h h' ∧ match r with
  | .ok (t, s') => o = .returned (some (.int (nI t))) ∧ CS G h' ts D s' ∧ un h' = un h
  | .error k => ∃ a, o = .threw a ∧ FA h' ts a k ∧ un h' ≤ un h + 24
def cB (G : Gh) (h : AH) (ts : List (Nat × Nat × Nat)) (D : Nat) (r : Except Nat (Bool × St)) : Outcome → AH → Prop := fun o h' => KP h h' ∧ match r with
  | .ok (b, s') => o = .returned (some (.int (b2 b))) ∧ CS G h' ts D s' ∧ un h' = un h
  | .error k => ∃ a, o = .threw a ∧ FA h' ts a k ∧ un h' ≤ un h + 24
section
variable {G : Gh} {d : Nat} {h h' : AH} {ts : List (Nat × Nat × Nat)} {s : St} {D k i : Nat}
theorem Tks.kp (s1 : So 1 (gW G) h) (hT : Tks G h ts) (p : KP h h') : Tks G h' ts := by
  have w1 := (p.2 (gW G 1) (by rw [s1.1]; decide)).2.2.2.2.2 28 (by decide)
  have a1 := p.2 (gW G 1024) (by rw [kw1024 s1]; decide)
  have a2 := p.2 (gW G 1025) (by rw [kw1025 s1]; decide)
  have a3 := p.2 (gW G 1026) (by rw [kw1026 s1]; decide)
  have a4 := p.2 (gW G 1027) (by rw [kw1027 s1]; decide)
  refine ⟨w1.1.trans hT.1, fun i t ht => ?_⟩
  have := hT.2 i t ht
  unfold TokE at this ⊢
  rw [a1.2.2.1, a2.2.2.1, a3.2.2.2.1, a4.2.2.2.1]
  exact this
theorem CS.kp (c : CS G h ts D s) (p : KP h h') (h5 : fI h' (gW G 7) 115 = fI h (gW G 7) 115) (h6 : fI h' (gW G 7) 116 = fI h (gW G 7) 116) (h7 : fI h' (gW G 7) 117 = fI h (gW G 7) 117) (h8 : fI h' (gW G 7) 118 = fI h (gW G 7) 118) : CS G h' ts D s := by
  obtain ⟨c1, c2, c3, c4, c5, c6, c7⟩ := c
  exact ⟨c1.le p.le, c2.kp (c1.at (by decide)) p, c3, ⟨h5.trans c4.1, c4.2⟩, ⟨h6.trans c5.1, c5.2⟩, ⟨h7.trans c6.1, c6.2⟩, ⟨h8.trans c7.1, c7.2⟩⟩
theorem CS.kd (c : CS G h ts D s) (hi : i < ts.length) : aI h (gW G 1024) i = nI (Kd ts i) ∧ aI h (gW G 1025) i = nI (Pl ts i) ∧ ((Kd ts i = 280 ∨ Kd ts i = 281 ∨ Kd ts i = 282) → NmC (aJ h (gW G 1026) i) (aJ h (gW G 1027) i) (Vl ts i)) ∧ (Kd ts i = 283 → aJ h (gW G 1026) i = lN (Vl ts i)) := by
  have := c.2.1.2 i ts[i] (List.getElem?_eq_getElem hi)
  unfold Kd Pl Vl
  rw [List.getD, List.getElem?_eq_getElem hi]
  exact this
theorem CS.len (c : CS G h ts D s) : ts.length ≤ 4098 := Nat.le_trans c.2.2.1.2.1 (by decide)
theorem CS.k4 (c : CS G h ts D s) (hi : i < ts.length) : Kd ts i < 300 := (kap_lt _ (Kd_mem c.2.2.1 hi)).2
theorem c_kind (c : CS G h ts D s) : C G mX12_kind d [.ref (gW G 7)] h (Ret (.int (nI (Kd ts s.1))) h) := by
  have hl := c.len
  refine bX12_kind G d h _ (c.1.at (by decide)) (c.1.at (by decide)) ?_
  rw [c.2.2.2.1.1, nI_cn (by have := c.2.2.2.1.2; omega), (c.kd c.2.2.2.1.2).1]
  exact ⟨vp_in_nI (by have := c.2.2.2.1.2; omega) (by decide), rfl, rfl⟩
theorem c_wrong (c : CS G h ts D s) (hu : un h + 24 ≤ UB) : C G mX12_wrong (d + 6) [.ref (gW G 7)] h (fun o h' => ∃ a, o = .returned (some (.ref a)) ∧ KP h h' ∧ FA h' ts a s.1 ∧ un h' = un h + 24) := by
  have hl := c.len
  have hs := c.2.2.2.1.2
  have hr := un_rm (n := 8) (h := h) (by omega)
  refine bX12_wrong G (d + 5) h _ (c.1.at (by decide)) (c.1.at (by decide)) ⟨hr.1, hr.2, fun q hq => ?_⟩
  rintro _ rfl
  have s7 := c.1.at (i := 7) (by decide)
  have hq7 : gW G 7 ≠ q := fun e => by have := s7.1; rw [e, hq] at this; cases this
  have e115 : fI (nO h q 17) (gW G 7) 115 = nI s.1 := by rw [fI_nO, if_neg hq7]; exact c.2.2.2.1.1
  rw [e115, nI_cn (by omega), aI_nO, (c.kd hs).2.1]
  refine ⟨vp_in_nI (by omega) (by decide), C.mono (c_Fault (d := d) (by rw [hK_nO, if_pos rfl]) rfl (by rw [fR_nO, if_pos rfl])) ?_⟩
  rintro _ _ ⟨rfl, h1, ⟨r1, r2, rfl⟩, rfl⟩
  refine KV.i ⟨q, rfl, ?_, ⟨?_, ?_, ?_⟩, ?_⟩
  · exact (((((((KP.rf.nO hq).pR hq).pR hq).pR hq).pR hq).pI (Or.inl hq)).pI (Or.inl hq))
  · simp only [hK_pI, hK_pR]; rw [hK_nO, if_pos rfl]
  · rw [fI_pI, if_neg (fun e => absurd e.2 (by decide)), fI_pI, if_pos ⟨rfl, rfl⟩]
  · rw [fI_pI, if_pos ⟨rfl, rfl⟩]
  · simp only [un_pI, un_pR]; rw [un_nO]; rfl
theorem CS.set {v : Int32} {g : Nat} (c : CS G h ts D s) (hg : 115 ≤ g ∧ g ≤ 118) {D' : Nat} {s' : St} (h5 : (if g = 115 then v else nI s.1) = nI s'.1 ∧ s'.1 < ts.length) (h6 : (if g = 116 then v else nI D) = nI D' ∧ D' < 1000) (h7 : (if g = 117 then v else nI s.2.1) = nI s'.2.1 ∧ s'.2.1 ≤ 60) (h8 : (if g = 118 then v else nI s.2.2) = nI s'.2.2 ∧ s'.2.2 ≤ 24) : CS G (pI h (gW G 7) g v) ts D' s' := by
  obtain ⟨c1, c2, c3, c4, c5, c6, c7⟩ := c
  have p : KP h (pI h (gW G 7) g v) := KP.rf.pI (Or.inr hg)
  have F : ∀ g', fI (pI h (gW G 7) g v) (gW G 7) g' = if g = g' then v else fI h (gW G 7) g' := by
    intro g'
    rw [fI_pI]
    by_cases e : g = g'
    · subst e; rw [if_pos ⟨rfl, rfl⟩, if_pos rfl]
    · rw [if_neg (fun q => e q.2.symm), if_neg e]
  refine ⟨c1.le p.le, c2.kp (c1.at (by decide)) p, c3, ⟨?_, h5.2⟩, ⟨?_, h6.2⟩, ⟨?_, h7.2⟩, ⟨?_, h8.2⟩⟩
  · rw [F, c4.1]; exact h5.1
  · rw [F, c5.1]; exact h6.1
  · rw [F, c6.1]; exact h7.1
  · rw [F, c7.1]; exact h8.1
theorem c_ctake (c : CS G h ts D s) (hu : un h + 24 ≤ UB) : C G mX12_take (d + 7) [.ref (gW G 7)] h (cN G h ts D (pTake (Kd ts) D s)) := by
  have hl := c.len
  obtain ⟨c1, c2, c3, c4, c5, c6, c7⟩ := id c
  have hk := c.k4 c4.2
  have bad : pTake (Kd ts) D s = .error s.1 → C G mX12_wrong (d + 6) [.ref (gW G 7)] h (KR (cN G h ts D (pTake (Kd ts) D s)) (fun b4 h2 => cN G h ts D (pTake (Kd ts) D s) (.threw b4) h2)) := by
    intro e
    rw [e]
    refine C.mono (c_wrong c hu) ?_
    rintro _ h1 ⟨a, rfl, p, f, u⟩
    exact KR.i ⟨p, a, rfl, f, by omega⟩
  refine bX12_take G (d + 6) h _ (c1.at (by decide)) ?_
  rw [c5.1, show (30 : Int32) = nI 30 from rfl, show (nI 30 < nI D) = ¬ (nI D ≤ nI 30) from propext Int32.not_le.symm, nI_leI (by omega) (by decide), Classical.not_not]
  refine ⟨fun z => bad (by unfold pTake; rw [if_pos (Or.inl (by omega))]), fun z => C.ri (c_kind c) ?_⟩
  rw [show (291 : Int32) = nI 291 from rfl, nI_eq (by omega) (by decide)]
  refine ⟨fun z2 => bad (by unfold pTake; rw [if_pos (Or.inr (Or.inl z2))]), fun z2 => C.ri (c_kind c) ?_⟩
  rw [show (292 : Int32) = nI 292 from rfl, nI_eq (by omega) (by decide)]
  refine ⟨fun z3 => bad (by unfold pTake; rw [if_pos (Or.inr (Or.inr z3))]), fun z3 => ?_⟩
  rintro _ rfl
  have e : pTake (Kd ts) D s = .ok (s.1, s.1 + 1, s.2) := by
    unfold pTake
    rw [if_neg]
    rintro (q | q | q)
    · omega
    · exact z2 q
    · exact z3 q
  have h3 := c3.2.2 s.1 c4.2 z2 z3
  rw [e, c4.1, nI_1]
  refine ⟨KP.rf.pI (Or.inr (by decide)), ?_, c.set (s' := (s.1 + 1, s.2)) (by decide) ⟨by rw [if_pos rfl], h3⟩ ⟨by rw [if_neg (by decide)], c5.2⟩ ⟨by rw [if_neg (by decide)], c6.2⟩ ⟨by rw [if_neg (by decide)], c7.2⟩, rfl⟩
  rw [fI_pI, if_pos ⟨rfl, rfl⟩, nI_sub1 (by omega)]
theorem cN.ki {h1 : AH} {r : Except Nat (Nat × St)} {o : Outcome} (k : cN G h ts D r o h1) : KI (cN G h ts D r) (fun x h2 => cN G h ts D r (.returned (some (.int x))) h2) o h1 := by
  obtain ⟨k1, k2⟩ := id k
  cases hr : r with
  | error e =>
    rw [hr] at k2
    obtain ⟨a, rfl, -⟩ := k2
    rw [← hr]
    exact KI.t k
  | ok q =>
    obtain ⟨t, s'⟩ := q
    rw [hr] at k2
    obtain ⟨rfl, -⟩ := k2
    rw [← hr]
    exact KI.i k
theorem c_cexpect {w : Nat} (c : CS G h ts D s) (hw : w < 300) (hu : un h + 24 ≤ UB) : C G mX12_expect (d + 8) [.ref (gW G 7), .int (nI w)] h (cN G h ts D (pExpect (Kd ts) w D s)) := by
  have hk := c.k4 c.2.2.2.1.2
  refine bX12_expect G (d + 7) h _ _ (c.1.at (by decide)) (C.ri (c_kind c) ?_)
  rw [nI_eq (by omega) (by omega)]
  unfold pExpect
  refine ⟨fun z => ?_, fun z => ?_⟩
  · rw [if_pos z]
    exact C.mono (c_ctake c hu) fun o h1 q => q.ki
  · rw [if_neg z]
    refine C.mono (c_wrong (d := d + 1) c hu) ?_
    rintro _ h1 ⟨a, rfl, p, f, u⟩
    exact KR.i ⟨p, a, rfl, f, by omega⟩
theorem c_cskip {w : Nat} (c : CS G h ts D s) (hw : w < 300) (hu : un h + 24 ≤ UB) : C G mX12_skip (d + 8) [.ref (gW G 7), .int (nI w)] h (cB G h ts D (pSkip (Kd ts) w D s)) := by
  have hk := c.k4 c.2.2.2.1.2
  refine bX12_skip G (d + 7) h _ _ (c.1.at (by decide)) (C.ri (c_kind c) ?_)
  rw [nI_eq (by omega) (by omega)]
  unfold pSkip
  refine ⟨fun z => ?_, fun z => ?_⟩
  · rw [if_pos z]
    refine C.mono (c_ctake c hu) ?_
    rintro o h1 ⟨p, q⟩
    cases hr : pTake (Kd ts) D s with
    | error e =>
      rw [hr] at q
      obtain ⟨a, rfl, f, u⟩ := q
      exact KI.t ⟨p, a, rfl, f, u⟩
    | ok y =>
      rw [hr] at q
      obtain ⟨rfl, c', u⟩ := q
      exact KI.i ⟨p, rfl, c', u⟩
  · rw [if_neg z]
    exact ⟨KP.rf, rfl, c, rfl⟩
theorem c_ctakeP (c : CS G h ts D s) (hu : un h + 24 ≤ UB) : C G mX12_takePat (d + 8) [.ref (gW G 7)] h (cN G h ts D (pTakeP (Kd ts) D s)) := by
  obtain ⟨c1, c2, c3, c4, c5, c6, c7⟩ := id c
  refine bX12_takePat G (d + 7) h _ (c.1.at (by decide)) ?_
  rw [c7.1, show (24 : Int32) = nI 24 from rfl, nI_eq (by omega) (by decide)]
  unfold pTakeP
  refine ⟨fun z => ?_, fun z => ?_⟩
  · rw [if_pos z]
    refine C.mono (c_wrong (d := d + 1) c hu) ?_
    rintro _ h1 ⟨a, rfl, p, f, u⟩
    exact KR.i ⟨p, a, rfl, f, by omega⟩
  · rw [if_neg z, nI_1]
    rintro _ rfl
    have c' : CS G (pI h (gW G 7) 118 (nI (s.2.2 + 1))) ts D (s.1, s.2.1, s.2.2 + 1) := c.set (by decide) ⟨by rw [if_neg (by decide)], c4.2⟩ ⟨by rw [if_neg (by decide)], c5.2⟩ ⟨by rw [if_neg (by decide)], c6.2⟩ ⟨by rw [if_pos rfl], by show s.2.2 + 1 ≤ 24; omega⟩
    refine C.mono (c_ctake c' hu) fun o h1 q => ?_
    have q' : cN G h ts D (pTake (Kd ts) D (s.1, s.2.1, s.2.2 + 1)) o h1 := ⟨(KP.rf.pI (Or.inr (by decide))).tr q.1, q.2⟩
    exact q'.ki
theorem CS.up (c : CS G h ts D s) (hd : D < 900) : CS G (pI h (gW G 7) 116 (fI h (gW G 7) 116 + 1)) ts (D + 1) s := by
  obtain ⟨c1, c2, c3, c4, c5, c6, c7⟩ := id c
  rw [c5.1, nI_1]
  exact c.set (by decide) ⟨by rw [if_neg (by decide)], c4.2⟩ ⟨by rw [if_pos rfl], by omega⟩ ⟨by rw [if_neg (by decide)], c6.2⟩ ⟨by rw [if_neg (by decide)], c7.2⟩
theorem CS.dn (c : CS G h ts (D + 1) s) : CS G (pI h (gW G 7) 116 (fI h (gW G 7) 116 - 1)) ts D s := by
  obtain ⟨c1, c2, c3, c4, c5, c6, c7⟩ := id c
  rw [c5.1, nI_sub1 (by omega)]
  exact c.set (by decide) ⟨by rw [if_neg (by decide)], c4.2⟩ ⟨by rw [if_pos rfl], by omega⟩ ⟨by rw [if_neg (by decide)], c6.2⟩ ⟨by rw [if_neg (by decide)], c7.2⟩
theorem CS.p0 (c : CS G h ts D s) : CS G (pI h (gW G 7) 118 0) ts D (s.1, s.2.1, 0) := by
  obtain ⟨c1, c2, c3, c4, c5, c6, c7⟩ := id c
  exact c.set (by decide) ⟨by rw [if_neg (by decide)], c4.2⟩ ⟨by rw [if_neg (by decide)], c5.2⟩ ⟨by rw [if_neg (by decide)], c6.2⟩ ⟨by rw [if_pos rfl]; rfl, Nat.zero_le _⟩
theorem kp_rd {v : Int32} {g : Nat} (hg : 115 ≤ g ∧ g ≤ 118) : KP h (pI h (gW G 7) g v) := KP.rf.pI (Or.inr hg)
/-- a new object: the state stays -/
theorem CS.nO {q c' : Nat} (c : CS G h ts D s) (hq : hK h q = 0) : CS G (nO h q c') ts D s := by
  have s7 := c.1.at (i := 7) (by decide)
  have hq7 : gW G 7 ≠ q := fun e => by have := s7.1; rw [e, hq] at this; cases this
  exact c.kp (KP.rf.nO hq) (by rw [fI_nO, if_neg hq7]) (by rw [fI_nO, if_neg hq7]) (by rw [fI_nO, if_neg hq7]) (by rw [fI_nO, if_neg hq7])
end
