/-! THE COMPONENT'S READER: patterns in brackets, patterns -/
section
variable {G : Gh} {d : Nat} {h h1 h2 h3 h' : AH} {ts : List (Nat × Nat × Nat)} {s s1 : St} {D k i q a b t r n : Nat} {N : Nat → Prop} {E : String} {l : List Tr} {bs : List Nat} {x : Tr} {P : Nat → Nat → St → Except Nat (Tr × St)}
theorem CS.w7 {v : Int32} (c : CS G h ts D s) (p : KP h h') (hf : ∀ g, fI h' (gW G 7) g = fI h (gW G 7) g) : CS G h' ts D s := c.kp p (hf _) (hf _) (hf _) (hf _)
/-- the object's part of a row's tree: array and token -/
theorem brk_arr {cc kd g : Nat} (k : RB G h h1 ts "LetMill$Pat" l r bs n) (c : CS G h1 ts D s1) (hl : l.length = bs.length) (hu : un h1 + 34 + bs.length ≤ UB) (hc : (cc = 22 ∧ kd = 38 ∧ g = 308) ∨ (cc = 25 ∧ kd = 37 ∧ g = 310)) (ht : t < 5000) (hq : hK h1 q = 0)
    {μ : Mu} (ci : ∀ {h' : AH} {a b : Nat} {p : Int32}, hK h' a = cc + 1 → C G μ (d + 3) [.ref a, .int p, .ref b] h' (fun o h'' => o = .returned none ∧ h'' = pR (pI h' a 302 p) a g (some b))) {Q : Outcome → AH → Prop}
    (hQ : ∀ h', KP h h' → CS G h' ts D s1 → OT ts (fun b => hK h b = 0) h' (n1 kd t (ls l)) 0 0 q → CT h' q "LetMill$Pat" → un h' = un h1 + 34 + bs.length → Q (.returned (some (.ref q))) h') :
    C G mX12_patsOf (d + 3) [.ref r] (nO h1 q cc) (KR Q (fun b19 h17 => C G μ (d + 3) [.ref q, .int (nI t), .ref b19] h17 (KV Q (fun h20 => Q (.returned (some (.ref q))) h20)))) := by
  have e2 : (ftab cc).length = 2 := by rcases hc with ⟨rfl, _⟩ | ⟨rfl, _⟩ <;> decide
  have c2 := c.nO (c' := cc) hq
  have k2 : RB G h (nO h1 q cc) ts "LetMill$Pat" l r bs n := k.kp (KP.rf.nO hq)
  refine C.mono (c_patsOf k2.2.1 c2.1 k2.2.2.2.2 (by rw [un_nO, e2]; omega)) ?_
  rintro _ h2 ⟨arr, rfl, f0, p2, ka, la, ea, u2, w7⟩
  rw [un_nO, e2] at u2
  have hkq : hK h2 q = cc + 1 := p2.hk (by rw [hK_nO, if_pos rfl]) (by omega)
  refine KR.i (C.mono (ci hkq) ?_)
  rintro _ _ ⟨rfl, rfl⟩
  have w : WQ q h2 (pR (pI h2 q 302 (nI t)) q g (some arr)) := WQ.rf.pI.pR
  have pq := k.1.fresh hq
  have p3 : KP h h2 := k.1.tr ((KP.rf.nO hq).tr p2)
  have hna : arr ≠ q := fun e => by rw [e] at f0; rw [hK_nO, if_pos rfl] at f0; cases f0
  have hk3 : hK (pR (pI h2 q 302 (nI t)) q g (some arr)) q = cc + 1 := hkq
  refine KV.i (hQ _ (w.kp p3 pq) (w.cs (c2.w7 (v := 0) p2 w7) (c.1.nw hq)) ?_ ?_ (by rw [w.un, u2]))
  · have tl : TL ts (fun a => hK h a = 0) (pR (pI h2 q 302 (nI t)) q g (some arr)) l bs := by
      refine k.tl fun a ha hl => ?_
      have hne : a ≠ q := fun e => hl (by rw [e]; exact hq)
      exact (((KP.rf.nO (c := cc) hq).tr p2).2 a hl).tr (w.uk hne)
    have har : hK h arr = 0 := (k.1.tr (KP.rf.nO hq)).fresh f0
    refine OT_nd (k := kd) pq ?_ (EX_pl ?_ ht ?_) (OT_l1 (m := 21) (g := g) ?_ (by decide) (OT_arr tl ⟨?_, (show _ = aK g by rcases hc with ⟨_, _, rfl⟩ | ⟨_, _, rfl⟩ <;> exact ka), har⟩ (la.trans hl.symm) ea)) (by omega) (by omega)
    · rw [hk3]
      rcases hc with ⟨rfl, rfl, _⟩ | ⟨rfl, rfl, _⟩ <;> decide
    · omega
    · rw [hk3]
      rcases hc with ⟨rfl, _⟩ | ⟨rfl, _⟩
      · show fI (pR (pI h2 q 302 (nI t)) q g (some arr)) q 302 = _
        rw [fI_pR, fI_pI, if_pos ⟨rfl, rfl⟩]
      · show fI (pR (pI h2 q 302 (nI t)) q g (some arr)) q 302 = _
        rw [fI_pR, fI_pI, if_pos ⟨rfl, rfl⟩]
    · rcases hc with ⟨rfl, rfl, rfl⟩ | ⟨rfl, rfl, rfl⟩ <;> decide
    · rw [fR_pR, if_pos ⟨rfl, rfl⟩]
  · exact CT_pat hk3 (by omega)
theorem mkB_r0 : mkBrack true t [] = n0 36 t := rfl
theorem mkB_l (l : List Tr) : mkBrack false t l = n1 38 t (ls l) := by
  cases l with
  | nil => rfl
  | cons a r => cases r <;> rfl
theorem mkB_2 (hl : 2 ≤ l.length) : mkBrack true t l = n1 37 t (ls l) := by
  cases l with
  | nil => simp at hl
  | cons a r =>
    cases r with
    | nil => simp at hl
    | cons b r => rfl
theorem brk_127 {rd : Bool} {R : Except Nat (Tr × St)} (k : RB G h h1 ts "LetMill$Pat" l r bs n) (c : CS G h1 ts D s) (ht : t < s.1) (hU : un h1 + (12 * bs.length - 6 * n) + 60 + bs.length ≤ un h + 200 * (s.1 - t)) (hB : un h + 200 * (ts.length - t) + 100 ≤ UB)
    (hR : R = bd (pClose (Kd ts) (if rd = true then 41 else 93) D s) fun _ s => .ok (mkBrack rd t l, s)) :
    X G mX12_bracketed (d + 15) none [] 127 [(0, .ref (gW G 7)), (1, .int (nI t)), (2, .int (b2 rd)), (3, .int (nI (if rd = true then 41 else 93))), (4, .ref r)] [] h1 (cP G h ts D t "LetMill$Pat" R) := by
  have hl := c.len
  have hsl := c.2.2.2.1.2
  have hk := c.k4 hsl
  have rc := k.2.1
  have hlen : l.length = bs.length := k.2.2.2.1.1
  have hbn := rc.2.2.1
  have hn2 := rc.2.2.2.2.1
  refine bX12_bracketed_127 G (d + 14) h1 _ _ _ _ _ (c.1.at (by decide)) (C.ri (c_kind c) ?_)
  rw [nI_eq (by omega) (by split <;> decide)]
  refine ⟨fun z => ?_, fun z => ?_⟩
  · have e0 : pClose (Kd ts) (if rd = true then 41 else 93) D s = pTakeP (Kd ts) D s := by unfold pClose; rw [if_pos z]
    rw [e0] at hR
    refine C.mono (c_ctakeP (d := d + 6) c (by omega)) ?_
    rintro o h2 ⟨p2, q⟩
    cases hr : pTakeP (Kd ts) D s with
    | error e =>
      rw [hr] at q hR
      obtain ⟨a, rfl, f, u⟩ := q
      rw [hR]
      exact KI.t (cP.er (k.1.tr p2) f (by omega))
    | ok y =>
    obtain ⟨v, s1⟩ := y
    rw [hr] at q hR
    obtain ⟨rfl, c2, u2⟩ := q
    have es1 : s1.1 = s.1 + 1 := by rw [(pTakeP_ok hr).2.1]
    change R = .ok (mkBrack rd t l, s1) at hR
    have k2 := k.kp p2
    have hrm := un_rm (n := 2) (h := h2) (by omega)
    refine KI.i ?_
    rw [b2_0]
    refine ⟨fun z2 => ?_, fun z2 => ?_⟩
    · subst z2
      rw [mkB_l] at hR
      rw [hR]
      refine ⟨hrm.1, hrm.2, fun q hq => ?_⟩
      rintro _ rfl
      exact brk_arr (d := d + 11) (t := t) (cc := 22) (kd := 38) (g := 308) (μ := mX24_init) k2 c2 hlen (by omega) (Or.inl ⟨rfl, rfl, rfl⟩) (by omega) hq (fun hk => c_X24 (d := d + 12) hk) fun h' b1 b2 b3 b4 b5 => ⟨b1, q, rfl, b2, b3, b4, by omega, by rw [b5]; omega⟩
    · have z3 := bt z2
      subst z3
      refine ⟨k2.2.1.1, ?_⟩
      rw [k2.2.1.2.1, show (0 : Int32) = nI 0 from rfl, show (1 : Int32) = nI 1 from rfl, nI_eq (by omega) (by decide), nI_eq (by omega) (by decide)]
      refine ⟨fun z4 => ?_, fun z4 => ⟨fun z5 => ?_, fun z5 => ?_⟩⟩
      · have hl0 : l = [] := List.eq_nil_of_length_eq_zero (by omega)
        rw [hl0, mkB_r0] at hR
        rw [hR]
        have hrm1 := un_rm (n := 1) (h := h2) (by omega)
        refine ⟨hrm1.1, hrm1.2, fun q hq => ?_⟩
        rintro _ rfl
        refine C.mono (c_X25 (d := d + 12) (by rw [hK_nO, if_pos rfl])) ?_
        rintro _ _ ⟨rfl, rfl⟩
        have w : WQ q (nO h2 q 23) (pI (nO h2 q 23) q 302 (nI t)) := WQ.rf.pI
        have pq := k2.1.fresh hq
        have hk3 : hK (pI (nO h2 q 23) q 302 (nI t)) q = 24 := by rw [hK_pI, hK_nO, if_pos rfl]
        refine KV.i ⟨w.kp (k2.1.nO hq) pq, q, rfl, w.cs (c2.nO hq) (c2.1.nw hq), OT_nd0 (k := 36) pq (by rw [hk3]; decide) (EX_0 (by decide) (by omega) (by rw [hk3]; show fI (pI (nO h2 q 23) q 302 (nI t)) q 302 = _; rw [fI_pI, if_pos ⟨rfl, rfl⟩])) (by decide), CT_pat hk3 (by decide), by omega, ?_⟩
        rw [w.un, un_nO]
        show un h2 + 16 + 1 + 120 ≤ _
        omega
      · obtain ⟨a, rfl⟩ : ∃ a, l = [a] := by
          cases l with
          | nil => simp at hlen; omega
          | cons a r =>
            cases r with
            | nil => exact ⟨a, rfl⟩
            | cons b r => simp at hlen; omega
        obtain ⟨b0, rfl⟩ : ∃ b, bs = [b] := by
          cases bs with
          | nil => simp at hlen
          | cons a r =>
            cases r with
            | nil => exact ⟨a, rfl⟩
            | cons b r => simp at hlen
        change R = .ok (n1 19 t a, s1) at hR
        rw [hR]
        refine ⟨hrm.1, hrm.2, fun q hq => ?_⟩
        rintro _ rfl
        have k3 : RB G h (nO h2 q 24) ts "LetMill$Pat" [a] r [b0] n := k2.kp (KP.rf.nO hq)
        refine C.mono (c_rpat (d := d + 13) (i := 0) k3.2.1 rfl (k3.2.2.2.2 b0 (by simp))) ?_
        rintro _ _ ⟨rfl, rfl⟩
        refine KR.i (C.mono (c_X26 (d := d + 12) (by rw [hK_nO, if_pos rfl])) ?_)
        rintro _ _ ⟨rfl, rfl⟩
        have w : WQ q (nO h2 q 24) (pR (pI (nO h2 q 24) q 302 (nI t)) q 309 (some b0)) := WQ.rf.pI.pR
        have pq := k2.1.fresh hq
        have hk3 : hK (pR (pI (nO h2 q 24) q 302 (nI t)) q 309 (some b0)) q = 25 := by rw [hK_pR, hK_pI, hK_nO, if_pos rfl]
        have tl : TL ts (fun a => hK h a = 0) (pR (pI (nO h2 q 24) q 302 (nI t)) q 309 (some b0)) [a] [b0] := by
          refine k2.tl fun a ha hl => ?_
          have hne : a ≠ q := fun e => hl (by rw [e]; exact hq)
          exact ((KP.rf.nO (c := 24) hq).2 a hl).tr (w.uk hne)
        have lv := (tl.2 0 a b0 rfl rfl).live (m := 0)
        have ctb := pat_kind ((k2.2.2.2.2 b0 (by simp)).kp (w.kp (KP.rf.nO (c := 24) hq) hq))
        refine KV.i ⟨w.kp (k2.1.nO hq) pq, q, rfl, w.cs (c2.nO hq) (c2.1.nw hq), OT_ndg (k := 19) pq (by rw [hk3]; decide) (EX_pl (by decide) (by omega) (by rw [hk3]; show fI (pR (pI (nO h2 q 24) q 302 (nI t)) q 309 (some b0)) q 302 = _; rw [fI_pR, fI_pI, if_pos ⟨rfl, rfl⟩])) (OT_l1 (m := 6) (g := 0) (by decide) (by decide) (OT_og (by decide) ?_ (tl.2 0 a b0 rfl rfl))) (by decide) (fun _ => ⟨b0, lv.2, lv.1, by rw [if_pos hk3, fR_pR, if_pos ⟨rfl, rfl⟩], Or.inl ⟨hk3, ctb⟩⟩), CT_pat hk3 (by decide), by omega, ?_⟩
        · unfold og
          rw [if_neg (by decide), if_neg (by decide), if_neg (by decide), if_neg (by decide), if_pos rfl, if_pos hk3, fR_pR, if_pos ⟨rfl, rfl⟩]
        · rw [w.un, un_nO]
          show un h2 + 16 + 2 + 120 ≤ _
          simp at hU
          omega
      · rw [mkB_2 (by omega)] at hR
        rw [hR]
        refine ⟨hrm.1, hrm.2, fun q hq => ?_⟩
        rintro _ rfl
        exact brk_arr (d := d + 11) (t := t) (cc := 25) (kd := 37) (g := 310) (μ := mX27_init) k2 c2 hlen (by omega) (Or.inr ⟨rfl, rfl, rfl⟩) (by omega) hq (fun hk => c_X27 (d := d + 12) hk) fun h' b1 b2 b3 b4 b5 => ⟨b1, q, rfl, b2, b3, b4, by omega, by rw [b5]; omega⟩
  · have e0 : pClose (Kd ts) (if rd = true then 41 else 93) D s = .error s.1 := by unfold pClose; rw [if_neg z]
    rw [e0] at hR
    change R = .error s.1 at hR
    rw [hR]
    refine C.mono (c_wrong (d := d + 8) c (by omega)) ?_
    rintro _ h2 ⟨a, rfl, p, f, u⟩
    exact KR.i (cP.er (k.1.tr p) f (by omega))
theorem brk_71 {rd : Bool} (hd : D ≤ 30) (hp : CH G d ts (D + 1) "LetMill$Pat" mX12_pat [] (P 1 (D + 1))) (hB : un h + 200 * (ts.length - t) + 100 ≤ UB) :
    ∀ f (s : St) l bs n h1 R, ts.length - s.1 < f → RB G h h1 ts "LetMill$Pat" l r bs n → CS G h1 ts (D + 1) s → t < s.1 → 1 ≤ l.length → l.length ≤ s.1 → (rd = true → l.length ≤ 6) → un h1 + (12 * bs.length - 6 * n) + 60 + bs.length ≤ un h + 200 * (s.1 - t) →
    R = bd (pMore (pCommaP (Kd ts) (D + 1)) (P 1 (D + 1)) (if rd = true then 6 else 0) f l.length s) (fun r s => bd (pClose (Kd ts) (if rd = true then 41 else 93) D s) fun _ s => .ok (mkBrack rd t (l ++ r), s)) →
    X G mX12_bracketed (d + 17) none [] 71 [(0, .ref (gW G 7)), (1, .int (nI t)), (2, .int (b2 rd)), (3, .int (nI (if rd = true then 41 else 93))), (4, .ref r)] [] h1 (cP G h ts D t "LetMill$Pat" R) := by
  intro f
  induction f with
  | zero => intro s l bs n h1 R hf; omega
  | succ f IH =>
    intro s l bs n h1 R hf k c ht h1l hls h6 hU hR
    have hl := c.len
    have hsl := c.2.2.2.1.2
    have hk := c.k4 hsl
    have rc := k.2.1
    have hlen : l.length = bs.length := k.2.2.2.1.1
    have hbn := rc.2.2.1
    have hn2 := rc.2.2.2.2.1
    rw [pMore_b] at hR
    refine bX12_bracketed_71 G (d + 16) h1 _ _ _ _ _ (c.1.at (by decide)) (C.ri (c_kind c) ?_)
    rw [show (44 : Int32) = nI 44 from rfl, nI_eq (by omega) (by decide), b2_0]
    refine ⟨fun z => ?_, fun z => ?_⟩
    · have e0 : pCommaP (Kd ts) (D + 1) s = bd (pTakeP (Kd ts) (D + 1) s) fun _ s => .ok (true, s) := by unfold pCommaP; rw [if_pos z]
      rw [e0] at hR
      have step : ¬ (l.length = if rd = true then 6 else 0) → C G mX12_takePat (d + 16) [.ref (gW G 7)] h1 (KI (cP G h ts D t "LetMill$Pat" R) (fun x10 h8 => C G mX12_pat (d + 16) [.ref (gW G 7)] h8 (KR (cP G h ts D t "LetMill$Pat" R) (fun b13 h11 => hK h11 r = 6 ∧ (C G mX7_add (d + 16) [.ref r, .ref b13] h11 (KV (cP G h ts D t "LetMill$Pat" R) (fun h14 => X G mX12_bracketed (d + 17) none [] 71 [(0, .ref (gW G 7)), (1, .int (nI t)), (2, .int (b2 rd)), (3, .int (nI (if rd = true then 41 else 93))), (4, .ref r)] [] h14 (cP G h ts D t "LetMill$Pat" R)))))))) := by
        intro hne
        refine C.mono (c_ctakeP (d := d + 8) c (by omega)) ?_
        rintro o h2 ⟨p2, q⟩
        cases hr : pTakeP (Kd ts) (D + 1) s with
        | error e =>
          rw [hr] at q hR
          obtain ⟨a, rfl, f, u⟩ := q
          change R = .error e at hR
          rw [hR]
          exact KI.t (cP.er (k.1.tr p2) f (by omega))
        | ok y =>
        obtain ⟨v, s1⟩ := y
        rw [hr] at q hR
        obtain ⟨rfl, c2, u2⟩ := q
        have es1 : s1.1 = s.1 + 1 := by rw [(pTakeP_ok hr).2.1]
        change R = bd (.ok (true, s1)) _ at hR
        rw [bd_tt, if_neg hne] at hR
        have k2 := k.kp p2
        refine KI.i (C.mono (hp h2 s1 c2 (by omega)) ?_)
        rintro o h3 ⟨p3, q⟩
        cases hr3 : P 1 (D + 1) s1 with
        | error e =>
          rw [hr3] at q hR
          obtain ⟨a, rfl, f, u⟩ := q
          change R = .error e at hR
          rw [hR]
          exact KR.t (cP.er (k2.1.tr p3) f (by omega))
        | ok y3 =>
        obtain ⟨x, s3⟩ := y3
        rw [hr3] at q hR
        obtain ⟨b, rfl, c3, ot, ct, hs3, u3⟩ := q
        change R = bd (pMore _ _ _ f (l.length + 1) s3) _ at hR
        have hs3l := c3.2.2.2.1.2
        refine KR.i ⟨(k2.kp p3).2.1.1, ?_⟩
        refine (C.mono (r_add (d := d + 14) k2 p3 c3 ot ct (by omega) (Nat.le_refl _) (by omega)) ?_)
        rintro _ h4 ⟨rfl, c4, n', k4, u4⟩
        refine KV.i (IH s3 (l ++ [x]) (bs ++ [b]) n' h4 R (by omega) k4 c4 (by omega) (by simp) (by simp; omega) (fun q => ?_) (by simp; omega) ?_)
        · have := h6 q
          rw [if_pos q] at hne
          simp
          omega
        · rw [hR]
          simp only [List.length_append, List.length_cons, List.length_nil, List.append_assoc, List.singleton_append]
      refine ⟨fun z2 => step (by rw [if_neg (by simp [z2])]; omega), fun z2 => ⟨rc.1, ?_⟩⟩
      · have z3 := bt z2
        subst z3
        rw [rc.2.1, show (6 : Int32) = nI 6 from rfl, nI_eq (by omega) (by decide)]
        refine ⟨fun z4 => ?_, fun z4 => ?_⟩
        rotate_left
        · refine C.mono (step (by rw [if_pos rfl]; omega)) ?_
          rintro o h2 (⟨x, e, q⟩ | ⟨a, e, q⟩)
          · subst e
            refine KI.i (C.mono q ?_)
            rintro o h3 (⟨x, e, q⟩ | ⟨a, e, q⟩)
            · subst e; exact KR.i q.2
            · subst e; exact KR.t q
          · subst e; exact KI.t q
        have hR2 : R = .error s.1 := by
          rw [hR]
          cases hr : pTakeP (Kd ts) (D + 1) s with
          | error e =>
            show (.error e : Except Nat (Tr × St)) = _
            have : e = s.1 := by
              unfold pTakeP at hr
              split at hr
              · cases hr; rfl
              · exact pTake_er (s := (s.1, s.2.1, s.2.2 + 1)) hr
            rw [this]
          | ok y =>
            obtain ⟨v, s1⟩ := y
            show bd (.ok (true, s1)) _ = _
            rw [bd_tt, if_pos (by rw [if_pos rfl]; omega)]
            have : s1.1 = s.1 + 1 := by rw [(pTakeP_ok hr).2.1]
            rw [this]
            rfl
        rw [hR2]
        refine C.mono (c_wrong (d := d + 10) c (by omega)) ?_
        rintro _ h2 ⟨a, rfl, p, f, u⟩
        exact KR.i (cP.er (k.1.tr p) f (by omega))
    · have e0 : pCommaP (Kd ts) (D + 1) s = .ok (false, s) := by unfold pCommaP; rw [if_neg z]
      rw [e0] at hR
      change R = bd (pClose (Kd ts) _ D s) fun _ s => .ok (mkBrack rd t (l ++ []), s) at hR
      rw [List.append_nil] at hR
      rintro _ rfl
      exact brk_127 (d := d + 2) (k.kp (kp_rd (by decide))) c.dn ht hU hB hR
end
section
variable {G : Gh} {d : Nat} {h h1 h2 h3 h' : AH} {ts : List (Nat × Nat × Nat)} {s s1 : St} {D k i q a b t r n : Nat} {N : Nat → Prop} {E : String} {l : List Tr} {bs : List Nat} {x : Tr} {P : Nat → Nat → St → Except Nat (Tr × St)}
theorem c_brk (hp : D ≤ 30 → CH G d ts (D + 1) "LetMill$Pat" mX12_pat [] (P 1 (D + 1))) (c : CS G h ts D s) (hB : un h + 200 * (ts.length - s.1) + 100 ≤ UB) (hk0 : Kd ts s.1 = 40 ∨ Kd ts s.1 = 91) : C G mX12_bracketed (d + 17) [.ref (gW G 7), .int (nI s.1)] h (cP G h ts D s.1 "LetMill$Pat" (bd (pTakeP (Kd ts) D s) fun t s => pBrack (Kd ts) P t D s)) := by
  have hl := c.len
  have hsl := c.2.2.2.1.2
  have hk := c.k4 hsl
  refine bX12_bracketed G (d + 16) h _ _ (c.1.at (by decide)) (c.1.at (by decide)) ?_
  refine C.mono (c_ctakeP (d := d + 8) c (by omega)) ?_
  rintro o h1 ⟨p1, q⟩
  cases hr : pTakeP (Kd ts) D s with
  | error e =>
    rw [hr] at q
    obtain ⟨a, rfl, f, u⟩ := q
    exact KI.t (cP.er p1 f (by omega))
  | ok y =>
  obtain ⟨t, s1⟩ := y
  rw [hr] at q
  obtain ⟨rfl, c1, u1⟩ := q
  obtain ⟨et, es, -⟩ := pTakeP_ok hr
  subst et
  have hd := pTakeP_le hr
  have es1 : s1.1 = s.1 + 1 := by rw [es]
  have hs1l := c1.2.2.2.1.2
  have hk1 := c1.k4 hs1l
  show KI (cP G h ts D s.1 "LetMill$Pat" (pBrack (Kd ts) P s.1 D s1)) _ _ _
  have hp := hp hd
  have go : ∀ rd : Bool, (rd = true ↔ Kd ts s.1 = 40) → X G mX12_bracketed (d + 17) none [] 22 [(0, .ref (gW G 7)), (1, .int (nI s.1))] [.int (b2 rd)] h1 (cP G h ts D s.1 "LetMill$Pat" (pBrack (Kd ts) P s.1 D s1)) := by
    intro rd hrd
    have e1 : (if Kd ts s.1 = 40 then 41 else 93) = if rd = true then 41 else 93 := by
      by_cases z : rd = true
      · rw [if_pos z, if_pos (hrd.mp z)]
      · rw [if_neg z, if_neg (fun q => z (hrd.mpr q))]
    have e6 : (if Kd ts s.1 = 40 then 6 else 0) = if rd = true then 6 else 0 := by
      by_cases z : rd = true
      · rw [if_pos z, if_pos (hrd.mp z)]
      · rw [if_neg z, if_neg (fun q => z (hrd.mpr q))]
    have eb : (Kd ts s.1 == 40) = rd := by
      by_cases z : Kd ts s.1 = 40
      · rw [(hrd.mpr z)]; simp [z]
      · have : rd = false := by
          cases rd with
          | true => exact absurd (hrd.mp rfl) z
          | false => rfl
        rw [this]; simp [z]
    have eR : pBrack (Kd ts) P s.1 D s1 = if Kd ts s1.1 = (if rd = true then 41 else 93) then bd (pTakeP (Kd ts) D s1) fun _ s' => .ok (mkBrack rd s.1 [], s') else bd (P 1 (D + 1) s1) fun a s' => bd (pMore (pCommaP (Kd ts) (D + 1)) (P 1 (D + 1)) (if rd = true then 6 else 0) FU 1 s') fun r s' => bd (pClose (Kd ts) (if rd = true then 41 else 93) D s') fun _ s' => .ok (mkBrack rd s.1 (a :: r), s') := by
      unfold pBrack
      rw [e1, e6, eb]
    rw [eR]
    generalize hRR : (if Kd ts s1.1 = (if rd = true then 41 else 93) then bd (pTakeP (Kd ts) D s1) fun _ s' => .ok (mkBrack rd s.1 [], s') else bd (P 1 (D + 1) s1) fun a s' => bd (pMore (pCommaP (Kd ts) (D + 1)) (P 1 (D + 1)) (if rd = true then 6 else 0) FU 1 s') fun r s' => bd (pClose (Kd ts) (if rd = true then 41 else 93) D s') fun _ s' => .ok (mkBrack rd s.1 (a :: r), s')) = R
    have hrm := un_rm (n := 2) (h := h1) (by omega)
    -- the row, and on
    have body : ∀ cl : Nat, cl = (if rd = true then 41 else 93) → cl < 300 → (hc h1 + 1 ≤ MC) ∧ (hs h1 + 2 ≤ MS) ∧ ∀ q2, hK h1 q2 = 0 → ∀ h4, h4 = nO h1 q2 5 → (C G mX7_init (d + 16) [.ref (q2)] h4 (KV (cP G h ts D s.1 "LetMill$Pat" R) (fun h7 => C G mX12_kind (d + 16) [.ref (gW G 7)] h7 (KI (cP G h ts D s.1 "LetMill$Pat" R) (fun x11 h9 => (x11 = nI cl → (X G mX12_bracketed (d + 17) none [] 127 [(0, .ref (gW G 7)), (1, .int (nI s.1)), (2, .int (b2 rd)), (3, .int (nI cl)), (4, .ref (q2))] [] h9 (cP G h ts D s.1 "LetMill$Pat" R))) ∧ (¬ x11 = nI cl → (∀ h13, h13 = pI h9 (gW G 7) 116 ((fI h9 (gW G 7) 116) + 1) → (C G mX12_pat (d + 16) [.ref (gW G 7)] h13 (KR (cP G h ts D s.1 "LetMill$Pat" R) (fun b16 h14 => C G mX7_add (d + 16) [.ref (q2), .ref (b16)] h14 (KV (cP G h ts D s.1 "LetMill$Pat" R) (fun h17 => X G mX12_bracketed (d + 17) none [] 71 [(0, .ref (gW G 7)), (1, .int (nI s.1)), (2, .int (b2 rd)), (3, .int (nI cl)), (4, .ref (q2))] [] h17 (cP G h ts D s.1 "LetMill$Pat" R)))))))))))))  := by
      intro cl hcl hcl3
      refine ⟨hrm.1, hrm.2, fun q hq => ?_⟩
      rintro _ rfl
      refine C.mono (r_row (d := d + 15) (E := "LetMill$Pat") c1 p1 hq (by omega)) ?_
      rintro _ h2 ⟨rfl, k2, c2, u2, p2, -⟩
      refine KV.i (C.ri (c_kind c2) ?_)
      rw [nI_eq (by omega) (by omega)]
      refine ⟨fun z => ?_, fun z => ?_⟩
      · rw [hcl] at z ⊢
        rw [if_pos z] at hRR
        refine brk_127 (d := d + 2) k2 c2 (by omega) (by simp; omega) hB ?_
        rw [← hRR]
        unfold pClose
        rw [if_pos z]
      · rw [hcl] at z
        rw [if_neg z] at hRR
        rintro _ rfl
        refine C.mono (hp _ s1 (c2.up (by omega)) (by rw [un_pI]; omega)) ?_
        rintro o h3 ⟨p3, q3⟩
        rw [un_pI] at q3
        have k3 := k2.kp (kp_rd (G := G) (g := 116) (v := fI h2 (gW G 7) 116 + 1) (by decide))
        cases hr3 : P 1 (D + 1) s1 with
        | error e =>
          rw [hr3] at q3 hRR
          obtain ⟨a, rfl, f, u⟩ := q3
          change .error e = R at hRR
          rw [← hRR]
          exact KR.t (cP.er (k3.1.tr p3) f (by omega))
        | ok y3 =>
        obtain ⟨x, s3⟩ := y3
        rw [hr3] at q3 hRR
        obtain ⟨b, rfl, c3, ot, ct, hs3, u3⟩ := q3
        have hs3l := c3.2.2.2.1.2
        refine KR.i (C.mono (r_add (d := d + 14) k3 p3 c3 ot ct (by simp) (Nat.le_refl _) (by simp; omega)) ?_)
        rintro _ h4 ⟨rfl, c4, n', k4, u4⟩
        rw [hcl]
        refine KV.i (brk_71 hd hp hB FU s3 [x] [b] n' h4 R (by unfold FU; omega) k4 c4 (by omega) (by simp) (by simp; omega) (fun _ => by simp) (by simp at u4 ⊢; omega) hRR.symm)
    refine bX12_bracketed_22 G (d + 16) h1 _ _ _ (c1.1.at (by decide)) ?_
    rw [b2_0]
    refine ⟨fun z => ?_, fun z => ?_⟩
    · exact body 93 (by rw [z]; rfl) (by decide)
    · exact body 41 (by rw [bt z]; rfl) (by decide)
  refine KI.i ⟨vp_in_nI (by omega) (by decide), ?_⟩
  rw [nI_cn (by omega), (c1.kd hsl).1, show (40 : Int32) = nI 40 from rfl, nI_eq (by omega) (by decide)]
  exact ⟨fun z => go true ⟨fun _ => z, fun _ => rfl⟩, fun z => go false ⟨fun e => (by cases e), fun e => absurd e z⟩⟩
end
