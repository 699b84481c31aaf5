/-! THE COMPONENT'S READER: products -/
section
variable {G : Gh} {d : Nat} {h h1 h2 h3 h' : AH} {ts : List (Nat × Nat × Nat)} {s s1 s2 : St} {D k i q a b t r n : Nat} {N : Nat → Prop} {E : String} {x p0 : Tr} {l : List Tr} {bs : List Nat} {P : Nat → Nat → St → Except Nat (Tr × St)}
/-- one token back, for a fault's place -/
theorem CS.bk (c : CS G h ts D s) (h1 : 1 ≤ s.1) : CS G (pI h (gW G 7) 115 (fI h (gW G 7) 115 - 1)) ts D (s.1 - 1, s.2) := by
  obtain ⟨c1, c2, c3, c4, c5, c6, c7⟩ := id c
  have hl := c.len
  have e : fI h (gW G 7) 115 - 1 = nI (s.1 - 1) := by rw [c4.1]; exact nI_sub (b := 1) h1 (by omega)
  rw [e]
  exact c.set (by decide) ⟨by rw [if_pos rfl], by show s.1 - 1 < _; omega⟩ ⟨by rw [if_neg (by decide)], c5.2⟩ ⟨by rw [if_neg (by decide)], c6.2⟩ ⟨by rw [if_neg (by decide)], c7.2⟩
theorem mkOne_2 {kk : Int} (hl : 2 ≤ l.length) : mkOne kk t l = n1 kk t (ls l) := by
  cases l with
  | nil => simp at hl
  | cons a r =>
    cases r with
    | nil => simp at hl
    | cons b r => rfl
theorem cprod_34 (ht5 : t < 5000) (ha : CH G d ts D "LetMill$Ty" mX12_applied [] (P 5 D)) (hB : un h + 200 * (ts.length - t) + 100 ≤ UB) :
    ∀ f (s : St) l bs n h1 R, ts.length - s.1 < f → RB G h h1 ts "LetMill$Ty" l r bs n → CS G h1 ts D s → t < s.1 → 1 ≤ l.length → l.length ≤ 6 → (l.length = 1 → Kd ts s.1 = 42) → un h1 + (12 * bs.length - 6 * n) + 40 ≤ un h + 200 * (s.1 - t) → (2 ≤ l.length → un h1 + (12 * bs.length - 6 * n) + 200 ≤ un h + 200 * (s.1 - t)) →
    R = bd (pMore (pSkip (Kd ts) 42 D) (P 5 D) 6 f l.length s) (fun r s => .ok (mkOne 60 t (l ++ r), s)) →
    X G mX12_product (d + 17) none [] 34 [(0, .ref (gW G 7)), (1, .int (nI t)), (3, .ref r)] [] h1 (cP G h ts D t "LetMill$Ty" R) := by
  intro f
  induction f with
  | zero => intro s l bs n h1 R hf; omega
  | succ f IH =>
    intro s l bs n h1 R hf k c ht h1l h6 h42 hU hU2 hR
    have hl := c.len
    have hsl := c.2.2.2.1.2
    have rc := k.2.1
    have hlen : l.length = bs.length := k.2.2.2.1.1
    rw [pMore_b] at hR
    refine bX12_product_34 G (d + 16) h1 _ _ _ (c.1.at (by decide)) ?_
    refine C.mono (c_cskip (d := d + 8) (w := 42) c (by decide) (by omega)) ?_
    rintro o h2 ⟨p2, q⟩
    have k2 := k.kp p2
    cases hr : pSkip (Kd ts) 42 D s with
    | error e =>
      rw [hr] at q hR
      obtain ⟨a, rfl, f, u⟩ := q
      change R = .error e at hR
      rw [hR]
      exact KI.t (cP.er k2.1 f (by omega))
    | ok y =>
    obtain ⟨b0, s2⟩ := y
    rw [hr] at q hR
    obtain ⟨rfl, c2, u2⟩ := q
    have es := pSkip_ge hr
    have hs2l := c2.2.2.2.1.2
    refine KI.i ?_
    rw [b2_0]
    refine ⟨fun z => ?_, fun z => ?_⟩
    · have e1 := es.1 z
      subst e1 z
      have hl2 : 2 ≤ l.length := by
        refine Classical.byContradiction fun hn => ?_
        have hk := h42 (by omega)
        unfold pSkip at hr
        rw [if_pos hk] at hr
        cases hx : pTake (Kd ts) D s2 with
        | error e => rw [hx] at hr; cases hr
        | ok y => rw [hx] at hr; cases hr
      have hU3 := hU2 hl2
      change R = .ok (mkOne 60 t (l ++ []), s2) at hR
      rw [List.append_nil, mkOne_2 hl2] at hR
      rw [hR]
      have hrm := un_rm (n := 2) (h := h2) (by omega)
      refine ⟨hrm.1, hrm.2, fun q hq => ?_⟩
      rintro _ rfl
      refine C.mono (c_X54 (d := d + 14) (by rw [hK_nO, if_pos rfl])) ?_
      rintro _ _ ⟨rfl, rfl⟩
      have w : WQ q (nO h2 q 49) (pR (pI (nO h2 q 49) q 354 (nI t)) q 358 (some r)) := WQ.rf.pI.pR
      have pq := k2.1.fresh hq
      have hk3 : hK (pR (pI (nO h2 q 49) q 354 (nI t)) q 358 (some r)) q = 50 := by rw [hK_pR, hK_pI, hK_nO, if_pos rfl]
      have k3 := k2.kp (w.kp (KP.rf.nO hq) hq)
      refine KV.i ⟨k3.1, q, rfl, w.cs (c2.nO hq) (c2.1.nw hq), OT_nd (k := 60) pq (by rw [hk3]; decide) (EX_pl (by decide) ht5 (by rw [hk3]; show fI (pR (pI (nO h2 q 49) q 354 (nI t)) q 358 (some r)) q 354 = _; rw [fI_pR, fI_pI, if_pos ⟨rfl, rfl⟩])) (OT_l1 (m := 22) (g := 358) (by decide) (by decide) (k3.row (by rw [fR_pR, if_pos ⟨rfl, rfl⟩]))) (by decide), CT_ty hk3 (by decide), ht, ?_⟩
      rw [w.un, un_nO]
      show un h2 + 16 + 2 + 120 ≤ _
      omega
    · have bt' := bt z
      subst bt'
      have e1 := es.2 rfl
      rw [bd_tt] at hR
      refine ⟨k2.2.1.1, ?_⟩
      rw [k2.2.1.2.1, show (6 : Int32) = nI 6 from rfl, nI_eq (by omega) (by decide)]
      refine ⟨fun z6 => ?_, fun z6 => ?_⟩
      · rw [if_pos (by omega)] at hR
        rw [hR]
        rintro _ rfl
        refine C.mono (c_wrong (d := d + 10) (c2.bk (by omega)) (by rw [un_pI]; omega)) ?_
        rintro _ h3 ⟨a, rfl, p, f, u⟩
        rw [un_pI] at u
        exact KR.i (cP.er (k2.1.tr ((kp_rd (G := G) (by decide)).tr p)) f (by omega))
      · rw [if_neg (by omega)] at hR
        refine C.mono (ha h2 s2 c2 (by omega)) ?_
        rintro o h3 ⟨p3, q⟩
        cases hr3 : P 5 D s2 with
        | error e =>
          rw [hr3] at q hR
          obtain ⟨a, rfl, f, u⟩ := q
          change R = .error e at hR
          rw [hR]
          exact KR.t (cP.er (k2.1.tr p3) f (by omega))
        | ok y3 =>
        obtain ⟨x, s3⟩ := y3
        rw [hr3] at q hR
        obtain ⟨b, rfl, c3, ot, ct, hs3, u3⟩ := q
        have hs3l := c3.2.2.2.1.2
        change R = bd (pMore _ _ _ f (l.length + 1) s3) _ at hR
        refine KR.i (C.mono (r_add (d := d + 14) k2 p3 c3 ot ct (by omega) (Nat.le_refl _) (by omega)) ?_)
        rintro _ h4 ⟨rfl, c4, n', k4, u4⟩
        have hla : (l ++ [x]).length = l.length + 1 := by simp
        refine KV.i (IH s3 (l ++ [x]) (bs ++ [b]) n' h4 R (by omega) k4 c4 (by omega) (by simp) (by simp; omega) (fun q => by rw [hla] at q; omega) (by simp; omega) (fun _ => by simp; omega) ?_)
        rw [hR]
        simp only [List.length_append, List.length_cons, List.length_nil, List.append_assoc, List.singleton_append]
theorem c_cprod (ha : CH G d ts D "LetMill$Ty" mX12_applied [] (P 5 D)) : CH G (d + 1) ts D "LetMill$Ty" mX12_product [] (pProd (Kd ts) P D) := by
  intro h s c hu
  have hl := c.len
  have hsl := c.2.2.2.1.2
  refine bX12_product G (d + 16) h _ (c.1.at (by decide)) ?_
  rintro _ rfl
  rw [c.2.2.2.1.1]
  have eR : pProd (Kd ts) P D s = bd (P 5 D s) fun a s1 => bd (pMore (pSkip (Kd ts) 42 D) (P 5 D) 6 FU 1 s1) fun r s2 => .ok (mkOne 60 s.1 (a :: r), s2) := by
    unfold pProd
    exact pSep_b
  rw [eR]
  refine C.mono (ha h s c hu) ?_
  rintro o h1 ⟨p1, q⟩
  cases hr : P 5 D s with
  | error e =>
    rw [hr] at q
    obtain ⟨a, rfl, f, u⟩ := q
    exact KR.t (cP.er p1 f (by omega))
  | ok y =>
  obtain ⟨x, s1⟩ := y
  rw [hr] at q
  obtain ⟨b, rfl, c1, ot, ct, hs1, u1⟩ := q
  have hs1l := c1.2.2.2.1.2
  have hk1 := c1.k4 hs1l
  refine KR.i (C.ri (c_kind c1) ?_)
  rw [show (42 : Int32) = nI 42 from rfl, nI_eq (by omega) (by decide)]
  show (Kd ts s1.1 = 42 → _) ∧ (¬ Kd ts s1.1 = 42 → cP G h ts D s.1 _ (bd (pMore (pSkip (Kd ts) 42 D) (P 5 D) 6 FU 1 s1) fun r s2 => .ok (mkOne 60 s.1 (x :: r), s2)) _ _)
  refine ⟨fun z => ?_, fun z => ?_⟩
  · have hrm := un_rm (n := 2) (h := h1) (by omega)
    refine ⟨hrm.1, hrm.2, fun q hq => ?_⟩
    rintro _ rfl
    refine C.mono (r_row (d := d + 15) (E := "LetMill$Ty") c1 p1 hq (by omega)) ?_
    rintro _ h2 ⟨rfl, k2, c2, u2, p2, hf2⟩
    refine KV.i (C.mono (r_addN (d := d + 14) k2 c2 (ot_nr p2 hq hf2 ot) (ct.kp p2) (by simp) (Nat.le_refl _) (by simp; omega)) ?_)
    rintro _ h3 ⟨rfl, c3, n', k3, u3⟩
    exact KV.i (cprod_34 (by omega) ha hu FU s1 [x] [b] n' h3 _ (by unfold FU; omega) k3 c3 hs1 (by simp) (by simp) (fun _ => z) (by simp at u3 ⊢; omega) (fun q => by simp at q) rfl)
  · have e2 : bd (pMore (pSkip (Kd ts) 42 D) (P 5 D) 6 FU 1 s1) (fun r s2 => .ok (mkOne 60 s.1 (x :: r), s2)) = .ok (x, s1) := by
      rw [show FU = 4999 + 1 from rfl, pMore_b]
      unfold pSkip
      rw [if_neg z]
      rfl
    rw [e2]
    exact ⟨p1, b, rfl, c1, ot, ct, hs1, u1⟩
end
