/-! THE COMPONENT'S READER: datatypes, whole -/
section
variable {G : Gh} {d : Nat} {ts : List (Nat × Nat × Nat)} {D : Nat} {P : Nat → Nat → St → Except Nat (Tr × St)}
theorem c_cdata (hy : D ≤ 30 → CH G d ts (D + 1) "LetMill$Ty" mX12_ty [] (P 3 (D + 1))) : CH G (d + 1) ts D "LetMill$Data" mX12_data [] (pData (Kd ts) (Vl ts) P D) := by
  intro h s c hu
  have hl := c.len
  have hsl := c.2.2.2.1.2
  have hk := c.k4 hsl
  have hrm := un_rm (n := 6) (h := h) (by omega)
  have e6 : (6 : Int32).toNatClampNeg = 6 := by decide
  have eP : pData (Kd ts) (Vl ts) P D s = bd (pVars (Kd ts) (Vl ts) D s) fun vs s => dEnd ts P D vs s := rfl
  rw [eP]
  refine bX12_data G (d + 16) h _ (c.1.at (by decide)) ⟨by decide, hrm.1, by rw [e6]; exact hrm.2, fun arr ha => ?_⟩
  rintro _ rfl
  rw [e6]
  have c1 := c.nA (t := 0) (n := 6) ha
  have p1 : KP h (nA h arr 0 6) := KP.rf.nA ha
  have u1 : un (nA h arr 0 6) = un h + 22 := by rw [un_nA]
  have k1 : hK (nA h arr 0 6) arr = 1000 := by rw [hK_nA, if_pos rfl]
  have l1 : hL (nA h arr 0 6) arr = 6 := by rw [hL_nA, if_pos rfl]
  have hN : Ns (gW G) arr := c.1.ns ha
  generalize nA h arr 0 6 = h1 at *
  refine C.ri (c_kind c1) ?_
  rw [show (282 : Int32) = nI 282 from rfl, nI_eq (by omega) (by decide)]
  unfold pVars
  refine ⟨fun z => ?_, fun z => ?_⟩
  · rw [if_pos z]
    have e0 : pVar (Kd ts) (Vl ts) D s = bd (pTake (Kd ts) D s) fun t s => .ok (n1 57 t (.num (Vl ts t)), s) := by unfold pVar pExpect; rw [if_pos z]
    rw [e0, bd_assoc, bd_assoc]
    refine C.mono (c_ctake (d := d + 9) c1 (by omega)) ?_
    rintro o h2 ⟨p2, q2⟩
    cases hr : pTake (Kd ts) D s with
    | error e =>
      rw [hr] at q2
      obtain ⟨a, rfl, f, u⟩ := q2
      exact KI.t (cP.er (p1.tr p2) f (by omega))
    | ok y2 =>
    obtain ⟨u, s2⟩ := y2
    rw [hr] at q2
    obtain ⟨rfl, c2, u2⟩ := q2
    have es2 : s2.1 = s.1 + 1 := by rw [(pTake_ok hr).2.1]
    have uA := p2.2 arr (by rw [k1]; decide)
    refine KI.i ⟨hN, by rw [uA.2.1, l1]; exact vp_in_nI (n := 0) (N := 6) (by decide) (by decide), ?_⟩
    rintro _ rfl
    have c3 : CS G (sI h2 arr (0 : Int32).toNatClampNeg (nI u)) ts D s2 := CS.sI c (p1.tr p2) ha c2
    refine data_end (vs := vrs ts [u]) (by rw [tks_vrs]; rfl) ((p1.tr p2).sI ha) c3 ⟨ha, hN, uA.1.trans k1, uA.2.1.trans l1⟩ (by rw [tks_vrs]; simp) (fun i w hw => ?_) (by omega) hy hu (by rw [un_sI]; omega) rfl
    rw [tks_vrs] at hw
    cases i with
    | zero => cases hw; rw [aI_sI, if_pos ⟨rfl, by decide⟩]
    | succ i => simp at hw
  · rw [if_neg z, bd_assoc]
    refine C.mono (c_cskip (d := d + 8) (w := 40) c1 (by decide) (by omega)) ?_
    rintro o h2 ⟨p2, q2⟩
    cases hr : pSkip (Kd ts) 40 D s with
    | error e =>
      rw [hr] at q2
      obtain ⟨a, rfl, f, u⟩ := q2
      exact KI.t (cP.er (p1.tr p2) f (by omega))
    | ok y2 =>
    obtain ⟨b0, s2⟩ := y2
    rw [hr] at q2
    obtain ⟨rfl, c2, u2⟩ := q2
    have es := pSkip_ge hr
    have uA := p2.2 arr (by rw [k1]; decide)
    refine KI.i ?_
    rw [b2_0]
    refine ⟨fun zb => ?_, fun zb => ?_⟩
    · have e1 := es.1 zb
      subst e1 zb
      exact data_end (vs := vrs ts []) rfl (p1.tr p2) c2 ⟨ha, hN, uA.1.trans k1, uA.2.1.trans l1⟩ (by rw [tks_vrs]; simp) (fun i w hw => by rw [tks_vrs] at hw; simp at hw) (by omega) hy hu (by omega) rfl
    · have bt' := bt zb
      subst bt'
      have e1 := es.2 rfl
      rintro _ rfl
      refine cdata_48 (t0 := s.1) c ha hN e1.2 hy hu FU s2 [] _ _ (by unfold FU; omega) ((p1.tr p2).tr (kp_rd (G := G) (by decide))) (c2.up (by omega)) (uA.1.trans k1) (uA.2.1.trans l1) (by decide) (fun i u hw => by simp at hw) (by omega) (by rw [un_pI]; omega) ?_
      rw [if_neg (by decide)]
      show bd (bd (pSep (Kd ts) 44 (D + 1) 6 (pVar (Kd ts) (Vl ts) (D + 1)) s2) _) _ = _
      rw [bd_assoc, pSep_b]
      congr 1
      funext a s
      congr 1
      funext r s
      exact bd_assoc _ _ _
end
