/-! THE COMPONENT'S READER: the loop of a datatype's variables -/
def dEnd (ts : List (Nat × Nat × Nat)) (P : Nat → Nat → St → Except Nat (Tr × St)) (D : Nat) (vs : List Tr) (s : St) : Except Nat (Tr × St) := bd (pExpect (Kd ts) 280 D s) fun t s => bd (pExpect (Kd ts) 61 D s) fun _ s => bd (pSep (Kd ts) 124 D 0 (pCon (Kd ts) (Vl ts) P D) s) fun cs s => .ok (n3 55 t (.num (Vl ts t)) (ls vs) (ls cs), s)
section
variable {G : Gh} {d : Nat} {h h1 h2 h3 h4 h' : AH} {ts : List (Nat × Nat × Nat)} {s s0 s1 s2 s4 : St} {D D0 k i q a b t r n p arr t0 : Nat} {P : Nat → Nat → St → Except Nat (Tr × St)}
theorem cdata_48 (c0 : CS G h ts D0 s0) (hA : hK h arr = 0) (hN : Ns (gW G) arr) (hd : D ≤ 30) (hy : D ≤ 30 → CH G d ts (D + 1) "LetMill$Ty" mX12_ty [] (P 3 (D + 1))) (hB : un h + 200 * (ts.length - t0) + 100 ≤ UB) :
    ∀ f (s : St) (us : List Nat) h1 R, ts.length - s.1 < f + 1 → KP h h1 → CS G h1 ts (D + 1) s → hK h1 arr = 1000 → hL h1 arr = 6 → us.length ≤ 6 → (∀ i u, us[i]? = some u → aI h1 arr i = nI u) → t0 < s.1 → un h1 ≤ un h + 22 →
    R = (if us.length = 6 then .error (s.1 - 1) else bd (pVar (Kd ts) (Vl ts) (D + 1) s) fun a s => bd (pMore (pSkip (Kd ts) 44 (D + 1)) (pVar (Kd ts) (Vl ts) (D + 1)) 6 f (us.length + 1) s) fun r s => bd (pExpect (Kd ts) 41 D s) fun _ s => dEnd ts P D (vrs ts us ++ a :: r) s) →
    X G mX12_data (d + 17) none [] 48 [(0, .ref (gW G 7)), (1, .ref arr), (2, .int (nI us.length))] [] h1 (cP G h ts D t0 "LetMill$Data" R) := by
  intro f
  induction f with
  | zero =>
    intro s us h1 R hf p c
    have hsl := c.2.2.2.1.2
    omega
  | succ f IH =>
    intro s us h1 R hf p c hk hL6 h6 hv h0s hU hR
    have hl := c.len
    have hsl := c.2.2.2.1.2
    refine bX12_data_48 G (d + 16) h1 _ _ _ (c.1.at (by decide)) ?_
    rw [show (6 : Int32) = nI 6 from rfl, nI_eq (by omega) (by decide)]
    refine ⟨fun z => ?_, fun z => ?_⟩
    · rw [if_pos z] at hR
      rw [hR]
      rintro _ rfl
      refine C.mono (c_wrong (d := d + 10) (c.bk (by omega)) (by rw [un_pI]; omega)) ?_
      rintro _ h3 ⟨a, rfl, p3, f, u⟩
      rw [un_pI] at u
      exact KR.i (cP.er (p.tr ((kp_rd (G := G) (by decide)).tr p3)) f (by omega))
    · rw [if_neg z] at hR
      unfold pVar at hR
      rw [bd_assoc] at hR
      refine C.mono (c_cexpect (d := d + 8) (w := 282) c (by decide) (by omega)) ?_
      rintro o h2 ⟨p2, q2⟩
      cases hr : pExpect (Kd ts) 282 (D + 1) s with
      | error e =>
        rw [hr] at q2 hR
        obtain ⟨a, rfl, f, u⟩ := q2
        change R = .error e at hR
        rw [hR]
        exact KI.t (cP.er (p.tr p2) f (by omega))
      | ok y2 =>
      obtain ⟨u, s2⟩ := y2
      rw [hr] at q2 hR
      obtain ⟨rfl, c2, u2⟩ := q2
      obtain ⟨et, es2⟩ := pExpect_ok hr
      have uA := p2.2 arr (by rw [hk]; decide)
      refine KI.i ⟨uA.1.trans hk, hN, by rw [uA.2.1, hL6]; exact vp_in_nI (by omega) (by omega), ?_⟩
      rintro _ rfl _ rfl
      rw [nI_cn (by omega), nI_1]
      have c3 : CS G (sI h2 arr us.length (nI u)) ts (D + 1) s2 := CS.sI c0 (p.tr p2) hA c2
      have p3 : KP h (sI h2 arr us.length (nI u)) := (p.tr p2).sI hA
      have hv3 : ∀ i w, (us ++ [u])[i]? = some w → aI (sI h2 arr us.length (nI u)) arr i = nI w := by
        intro i w hw
        rw [aI_sI]
        by_cases e : i = us.length
        · subst e
          rw [if_pos ⟨rfl, rfl⟩]
          simp at hw
          rw [hw]
        · rw [if_neg (fun q => e q.2), uA.2.2.1]
          have hi : i < us.length := by
            have := (List.getElem?_eq_some_iff.mp hw).1
            simp at this
            omega
          rw [List.getElem?_append_left hi] at hw
          exact hv i w hw
      have u3 : un (sI h2 arr us.length (nI u)) = un h2 := rfl
      have k3 : hK (sI h2 arr us.length (nI u)) arr = 1000 := uA.1.trans hk
      have l3 : hL (sI h2 arr us.length (nI u)) arr = 6 := uA.2.1.trans hL6
      generalize sI h2 arr us.length (nI u) = h3 at *
      change R = bd (pMore _ _ 6 (f + 1) (us.length + 1) s2) _ at hR
      rw [pMore_b] at hR
      refine C.mono (c_cskip (d := d + 8) (w := 44) c3 (by decide) (by omega)) ?_
      rintro o h4 ⟨p4, q4⟩
      have uA4 := p4.2 arr (by rw [k3]; decide)
      have hv4 : ∀ i w, (us ++ [u])[i]? = some w → aI h4 arr i = nI w := fun i w hw => by rw [uA4.2.2.1]; exact hv3 i w hw
      cases hr4 : pSkip (Kd ts) 44 (D + 1) s2 with
      | error e =>
        rw [hr4] at q4 hR
        obtain ⟨a, rfl, f, u⟩ := q4
        change R = .error e at hR
        rw [hR]
        exact KI.t (cP.er (p3.tr p4) f (by omega))
      | ok y4 =>
      obtain ⟨b0, s4⟩ := y4
      rw [hr4] at q4 hR
      obtain ⟨rfl, c4, u4⟩ := q4
      have es := pSkip_ge hr4
      refine KI.i ?_
      rw [b2_0]
      refine ⟨fun z => ?_, fun z => ?_⟩
      · have e1 := es.1 z
        subst e1 z
        rw [bd_ff] at hR
        rintro _ rfl
        refine C.mono (c_cexpect (d := d + 8) (w := 41) c4.dn (by decide) (by rw [un_pI]; omega)) ?_
        rintro o h5 ⟨p5, q5⟩
        rw [un_pI] at q5
        have pk : KP h4 h5 := (kp_rd (G := G) (by decide)).tr p5
        cases hr5 : pExpect (Kd ts) 41 D s4 with
        | error e =>
          rw [hr5] at q5 hR
          obtain ⟨a, rfl, f, u⟩ := q5
          change R = .error e at hR
          rw [hR]
          exact KI.t (cP.er ((p3.tr p4).tr pk) f (by omega))
        | ok y5 =>
        obtain ⟨t5, s5⟩ := y5
        rw [hr5] at q5 hR
        obtain ⟨rfl, c5, u5⟩ := q5
        have es5 := (pExpect_ok hr5).2
        have uA5 := pk.2 arr (by rw [uA4.1, k3]; decide)
        change R = dEnd ts P D (vrs ts us ++ [n1 57 u (.num (Vl ts u))]) s5 at hR
        rw [vrs_app] at hR
        have el : (tks (ls (vrs ts (us ++ [u])))).length = us.length + 1 := by rw [tks_vrs]; simp
        refine KI.i (data_end (vs := vrs ts (us ++ [u])) (by rw [el]) ((p3.tr p4).tr pk) c5 ⟨hA, hN, by rw [uA5.1, uA4.1]; exact k3, by rw [uA5.2.1, uA4.2.1]; exact l3⟩ (by omega) (fun i w hw => ?_) (by omega) hy hB (by omega) hR)
        rw [tks_vrs, List.getElem?_map] at hw
        cases hq : (us ++ [u])[i]? with
        | none => rw [hq] at hw; cases hw
        | some w' =>
          rw [hq] at hw
          cases hw
          rw [uA5.2.2.1]
          exact hv4 i w' hq
      · have bt' := bt z
        subst bt'
        have e1 := es.2 rfl
        rw [bd_tt] at hR
        have := IH s4 (us ++ [u]) h4 R (by omega) (p3.tr p4) c4 (by rw [uA4.1]; exact k3) (by rw [uA4.2.1]; exact l3) (by simp; omega) hv4 (by omega) (by omega) (by rw [hR, ← vrs_app]; simp only [List.length_append, List.length_cons, List.length_nil, List.append_assoc, List.singleton_append]; rfl)
        rw [List.length_append] at this
        exact this
end
