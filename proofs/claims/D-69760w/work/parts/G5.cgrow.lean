/-! the scope's rows grow by one -/
def hZ0 (h : AH) : AH := (fun _ => 0, hL h, fI h, fJ h, fR h, aI h, aJ h, aR h, 0, 0, none)
section
variable {G : Gh} {d : Nat} {W N : Nat → Prop} {h0 h h1 h2 h3 h5 h' hA : AH} {ts : List (Nat × Nat × Nat)} {t i i0 n nb nb' nb1 nb2 r q g fr ba lo hi m m0 m1 m2 lo1 hi1 b k c arr x v a t0 : Nat} {Z Z' Z1 Z2 : Zt} {D D' D1 D2 : Dm} {O : List (Nat × Nat) × List (Nat × Nat)} {s s0 s' s1 s2 s5 : RSt} {l : List Nat}
theorem c_rowS0 (k : RowC h r l n) (kn : RowN G h0 h r) (p : KP h0 h) (sA : SoA G h) (hx : hK h x ≠ 0) (hn : l.length < 50000) (hu : un h + 33 + 2 * l.length ≤ UB) : C G mX7_add (d + 2) [.ref r, .ref x] h (fun o h' => o = .returned none ∧ (∃ n', RowC h' r (l ++ [x]) n' ∧ ((n' = n ∧ un h' = un h + 17) ∨ (n' = 2 * n ∧ l.length = n ∧ un h' = un h + 33 + 2 * n))) ∧ RowN G h0 h' r ∧ FX h h' r) := by
  obtain ⟨k1, k2, k3, k7, k8, arr, k4, k5, k6, k9⟩ := id k
  refine bX7_add G (d + 1) h _ _ _ ⟨k1, arr, k4, k5, ?_⟩
  rw [k2, k6, show Int32.ofNat n = nI n from rfl, nI_eq (by omega) (by omega)]
  refine ⟨fun z => ?_, fun z => ?_⟩
  · have e2 : (2 : Int32) * nI l.length = nI (2 * l.length) := by
      rw [i_eq, i_mul, nI_toInt (by omega), nI_toInt (by omega)]
      · show (2 : Int) * _ = _; omega
      · rw [nI_toInt (by omega)]; show _ ≤ (2 : Int) * _; omega
      · rw [nI_toInt (by omega)]; show (2 : Int) * _ ≤ _; omega
    rw [e2, nI_cn (by omega)]
    have hr := un_rm (n := 2 * l.length) (h := h) (by omega)
    refine ⟨by rw [Int32.lt_iff_toInt_lt, nI_toInt (by omega)]; show ¬ (_ : Int) < 0; omega, hr.1, hr.2, fun q hq => ?_⟩
    rintro _ rfl
    have hne : q ≠ arr := fun e => by rw [← e, hq] at k5; cases k5
    have hrq : r ≠ q := fun e => by rw [e, hq] at k1; cases k1
    have pA : KP h (nA h q 4 (2 * l.length)) := KP.rf.nA hq
    refine row_24 (n := n) (h := h) (U := un h + 16 + 2 * l.length) k4 k1 (p.fresh hq) (sA.ns hq) hq k7 (by omega) z hne (by omega) hx (fun h' b1 b2 b3 b4 b5 b6 => ⟨rfl, ⟨2 * n, b2, Or.inr ⟨rfl, z, by rw [b4]; omega⟩⟩, b3, b6⟩) (l.length + 1) 0 _ (by omega) (by omega) (p.tr pA) (k.kp pA) (kn.kp k pA) (sA.le pA.le) pA.1 (fun a ha => (pA.2 a ha).1) (fun a ha _ _ => pA.2 a ha) ?_ ?_ ?_ (fun j hj => by omega) (fun j _ => ?_) ?_
    · rw [hK_nA, if_pos rfl]
    · rw [hL_nA, if_pos rfl, z]
    · rw [fR_nA]; exact k4
    · rw [aR_nA, if_pos rfl]
    · rw [un_nA]
  · refine ⟨arr, k4, ?_⟩
    have := row_put (d := d) (Q := fun o h' => o = .returned none ∧ (∃ n', RowC h' r (l ++ [x]) n' ∧ ((n' = n ∧ un h' = un h + 17) ∨ (n' = 2 * n ∧ l.length = n ∧ un h' = un h + 33 + 2 * n))) ∧ RowN G h0 h' r ∧ FX h h' r) k kn p sA k4 (by omega) (Nat.le_refl _) (show un h + 17 ≤ UB by omega) hx fun h' b1 b2 b3 b4 b5 b6 => ⟨rfl, ⟨n, b2, Or.inl ⟨rfl, b4⟩⟩, b3, b6⟩
    rw [k2] at this
    exact this
/-- one of the scope's rows gets one more -/
theorem r_grow (k : RS G W h ts Z O s nb) (hi : i0 = 1085 ∨ i0 = 1086 ∨ i0 = 1059) (k0 : RowC h (gW G i0) l n) (hx : hK h x ≠ 0) (hn : l.length ≤ 2600) (hu : un h + 33 + 2 * l.length ≤ UB) : C G mX7_add (d + 2) [.ref (gW G i0), .ref x] h (fun o h' => o = .returned none ∧ ∃ n' δ, RowC h' (gW G i0) (l ++ [x]) n' ∧ RwF h h' (gW G i0) ∧ Le h h' none ∧ (∀ a, fR h' (gW G i0) 77 = some a → fR h (gW G i0) 77 = some a ∨ hK h a = 0) ∧ RowP G W h' (gW G i0) ∧ rwc h' (gW G i0) = rwc h (gW G i0) + δ ∧ un h' ≤ un h + 3 * δ + 29) := by
  have hp : RowP G W h (gW G i0) := by
    rcases hi with rfl | rfl | rfl
    · exact k.2.2.2.2.2.2.2.1
    · exact k.2.2.2.2.2.2.2.2.1
    · exact k.2.2.2.2.2.2.2.2.2.1
  have k12 := k.2.2.2.2.2.2.2.2.2.2.2
  refine C.use (c_rowS0 (h0 := hZ0 h) k0 ⟨rfl, fun a e => ⟨rfl, (hp a e).1.1, fun i sp e2 => ⟨rfl, (hp a e).2.2 i sp e2⟩⟩⟩ ⟨⟨Nat.zero_le _, Nat.zero_le _⟩, fun a ha => absurd rfl ha⟩ k.1.1 hx (by omega) hu) (by decide) ?_
  rintro _ h' ⟨rfl, ⟨n', rc, hn'⟩, rn, fx⟩ lm -
  have hn4 := k0.2.2.2.1
  have hcap := hp.cap
  rw [k0.cap] at hcap
  refine ⟨rfl, n', n' - n, rc, fun a ha hr ha2 => ?_, lm.1, fx.2.2.2, fun a e => ?_, ?_, ?_⟩
  · have u := fx.2.2.1 a ha hr ha2
    refine ⟨u.1, u.2.1, u.2.2.1, u.2.2.2.1, u.2.2.2.2.1, fun g => ?_⟩
    by_cases hg : g < 115 ∨ 118 < g
    · exact u.2.2.2.2.2 g hg
    · refine lm.f rfl ha ?_
      have : g = 115 ∨ g = 116 ∨ g = 117 ∨ g = 118 := by omega
      rcases this with rfl | rfl | rfl | rfl <;> decide
  · obtain ⟨-, r2, r3⟩ := rn.2 a e
    refine ⟨⟨r2, ?_⟩, fun hW => ?_, fun i sp e2 => (r3 i sp e2).2⟩
    · have := rc.cap
      unfold rwc at this
      rw [e] at this
      change hL h' a = n' at this
      rw [this]
      omega
    · rcases fx.2.2.2 a e with z | z
      · exact (hp a z).2.1 hW
      · exact (k12 a hW).1 z
  · rw [rc.cap, k0.cap]; omega
  · omega
/-- a type's name comes into sight -/
theorem r_addT {y : Nat × Nat × Nat × Nat} (k : RS G W h ts Z O s nb) (hc : (rDt s)[c]? = some y) (hl : (rT s).length ≤ 2600) (hu : un h + 6000 ≤ UB) : C G mX9_addName (d + 3) [.ref (gW G 4), .ref (Z.2.2 c)] h (fun o h' => o = .returned none ∧ ∃ δ, RS G W h' ts Z O (s.1, s.2.1, (y.1, c) :: s.2.2.1, s.2.2.2) (nb + δ) ∧ un h' ≤ un h + 3 * δ + 29 ∧ RwF h h' (gW G 1085) ∧ Le h h' none ∧ Uf h h' (gW G 4)) := by
  obtain ⟨⟨U, t1, ⟨n, r85⟩, t3⟩, t4, -⟩ := k.2.2.2.2.2.1
  have hkx : hK h (Z.2.2 c) = 4 := (t4 c y hc).1
  have hlU : U.length ≤ 2600 := by
    rw [t1, List.length_append] at hl
    omega
  refine bX9_addName G (d + 2) h _ _ (k.1.1.at (by decide)) (C.mono (r_grow (d := d) k (Or.inl rfl) r85 (by rw [hkx]; decide) (by rw [List.length_reverse, List.length_map]; exact hlU) (by rw [List.length_reverse, List.length_map]; omega)) ?_)
  rintro _ h' ⟨rfl, n', δ, rc, rw', le, e77, hp, hcp, hun⟩
  refine KV.i ⟨rfl, δ, ?_, hun, rw', le, ?_⟩
  · obtain ⟨p1, p2, p3, p4, p5, -⟩ := k.row (i0 := 1085) (Or.inl rfl) r85 rw' le e77 hp hcp
    refine ⟨p1.1, p1.2.1, p1.2.2.1, p1.2.2.2, p2.1 (by decide), ⟨⟨(y.1, c) :: U, ?_, ⟨n', ?_⟩, fun x hx => ?_⟩, p3.2⟩, p4 (by decide), p5⟩
    · show (y.1, c) :: rT s = _
      rw [t1]; rfl
    · rw [List.map_cons, List.reverse_cons]
      exact rc
    · rcases List.mem_cons.mp hx with rfl | hx
      · exact ⟨y, hc, rfl⟩
      · exact t3 x hx
  · exact (k.row (i0 := 1085) (Or.inl rfl) r85 rw' le e77 hp hcp).2.2.2.2.2
/-- a constructor comes into sight -/
theorem r_addC {y : Nat × Nat × Nat × Tr} (k : RS G W h ts Z O s nb) (hc : (rCt s)[c]? = some y) (hl : (rC s).length ≤ 2600) (hu : un h + 6000 ≤ UB) : C G mX9_addCon (d + 3) [.ref (gW G 4), .ref (Z.2.1 c)] h (fun o h' => o = .returned none ∧ ∃ δ, RS G W h' ts Z O (s.1, (y.1, c) :: s.2.1, s.2.2) (nb + δ) ∧ un h' ≤ un h + 3 * δ + 29 ∧ RwF h h' (gW G 1086) ∧ Le h h' none ∧ Uf h h' (gW G 4)) := by
  obtain ⟨⟨n, r86⟩, t3, t4⟩ := k.2.2.2.2.1
  have hkx : hK h (Z.2.1 c) = 54 := (t4 c y hc).1
  refine bX9_addCon G (d + 2) h _ _ (k.1.1.at (by decide)) (C.mono (r_grow (d := d) k (Or.inr (Or.inl rfl)) r86 (by rw [hkx]; decide) (by rw [List.length_reverse, List.length_map]; exact hl) (by rw [List.length_reverse, List.length_map]; omega)) ?_)
  rintro _ h' ⟨rfl, n', δ, rc, rw', le, e77, hp, hcp, hun⟩
  obtain ⟨p1, p2, p3, p4, p5, p6⟩ := k.row (i0 := 1086) (Or.inr (Or.inl rfl)) r86 rw' le e77 hp hcp
  refine KV.i ⟨rfl, δ, ⟨p1.1, p1.2.1, p1.2.2.1, p1.2.2.2, ⟨⟨n', ?_⟩, fun x hx => ?_, p2.2⟩, ⟨p3.1 (by decide), p3.2⟩, p4 (by decide), p5⟩, hun, rw', le, p6⟩
  · show RowC h' (gW G 1086) ((((y.1, c) :: rC s).map fun x => Z.2.1 x.2).reverse) n'
    rw [List.map_cons, List.reverse_cons]
    exact rc
  · rcases List.mem_cons.mp (show x ∈ (y.1, c) :: rC s from hx) with rfl | hx
    · exact ⟨y, hc, rfl⟩
    · exact t3 x hx
/-- a constructor gets its number -/
theorem r_numb {x : Nat × Nat × Nat × Tr} (k : RS G W h ts Z O s nb) (co : CO h Z.2.2 (rCt s).length q x) (hl : (rCt s).length ≤ 2600) (hu : un h + 6000 ≤ UB) : C G mX7_add (d + 2) [.ref (gW G 1059), .ref q] h (fun o h' => o = .returned none ∧ ∃ δ, RS G W h' ts (Z.1, updF Z.2.1 (rCt s).length q, Z.2.2) O (s.1, s.2.1, s.2.2.1, rCt s ++ [x], s.2.2.2.2) (nb + δ) ∧ un h' ≤ un h + 3 * δ + 29 ∧ RwF h h' (gW G 1059) ∧ Le h h' none ∧ Uf h h' (gW G 4)) := by
  obtain ⟨n, r59⟩ := k.2.2.2.2.2.2.1
  have ne : ∀ c', c' < (rCt s).length → updF Z.2.1 (rCt s).length q c' = Z.2.1 c' := fun c' hc => by
    unfold updF
    rw [if_neg (by omega)]
  have eq : updF Z.2.1 (rCt s).length q (rCt s).length = q := by
    unfold updF
    rw [if_pos rfl]
  refine C.mono (r_grow (d := d) k (Or.inr (Or.inr rfl)) r59 (by rw [co.1]; decide) (by rw [List.length_map, List.length_range]; exact hl) (by rw [List.length_map, List.length_range]; omega)) ?_
  rintro _ h' ⟨rfl, n', δ, rc, rw', le, e77, hp, hcp, hun⟩
  obtain ⟨p1, p2, p3, p4, p5, p6⟩ := k.row (i0 := 1059) (Or.inr (Or.inr rfl)) r59 rw' le e77 hp hcp
  obtain ⟨⟨n2, c1⟩, c2, c3⟩ := p2.1 (by decide)
  refine ⟨rfl, δ, ⟨p1.1, p1.2.1, p1.2.2.1, p1.2.2.2, ⟨⟨n2, ?_⟩, fun x' hx => ?_, fun c' x' hx => ?_⟩, ⟨p3.1 (by decide), p3.2⟩, ⟨n', ?_⟩, p5⟩, hun, rw', le, p6⟩
  · have : ((rC s).map fun x => updF Z.2.1 (rCt s).length q x.2) = (rC s).map fun x => Z.2.1 x.2 := List.map_congr_left fun x hx => ne _ (by
      obtain ⟨y, y1, -⟩ := c2 x hx
      exact (List.getElem?_eq_some_iff.mp y1).1)
    show RowC h' (gW G 1086) (((rC s).map fun x => updF Z.2.1 (rCt s).length q x.2).reverse) n2
    rw [this]
    exact c1
  · obtain ⟨y, y1, y2⟩ := c2 x' hx
    exact ⟨y, by show (rCt s ++ _)[x'.2]? = _; rw [List.getElem?_append_left (List.getElem?_eq_some_iff.mp y1).1]; exact y1, y2⟩
  · change (rCt s ++ [x])[c']? = some x' at hx
    show CO h' Z.2.2 c' (updF Z.2.1 (rCt s).length q c') x'
    by_cases hd : c' < (rCt s).length
    · rw [List.getElem?_append_left hd] at hx
      rw [ne c' hd]
      exact c3 c' x' hx
    · have hd2 := (List.getElem?_eq_some_iff.mp hx).1
      rw [List.length_append, List.length_singleton] at hd2
      have ed : c' = (rCt s).length := by omega
      subst ed
      rw [List.getElem?_append_right (Nat.le_refl _), Nat.sub_self] at hx
      cases hx
      rw [eq]
      obtain ⟨b1, b2, b3, b4, b5, b6⟩ := co
      have r6 := r59.1
      obtain ⟨a1, -, -, -, -, a6⟩ := rw' q (by rw [b1]; decide) (fun e => (by rw [e, r6] at b1; cases b1)) (fun e => by
        obtain ⟨q1, q2, q3, q7, q8, ar, q4, q5, q6, q9⟩ := r59
        cases q4.symm.trans e
        rw [q5] at b1; cases b1)
      exact ⟨a1.trans b1, by rw [(a6 366).2.1, (a6 367).2.1]; exact b2, (a6 368).2.2.trans b3, (a6 369).1.trans b4, (a6 370).1.trans b5, (a6 371).1.trans b6⟩
  · have : (List.range (rCt s ++ [x]).length).map (updF Z.2.1 (rCt s).length q) = (List.range (rCt s).length).map Z.2.1 ++ [q] := by
      rw [List.length_append, List.length_singleton, List.range_succ, List.map_append]
      congr 1
      · exact List.map_congr_left fun c' hc => ne c' (List.mem_range.mp hc)
      · show [updF Z.2.1 (rCt s).length q (rCt s).length] = [q]
        rw [eq]
    show RowC h' (gW G 1059) ((List.range (rCt s ++ [x]).length).map (updF Z.2.1 (rCt s).length q)) n'
    rw [this]
    exact rc
/-- a new constructor's object -/
theorem co_mk {A B : Int64} {p : Int32} {T : Nat} (hq : hK hA q = 0) (e : h1 = pI (pR (pJ (pJ (nO hA q 53) q 366 A) q 367 B) q 368 (some T)) q 369 p) :
    (hK h1 q = 54 ∧ fJ h1 q 366 = A ∧ fJ h1 q 367 = B ∧ fR h1 q 368 = some T ∧ fI h1 q 369 = p) ∧ (∀ b, b ≠ q → Uf hA h1 b) ∧ un h1 = un hA + 25 ∧ Le hA h1 none := by
  have F : ∀ b, b ≠ q → Uf hA h1 b := fun b hb => by
    rw [e]
    refine ⟨by rw [hK_pI, hK_pR, hK_pJ, hK_pJ, hK_nO, if_neg hb], by rw [hL_pI, hL_pR]; rfl, by rw [aI_pI, aI_pR]; rfl, by rw [aJ_pI, aJ_pR]; rfl, by rw [aR_pI, aR_pR]; rfl, fun g => ⟨?_, ?_, ?_⟩⟩
    · rw [fI_pI, if_neg (fun e => hb e.1), fI_pR, fI_pJ, fI_pJ, fI_nO, if_neg hb]
    · rw [fJ_pI, fJ_pR, fJ_pJ, if_neg (fun e => hb e.1), fJ_pJ, if_neg (fun e => hb e.1), fJ_nO, if_neg hb]
    · rw [fR_pI, fR_pR, if_neg (fun e => hb e.1), fR_pJ, fR_pJ, fR_nO, if_neg hb]
  refine ⟨⟨?_, ?_, ?_, ?_, ?_⟩, F, ?_, ?_, fun a ha => ?_⟩
  · rw [e, hK_pI, hK_pR, hK_pJ, hK_pJ, hK_nO, if_pos rfl]
  · rw [e, fJ_pI, fJ_pR, fJ_pJ, if_neg (fun e => absurd e.2 (by decide)), fJ_pJ, if_pos ⟨rfl, rfl⟩]
  · rw [e, fJ_pI, fJ_pR, fJ_pJ, if_pos ⟨rfl, rfl⟩]
  · rw [e, fR_pI, fR_pR, if_pos ⟨rfl, rfl⟩]
  · rw [e, fI_pI, if_pos ⟨rfl, rfl⟩]
  · rw [e]
    show un (nO hA q 53) = _
    rw [un_nO]
    rfl
  · rw [e]
    exact ⟨Nat.le_succ _, Nat.le_add_right _ _⟩
  · have u := F a fun e => ha (by rw [e]; exact hq)
    exact ⟨u.1, u.2.1, fun _ g _ => u.2.2.2.2.2 g⟩
end
