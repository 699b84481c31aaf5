/-! DATATYPES: a type's name is declared; rows of the scope grow -/
section
variable {G : Gh} {d : Nat} {W N : Nat → Prop} {h h1 h2 h3 h5 h' hA : AH} {ts : List (Nat × Nat × Nat)} {t i n nb nb' nb1 nb2 r q g fr ba lo hi m m0 m1 m2 lo1 hi1 b k c arr x v a t0 : Nat} {Z Z' Z1 Z2 : Zt} {D D' D1 D2 : Dm} {O : List (Nat × Nat) × List (Nat × Nat)} {s s0 s' s1 s2 s5 : RSt} {l : List Nat}
/-- a new object of TypeName -/
theorem to_mk {A B : Int64} {p p' : Int32} (hq : hK hA q = 0) (e : h1 = pI (pI (pJ (pJ (nO hA q 3) q 49 A) q 50 B) q 51 p) q 52 p') :
    (hK h1 q = 4 ∧ fJ h1 q 49 = A ∧ fJ h1 q 50 = B ∧ fI h1 q 51 = p ∧ fI h1 q 52 = p' ∧ fI h1 q 54 = 0) ∧ (∀ b, b ≠ q → Uf hA h1 b) ∧ un h1 = un hA + 22 ∧ Le hA h1 none := by
  have F : ∀ b, b ≠ q → Uf hA h1 b := fun b hb => by
    rw [e]
    refine ⟨by rw [hK_pI, hK_pI, hK_pJ, hK_pJ, hK_nO, if_neg hb], by rw [hL_pI, hL_pI]; rfl, by rw [aI_pI, aI_pI]; rfl, by rw [aJ_pI, aJ_pI]; rfl, by rw [aR_pI, aR_pI]; rfl, fun g => ⟨?_, ?_, ?_⟩⟩
    · rw [fI_pI, if_neg (fun e => hb e.1), fI_pI, if_neg (fun e => hb e.1), fI_pJ, fI_pJ, fI_nO, if_neg hb]
    · rw [fJ_pI, fJ_pI, fJ_pJ, if_neg (fun e => hb e.1), fJ_pJ, if_neg (fun e => hb e.1), fJ_nO, if_neg hb]
    · rw [fR_pI, fR_pI, fR_pJ, fR_pJ, fR_nO, if_neg hb]
  refine ⟨⟨?_, ?_, ?_, ?_, ?_, ?_⟩, F, ?_, ?_, fun a ha => ?_⟩
  · rw [e, hK_pI, hK_pI, hK_pJ, hK_pJ, hK_nO, if_pos rfl]
  · rw [e, fJ_pI, fJ_pI, fJ_pJ, if_neg (fun e => absurd e.2 (by decide)), fJ_pJ, if_pos ⟨rfl, rfl⟩]
  · rw [e, fJ_pI, fJ_pI, fJ_pJ, if_pos ⟨rfl, rfl⟩]
  · rw [e, fI_pI, if_neg (fun e => absurd e.2 (by decide)), fI_pI, if_pos ⟨rfl, rfl⟩]
  · rw [e, fI_pI, if_pos ⟨rfl, rfl⟩]
  · rw [e, fI_pI, if_neg (fun e => absurd e.2 (by decide)), fI_pI, if_neg (fun e => absurd e.2 (by decide)), fI_pJ, fI_pJ, fI_nO, if_pos rfl]
  · rw [e]
    show un (nO hA q 3) = _
    rw [un_nO]
    rfl
  · rw [e]
    exact ⟨Nat.le_succ _, Nat.le_add_right _ _⟩
  · have u := F a fun e => ha (by rw [e]; exact hq)
    exact ⟨u.1, u.2.1, fun _ g _ => u.2.2.2.2.2 g⟩
theorem JD.ext {Dt Dt' : Dtb} (k : JD W h Dt) (he : ∀ (d : Nat) (y : Nat × Nat × Nat × Nat), Dt[d]? = some y → ∃ y' : Nat × Nat × Nat × Nat, Dt'[d]? = some y' ∧ y'.2.2.2 = y.2.2.2) : JD W h Dt' := by
  intro a ha
  obtain ⟨k1, k2⟩ := k a ha
  refine ⟨k1, fun h53 h0 => ?_⟩
  obtain ⟨d, y, e1, e2, e3⟩ := k2 h53 h0
  obtain ⟨y', f1, f2⟩ := he d y e1
  exact ⟨d, y', f1, by rw [f2]; exact e2, e3⟩
/-- behind a declaration of a type's name -/
theorem decl_fin (k : RS G W h ts Z O s nb) (hq0 : hK h q = 0) (hT : ∀ x, x ∈ rCt s → x.2.1 < (rDt s).length) (F : ∀ b, hK h b ≠ 0 → b ≠ gW G 4 → b ≠ gW G 2 → b ≠ gW G 1040 → Uf h h' b) (f4 : ∀ g, g ≠ 95 → fI h' (gW G 4) g = fI h (gW G 4) g ∧ fR h' (gW G 4) g = fR h (gW G 4) g) (le : Le h h' none) (T1 : TO1 h' q (rDt s).length (v, a, 0, t0)) (A1 : ∀ i, i < (rDt s).length → aR h' (gW G 1040) (i + 7) = aR h (gW G 1040) (i + 7)) (A2 : (rDt s).length < 205 → aR h' (gW G 1040) ((rDt s).length + 7) = some q) (e41 : fI h' (gW G 2) 41 = nI (if (rDt s).length + 1 < 205 then (rDt s).length + 1 + 7 else 212)) :
    RS G W h' ts (Z.1, Z.2.1, updF Z.2.2 (rDt s).length q) O (s.1, s.2.1, s.2.2.1, s.2.2.2.1, rDt s ++ [(v, a, 0, t0)], s.2.2.2.2.2) nb := by
  obtain ⟨k1, k2, k3, k4, k5, k6, k7, k8, k9, k10, k11, k12⟩ := id k
  have s2 := k1.1.at (i := 2) (by decide)
  have h8 : hK h (gW G 4) = 8 := (k1.1.at (i := 4) (by decide)).1
  have h3' : hK h (gW G 2) = 3 := s2.1
  have h40 : hK h (gW G 1040) = 1006 := kw1040 s2
  have u : ∀ ks : List Nat, 0 ∉ ks → 8 ∉ ks → 3 ∉ ks → 1006 ∉ ks → UK ks h h' := fun ks z0 z8 z3 z6 a ha => F a (fun e => z0 (by rw [← e]; exact ha)) (fun e => z8 (by rw [← h8, ← e]; exact ha)) (fun e => z3 (by rw [← h3', ← e]; exact ha)) (fun e => z6 (by rw [← h40, ← e]; exact ha))
  have uR : UK [6, 7, 1004] h h' := u _ (by decide) (by decide) (by decide) (by decide)
  have tk := tk_kind (k1.1.at (i := 1) (by decide))
  have ne : ∀ d', d' < (rDt s).length → updF Z.2.2 (rDt s).length q d' = Z.2.2 d' := fun d' hd => by
    unfold updF
    rw [if_neg (by omega)]
  have eq : updF Z.2.2 (rDt s).length q (rDt s).length = q := by
    unfold updF
    rw [if_pos rfl]
  refine ⟨k1.le le fun j hj => (F _ (tk j hj).1 (fun e => (tk j hj).2.1 (by rw [e]; exact h8)) (fun e => (tk j hj).2.2.2.2.2.2 (by rw [e]; exact h3')) (fun e => (tk j hj).2.2.2.1 (by rw [e]; exact h40))).uk, k2.mv (f4 91 (by decide)).1 (f4 92 (by decide)).1, k3.mv (u _ (by decide) (by decide) (by decide) (by decide)), k4.mv (rcap_uk k5 k6 k7 uR) (u _ (by decide) (by decide) (by decide) (by decide)) (f4 82 (by decide)).2 (f4 83 (by decide)).1 (f4 84 (by decide)).1, ?_, ?_, k7.mv uR, ?_, ?_, ?_, k11.mv k1.1 (u _ (by decide) (by decide) (by decide) (by decide)), ?_⟩
  · obtain ⟨a1, a2, a3⟩ := k5.mv (u _ (by decide) (by decide) (by decide) (by decide))
    refine ⟨a1, a2, fun c x hx => ?_⟩
    obtain ⟨b1, b2, b3, b4, b5, b6⟩ := a3 c x hx
    refine ⟨b1, b2, ?_, b4, b5, b6⟩
    show fR h' (Z.2.1 c) 368 = some (updF Z.2.2 (rDt s).length q x.2.1)
    rw [ne _ (hT x (List.mem_of_getElem? hx))]
    exact b3
  · obtain ⟨⟨U, t1, ⟨n, t2⟩, t3⟩, t4, t5, t6, t7⟩ := k6
    have hU : ∀ x, x ∈ U → x.2 < (rDt s).length := fun x hx => by
      obtain ⟨y, y1, -⟩ := t3 x hx
      exact (List.getElem?_eq_some_iff.mp y1).1
    refine ⟨⟨U, t1, ⟨n, ?_⟩, fun x hx => ?_⟩, fun d' x hx => ?_, fun d' hd hd2 => ?_, ?_, fun d' x hx => ?_, fun d1 d2 h1 h2 e => ?_⟩
    · have : (U.map fun x => updF Z.2.2 (rDt s).length q x.2) = U.map fun x => Z.2.2 x.2 := List.map_congr_left fun x hx => ne _ (hU x hx)
      show RowC h' (gW G 1085) ((U.map fun x => updF Z.2.2 (rDt s).length q x.2).reverse) n
      rw [this]
      exact t2.uK uR
    · obtain ⟨y, y1, y2⟩ := t3 x hx
      exact ⟨y, by show (rDt s ++ _)[x.2]? = _; rw [List.getElem?_append_left (hU x hx)]; exact y1, y2⟩
    · change (rDt s ++ [(v, a, 0, t0)])[d']? = some x at hx
      show TO1 h' (updF Z.2.2 (rDt s).length q d') d' x
      by_cases hd : d' < (rDt s).length
      · rw [List.getElem?_append_left hd] at hx
        rw [ne d' hd]
        obtain ⟨b1, b2, b3, b4, b5, b6⟩ := t4 d' x hx
        obtain ⟨a1, -, -, -, -, a6⟩ := u [4] (by decide) (by decide) (by decide) (by decide) (Z.2.2 d') (by rw [b1]; decide)
        exact ⟨a1.trans b1, by rw [(a6 49).2.1, (a6 50).2.1]; exact b2, (a6 51).1.trans b3, b4, fun q => (a6 52).1.trans (b5 q), (a6 54).1.trans b6⟩
      · have hd2 := (List.getElem?_eq_some_iff.mp hx).1
        rw [List.length_append, List.length_singleton] at hd2
        have ed : d' = (rDt s).length := by omega
        subst ed
        rw [List.getElem?_append_right (Nat.le_refl _), Nat.sub_self] at hx
        cases hx
        rw [eq]
        exact T1
    · change d' < (rDt s ++ [(v, a, 0, t0)]).length at hd
      rw [List.length_append, List.length_singleton] at hd
      show aR h' (gW G 1040) (d' + 7) = some (updF Z.2.2 (rDt s).length q d')
      by_cases hd3 : d' < (rDt s).length
      · rw [ne d' hd3, A1 d' hd3]
        exact t5 d' hd3 hd2
      · have ed : d' = (rDt s).length := by omega
        subst ed
        rw [eq]
        exact A2 hd2
    · show fI h' (gW G 2) 41 = nI (if (rDt s ++ [(v, a, 0, t0)]).length < 205 then (rDt s ++ [(v, a, 0, t0)]).length + 7 else 212)
      rw [List.length_append, List.length_singleton]
      exact e41
    · obtain ⟨n', y1⟩ := t7.1 d' x hx
      exact ⟨n', by show (rDt s ++ _)[d']? = _; rw [List.getElem?_append_left (List.getElem?_eq_some_iff.mp y1).1]; exact y1⟩
    · change d1 < (rDt s ++ [_]).length at h1
      change d2 < (rDt s ++ [_]).length at h2
      change updF Z.2.2 (rDt s).length q d1 = updF Z.2.2 (rDt s).length q d2 at e
      rw [List.length_append, List.length_singleton] at h1 h2
      have alv : ∀ d', d' < (rDt s).length → Z.2.2 d' ≠ q := fun d' hd e => by
        have := (t4 d' _ (List.getElem?_eq_getElem hd)).1
        rw [e, hq0] at this
        cases this
      by_cases c1 : d1 < (rDt s).length
      · by_cases c2 : d2 < (rDt s).length
        · rw [ne d1 c1, ne d2 c2] at e
          exact t7.2 d1 d2 c1 c2 e
        · have e2 : d2 = (rDt s).length := by omega
          rw [ne d1 c1, e2, eq] at e
          exact absurd e (alv d1 c1)
      · have e1 : d1 = (rDt s).length := by omega
        by_cases c2 : d2 < (rDt s).length
        · rw [ne d2 c2, e1, eq] at e
          exact absurd e.symm (alv d2 c2)
        · omega
  · obtain ⟨⟨U, -, ⟨n, k2⟩, -⟩, -⟩ := k6
    exact k8.mv k2 uR
  · obtain ⟨⟨n, k2⟩, -⟩ := k5
    exact k9.mv k2 uR
  · obtain ⟨n, k2⟩ := k7
    exact k10.mv k2 uR
  · refine JD.ext (k12.mv (u _ (by decide) (by decide) (by decide) (by decide)) fun a ha => (le.2 a ha).1) fun d' y hy => ⟨y, ?_, rfl⟩
    show (rDt s ++ _)[d']? = _
    rw [List.getElem?_append_left (List.getElem?_eq_some_iff.mp hy).1]
    exact hy
/-- a type's name -/
theorem r_decl (k : RS G W h ts Z O s nb) (hT : ∀ x, x ∈ rCt s → x.2.1 < (rDt s).length) (hlD : (rDt s).length ≤ 2600) (ht : t < ts.length) (hk : Kd ts t = 280) (ha : a ≤ 6) (hu : un h + 22 ≤ UB) : C G mX9_declare (d + 3) [.ref (gW G 4), .int (nI t), .int (nI a)] h (fun o h' => ∃ q, o = .returned (some (.ref q)) ∧ hK h q = 0 ∧ hK h' q = 4 ∧ RS G W h' ts (Z.1, Z.2.1, updF Z.2.2 (rDt s).length q) O (s.1, s.2.1, s.2.2.1, s.2.2.2.1, rDt s ++ [(Vl ts t, a, 0, t0)], s.2.2.2.2.2) nb ∧ (∀ b, hK h b ≠ 0 → b ≠ gW G 4 → b ≠ gW G 2 → b ≠ gW G 1040 → Uf h h' b) ∧ un h' = un h + 22 ∧ Le h h' none ∧ fI h' (gW G 4) 95 = (if 205 ≤ (rDt s).length then 1 else 0) ∧ fR h' (gW G 4) 82 = fR h (gW G 4) 82) := by
  obtain ⟨k1, k2, k3, k4, k5, k6, k7, k8, k9, k10, k11, k12⟩ := id k
  have s2 := k1.1.at (i := 2) (by decide)
  have h8 : hK h (gW G 4) = 8 := (k1.1.at (i := 4) (by decide)).1
  have h3' : hK h (gW G 2) = 3 := s2.1
  have h40 : hK h (gW G 1040) = 1006 := kw1040 s2
  have hlt := k1.2.2.2.1
  obtain ⟨-, t4, t5, t6, t7⟩ := k6
  have nm := (k1.at ht).2 (Or.inl hk)
  have hrm := un_rm (n := 6) (h := h) (by omega)
  have n24 : gW G 2 ≠ gW G 4 := fun e => by rw [e, h8] at h3'; cases h3'
  have n40 : gW G 1040 ≠ gW G 4 := fun e => by rw [e, h8] at h40; cases h40
  have n42 : gW G 1040 ≠ gW G 2 := fun e => by rw [e, h3'] at h40; cases h40
  refine bX9_declare G (d + 2) h _ _ _ (k1.1.at (by decide)) s2 (k1.1.at (by decide)) (bX3_isFull G (d + 2) h _ s2 ?_)
  rw [t6]
  have key : ∀ x3 : Int32, x3 = (if 205 ≤ (rDt s).length then 1 else 0) → ∀ hA, hA = pI h (gW G 4) 95 x3 → (∀ g, g ≠ 95 → fI hA (gW G 4) g = fI h (gW G 4) g ∧ fR hA (gW G 4) g = fR h (gW G 4) g) ∧ (∀ b, b ≠ gW G 4 → Uf h hA b) ∧ Le h hA none ∧ fI hA (gW G 4) 95 = x3 ∧ un hA = un h ∧ SoA G hA := by
    intro x3 _ hA e
    have w : WQ (gW G 4) h hA := by rw [e]; exact WQ.rf.pI
    have le : Le h hA none := by rw [e]; exact pI_le (Or.inl (by decide))
    exact ⟨fun g hg => ⟨by rw [e, fI_pI, if_neg (fun z => hg z.2)], by rw [e, fR_pI]⟩, fun b hb => w.uf hb, le, by rw [e, fI_pI, if_pos ⟨rfl, rfl⟩], w.un, k1.1.le le⟩
  have full : ∀ hA, hA = pI h (gW G 4) 95 1 → 205 ≤ (rDt s).length → (hc hA + 1 ≤ MC) ∧ (hs hA + 6 ≤ MS) ∧ ∀ q11, hK hA q11 = 0 → ∀ h13, h13 = nO hA q11 3 → (vp_in (nI t) 4098 ∧ (vp_in (nI t) 4098 ∧ (C G mX5_init (d + 2) [.ref (q11), .long (aJ h13 (gW G 1026) (nI t).toNatClampNeg), .long (aJ h13 (gW G 1027) (nI t).toNatClampNeg), .int (nI a), .int (0)] h13 (KV (fun o h' => ∃ q, o = .returned (some (.ref q)) ∧ hK h q = 0 ∧ hK h' q = 4 ∧ RS G W h' ts (Z.1, Z.2.1, updF Z.2.2 (rDt s).length q) O (s.1, s.2.1, s.2.2.1, s.2.2.2.1, rDt s ++ [(Vl ts t, a, 0, t0)], s.2.2.2.2.2) nb ∧ (∀ b, hK h b ≠ 0 → b ≠ gW G 4 → b ≠ gW G 2 → b ≠ gW G 1040 → Uf h h' b) ∧ un h' = un h + 22 ∧ Le h h' none ∧ fI h' (gW G 4) 95 = (if 205 ≤ (rDt s).length then 1 else 0) ∧ fR h' (gW G 4) 82 = fR h (gW G 4) 82) (fun h18 => ∃ q, Outcome.returned (some (.ref q11)) = .returned (some (.ref q)) ∧ hK h q = 0 ∧ hK h18 q = 4 ∧ RS G W h18 ts (Z.1, Z.2.1, updF Z.2.2 (rDt s).length q) O (s.1, s.2.1, s.2.2.1, s.2.2.2.1, rDt s ++ [(Vl ts t, a, 0, t0)], s.2.2.2.2.2) nb ∧ (∀ b, hK h b ≠ 0 → b ≠ gW G 4 → b ≠ gW G 2 → b ≠ gW G 1040 → Uf h h18 b) ∧ un h18 = un h + 22 ∧ Le h h18 none ∧ fI h18 (gW G 4) 95 = (if 205 ≤ (rDt s).length then 1 else 0) ∧ fR h18 (gW G 4) 82 = fR h (gW G 4) 82))))) := by
    intro hA eA hfull
    obtain ⟨x1, x2, x3, x4, x5, x6⟩ := key 1 (by rw [if_pos hfull]) hA eA
    have hrm2 := un_rm (n := 6) (h := hA) (by rw [x5]; omega)
    refine ⟨hrm2.1, hrm2.2, fun q hq => ?_⟩
    intro hB eB
    refine ⟨vp_in_nI (by omega) (by decide), vp_in_nI (by omega) (by decide), ?_⟩
    have ea : ∀ i, aJ hB (gW G i) = aJ h (gW G i) := fun i => by rw [eB, aJ_nO, eA, aJ_pI]
    rw [nI_cn (by omega), ea, ea]
    refine bX5_init G (d + 2) (by omega) _ _ _ _ _ _ _ ⟨by rw [eB, hK_nO, if_pos rfl], ?_⟩
    rintro _ rfl _ rfl _ rfl hC eC
    rw [eB] at eC
    obtain ⟨⟨y1, y2, y3, y4, y5, y6⟩, y7, y8, y9⟩ := to_mk hq eC
    have hq0 : hK h q = 0 := by rw [eA, hK_pI] at hq; exact hq
    have alq : ∀ b, hK h b ≠ 0 → b ≠ q := fun b hb e => hb (by rw [e]; exact hq0)
    have u2 := (x2 (gW G 2) n24).tr (y7 _ (alq _ (by rw [h3']; decide)))
    have u40 := (x2 (gW G 1040) n40).tr (y7 _ (alq _ (by rw [h40]; decide)))
    have u4 := y7 (gW G 4) (alq _ (by rw [h8]; decide))
    refine KV.i ⟨q, rfl, hq0, y1, decl_fin k hq0 hT (fun b hb b4 _ _ => (x2 b b4).tr (y7 b (alq b hb))) (fun g hg => ⟨(u4.2.2.2.2.2 g).1.trans (x1 g hg).1, (u4.2.2.2.2.2 g).2.2.trans (x1 g hg).2⟩) (x3.tr y9) ⟨y1, by rw [y2, y3]; exact nm, y4, ha, fun z => by omega, y6⟩ (fun i _ => by rw [u40.2.2.2.2.1]) (fun z => by omega) ?_, fun b hb b4 _ _ => (x2 b b4).tr (y7 b (alq b hb)), by rw [y8, x5], x3.tr y9, by rw [(u4.2.2.2.2.2 95).1, x4, if_pos hfull], by rw [(u4.2.2.2.2.2 82).2.2]; exact (x1 82 (by decide)).2⟩
    rw [(u2.2.2.2.2.2 41).1, t6, if_neg (by omega), if_neg (by omega)]
  by_cases hf : 205 ≤ (rDt s).length
  · rw [if_neg (by omega)]
    refine ⟨fun _ => KI.i ⟨Or.inr rfl, fun hA eA => ?_⟩, fun z => absurd rfl z⟩
    obtain ⟨x1, x2, x3, x4, x5, x6⟩ := key 1 (by rw [if_pos hf]) hA eA
    rw [x4]
    exact ⟨fun z => absurd z (by decide), fun _ => full hA eA hf⟩
  · rw [if_pos (by omega)]
    refine ⟨fun z => ?_, fun _ => KI.i ⟨Or.inl rfl, fun hA eA => ?_⟩⟩
    · have := congrArg Int32.toInt z
      rw [nI_toInt (by omega)] at this
      change _ = (212 : Int) at this
      omega
    obtain ⟨x1, x2, x3, x4, x5, x6⟩ := key 0 (by rw [if_neg hf]) hA eA
    rw [x4]
    refine ⟨fun _ => ?_, fun z => absurd rfl z⟩
    have ea : ∀ i, aJ hA (gW G i) = aJ h (gW G i) := fun i => by rw [eA, aJ_pI]
    refine ⟨vp_in_nI (by omega) (by decide), vp_in_nI (by omega) (by decide), ?_⟩
    rw [nI_cn (by omega), ea, ea]
    have hrm2 := un_rm (n := 6) (h := hA) (by rw [x5]; omega)
    refine bX3_add_2 G (d + 1) hA _ _ _ _ (x6.at (by decide)) ⟨hrm2.1, hrm2.2, fun q hq => ?_⟩
    intro hB eB
    have hq0 : hK h q = 0 := by rw [eA, hK_pI] at hq; exact hq
    have alq : ∀ b, hK h b ≠ 0 → b ≠ q := fun b hb e => hb (by rw [e]; exact hq0)
    have q2 := alq (gW G 2) (by rw [h3']; decide)
    have e41 : fI hB (gW G 2) 41 = nI ((rDt s).length + 7) := by rw [eB, fI_nO, if_neg q2, ((x2 _ n24).2.2.2.2.2 41).1, t6, if_pos (by omega)]
    rw [e41]
    refine bX5_init G (d + 1) (by omega) _ _ _ _ _ _ _ ⟨by rw [eB, hK_nO, if_pos rfl], ?_⟩
    rintro _ rfl _ rfl _ rfl hC eC
    rw [eB] at eC
    obtain ⟨⟨y1, y2, y3, y4, y5, y6⟩, y7, y8, y9⟩ := to_mk hq eC
    have u2 := (x2 (gW G 2) n24).tr (y7 _ q2)
    have c41 : fI hC (gW G 2) 41 = nI ((rDt s).length + 7) := by rw [(u2.2.2.2.2.2 41).1, t6, if_pos (by omega)]
    have u40 := (x2 (gW G 1040) n40).tr (y7 _ (alq _ (by rw [h40]; decide)))
    have u4 := y7 (gW G 4) (alq _ (by rw [h8]; decide))
    have q40 := alq (gW G 1040) (by rw [h40]; decide)
    refine KV.i ?_
    rw [c41]
    refine ⟨vp_in_nI (by omega) (by decide), Or.inl ⟨3, by decide, y1, Or.inl rfl⟩, ?_⟩
    rw [nI_cn (by omega)]
    intro hD eD
    have d41 : fI hD (gW G 2) 41 = nI ((rDt s).length + 7) := by rw [eD, fI_sR]; exact c41
    rw [d41, nI_1]
    intro hE eE
    have w : WQ (gW G 2) hD hE := by rw [eE]; exact WQ.rf.pI
    have uD : ∀ b, b ≠ gW G 1040 → Uf hC hD b := fun b hb => ⟨by rw [eD]; rfl, by rw [eD]; rfl, by rw [eD]; rfl, by rw [eD]; rfl, by funext y; rw [eD, aR_sR, if_neg (fun e => hb e.1)], fun g => by rw [eD]; exact ⟨rfl, rfl, rfl⟩⟩
    have leD : Le hC hD none := by rw [eD]; exact sR_le
    have leE : Le hD hE none := by rw [eE]; exact pI_le (Or.inl (by decide))
    have FF : ∀ b, hK h b ≠ 0 → b ≠ gW G 4 → b ≠ gW G 2 → b ≠ gW G 1040 → Uf h hE b := fun b hb b4 b2 b40 => (((x2 b b4).tr (y7 b (alq b hb))).tr (uD b b40)).tr (w.uf b2)
    have uq : Uf hC hE q := (uD q q40.symm).tr (w.uf q2.symm)
    have u4' := (u4.tr (uD _ n40.symm)).tr (w.uf n24.symm)
    have aE : aR hE (gW G 1040) = aR hD (gW G 1040) := (w.uf n42).2.2.2.2.1
    have LE := ((x3.tr y9).tr leD).tr leE
    refine KR.i ⟨q, rfl, hq0, uq.1.trans y1, decl_fin k hq0 hT FF (fun g hg => ⟨(u4'.2.2.2.2.2 g).1.trans (x1 g hg).1, (u4'.2.2.2.2.2 g).2.2.trans (x1 g hg).2⟩) LE ⟨uq.1.trans y1, by rw [(uq.2.2.2.2.2 49).2.1, (uq.2.2.2.2.2 50).2.1, y2, y3]; exact nm, (uq.2.2.2.2.2 51).1.trans y4, ha, fun _ => (uq.2.2.2.2.2 52).1.trans y5, (uq.2.2.2.2.2 54).1.trans y6⟩ (fun i hi => by rw [aE, eD, aR_sR, if_neg (fun e => by omega), u40.2.2.2.2.1]) (fun _ => by rw [aE, eD, aR_sR, if_pos ⟨rfl, rfl⟩]) ?_, FF, ?_, LE, by rw [(u4'.2.2.2.2.2 95).1, x4, if_neg hf], by rw [(u4'.2.2.2.2.2 82).2.2]; exact (x1 82 (by decide)).2⟩
    · rw [eE, fI_pI, if_pos ⟨rfl, rfl⟩]
      by_cases z : (rDt s).length + 1 < 205
      · rw [if_pos z, show (rDt s).length + 1 + 7 = (rDt s).length + 7 + 1 by omega]
      · rw [if_neg z, show (rDt s).length + 7 + 1 = 212 by omega]
    · rw [w.un, eD, un_sR, y8, x5]
end
