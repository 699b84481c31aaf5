/-! DATATYPES: a new constructor -/
def NQ (G : Gh) (d q b bc : Nat) (x2 x4 : Int32) (Q : Outcome → AH → Prop) (h : AH) : Prop := (hc h + 1 ≤ MC) ∧ (hs h + 9 ≤ MS) ∧ ∀ q13, hK h q13 = 0 → ∀ h15, h15 = nO h q13 53 → (hK h15 bc = 52 ∧ (C G mX9_part d [.ref (gW G 4), .int (fI h15 bc 361), .int (0)] h15 (KJ Q (fun y21 h19 => C G mX9_part d [.ref (gW G 4), .int (fI h19 bc 361), .int (1)] h19 (KJ Q (fun y24 h22 => ∃ b25, fR h22 b 353 = some b25 ∧ (C G mX58_init d [.ref (q13), .long (y21), .long (y24), .ref (b25), .int (x4)] h22 (KV Q (fun h27 => ∀ h29, h29 = pR h27 bc 363 (some q13) → (∃ b30, fR h29 bc 363 = some b30 ∧ (OC (fR h29 bc 362) (hK h29 b30 = 54 ∧ (∀ h35, h35 = pI h29 b30 371 0 → (∃ b36, fR h35 bc 363 = some b36 ∧ (C G mX9_number d [.ref (gW G 4), .ref (b36)] h35 (KV Q (fun h38 => ∃ b40, fR h38 bc 363 = some b40 ∧ (C G mX9_addCon d [.ref (gW G 4), .ref (b40)] h38 (KV Q (fun h42 => ∀ x44 : Int32, x44 = x4 + 1 → (X G mX57_resolve (d + 1) none [] 332 [(0, .ref (q)), (1, .ref (gW G 4)), (2, .int (x2)), (3, .ref (b)), (4, .int (x44))] [] h42 Q)))))))))) (fun b32 => hK h29 b30 = 54 ∧ (∀ h47, h47 = pI h29 b30 371 1 → (∃ b48, fR h47 bc 363 = some b48 ∧ (C G mX9_number d [.ref (gW G 4), .ref (b48)] h47 (KV Q (fun h50 => ∃ b52, fR h50 bc 363 = some b52 ∧ (C G mX9_addCon d [.ref (gW G 4), .ref (b52)] h50 (KV Q (fun h54 => ∀ x56 : Int32, x56 = x4 + 1 → (X G mX57_resolve (d + 1) none [] 332 [(0, .ref (q)), (1, .ref (gW G 4)), (2, .int (x2)), (3, .ref (b)), (4, .int (x56))] [] h54 Q)))))))))))))))))))))
/-- the state behind a new constructor -/
def rCn (v dd i : Nat) (y : Tr) (s : RSt) : RSt := (s.1, (v, (rCt s).length) :: s.2.1, s.2.2.1, rCt s ++ [(v, dd, i, y)], s.2.2.2.2)
section
variable {G : Gh} {d : Nat} {W N : Nat → Prop} {h h1 h2 h3 h5 h' hA : AH} {ts : List (Nat × Nat × Nat)} {t i j n nb nb' nb1 nb2 r q g fr ba lo hi m m0 m1 m2 lo1 hi1 b k c arr t0 tc u : Nat} {v : Int} {Z Z' Z1 Z2 : Zt} {D D' D1 D2 : Dm} {O : List (Nat × Nat) × List (Nat × Nat)} {s s0 s' s1 s2 s5 : RSt} {x y e x' a' b' : Tr} {l l1 l2 ds : List Tr} {TK DC : List Nat} {f : Nat → Option Nat} {A : Zt → Dm → AH → Prop} {K V : Nat → Nat}
variable {d0 dd rc bc : Nat} {Fd : List (List Tr)} {hs : List Tr}
theorem con_new (M : TI G W ts O h Z D nb lo hi ds h1 Z1 D1 s1 nb1 TK DC c) (hWbc : W bc) (hk52 : hK h1 bc = 52) (e61 : fI h1 bc 361 = nI tc) (tl : tc < ts.length) (tk281 : Kd ts tc = 281) (htc : lo ≤ tc ∧ tc < hi) (hnx : ¬ D1.1 tc) (hWb : W b) (hkb : hK h1 b = 47) (hp : fR h1 b 353 = some (Z1.2.2 dd)) (hdd : dd < (rDt s1).length) (hy : (isN y = true ∧ fR h1 bc 362 = none) ∨ (isN y = false ∧ ∃ bb, fR h1 bc 362 = some bb)) (hu : pU h nb + c + 20000 ≤ UB) {x2 : Int32} {Q : Outcome → AH → Prop}
    (hQ : ∀ h2 Z2 nb2, TI G W ts O h Z D nb lo hi ds h2 Z2 (fun t => D1.1 t ∨ t = tc, (rCt s1).length + 1, (rDt s1).length) (rCn (Vl ts tc) dd i y s1) nb2 (tc :: TK) DC (c + 90) → fR h2 bc 363 = some (Z2.2.1 (rCt s1).length) → KW W tc (tc + 1) h1 h2 → Ext Z1 Z2 D1 (fun t => D1.1 t ∨ t = tc, (rCt s1).length + 1, (rDt s1).length) → X G mX57_resolve (d + 6 + 1) none [] 332 [(0, .ref q), (1, .ref (gW G 4)), (2, .int x2), (3, .ref b), (4, .int (nI i + 1))] [] h2 Q) :
    NQ G (d + 6) q b bc x2 (nI i) Q h1 := by
  obtain ⟨k1, k2, k3, k4, k5, k6, k7, k8, k9, k10⟩ := M
  have hKl := k3.2.2.2.len
  obtain ⟨⟨K, K1, K2, K3, K4⟩, K5, K6⟩ := id k3.2.2.2
  have hts := k1.1.2.2.2.1
  have hpu : un h1 + 19000 ≤ UB := by
    unfold pU at k9 hu
    omega
  have hrm := un_rm (n := 9) (h := h1) (by omega)
  have nm := (k1.1.at tl).2 (Or.inr (Or.inl tk281))
  unfold NQ
  refine ⟨hrm.1, hrm.2, fun p hp0 => ?_⟩
  intro hA eA
  have leA : Le h1 hA none := by rw [eA]; exact (KP.rf.nO hp0).le
  have sB : SoA G hA := k1.1.1.le leA
  have alp : ∀ a, hK h1 a ≠ 0 → a ≠ p := fun a ha e => ha (by rw [e]; exact hp0)
  have bcp := alp bc (by rw [hk52]; decide)
  have bp := alp b (by rw [hkb]; decide)
  have Wp : ∀ a, W a → a ≠ p := fun a ha => alp a (k2.1 a ha)
  have Wg : ∀ a, W a → a ≠ gW G 4 := fun a ha e => k2.2.1 (by rw [← e]; exact ha)
  have e61A : fI hA bc 361 = nI tc := by rw [eA, fI_nO, if_neg bcp]; exact e61
  refine ⟨by rw [eA, hK_nO, if_neg bcp]; exact hk52, ?_⟩
  rw [e61A]
  refine bX9_part G (d + 6) hA _ _ _ (sB.at (by decide)) (sB.at (by decide)) ⟨fun _ => ⟨vp_in_nI (by omega) (by decide), KJ.i ?_⟩, fun z => absurd rfl z⟩
  rw [e61A]
  refine bX9_part G (d + 6) hA _ _ _ (sB.at (by decide)) (sB.at (by decide)) ⟨fun z => absurd z (by decide), fun _ => ⟨vp_in_nI (by omega) (by decide), KJ.i ?_⟩⟩
  refine ⟨Z1.2.2 dd, by rw [eA, fR_nO, if_neg bp]; exact hp, ?_⟩
  have ea : ∀ i, aJ hA (gW G i) = aJ h1 (gW G i) := fun i => by rw [eA, aJ_nO]
  rw [nI_cn (by omega), ea, ea]
  refine bX58_init G (d + 6) (by omega) hA _ _ _ _ _ _ ⟨by rw [eA, hK_nO, if_pos rfl], ?_⟩
  rintro _ rfl _ rfl _ rfl hB eB
  rw [eA] at eB
  obtain ⟨⟨y1, y2, y3, y4, y5⟩, y7, y8, y9⟩ := co_mk hp0 eB
  refine KV.i ?_
  intro hC eC
  have wC : WQ bc hB hC := by rw [eC]; exact WQ.rf.pR
  have leC : Le hB hC none := by rw [eC]; exact pR_le (Or.inl (by decide))
  have C363 : fR hC bc 363 = some p := by rw [eC, fR_pR, if_pos ⟨rfl, rfl⟩]
  have upC : Uf hB hC p := wC.uf bcp.symm
  have C362 : fR hC bc 362 = fR h1 bc 362 := by
    rw [eC, fR_pR, if_neg (fun z => absurd z.2 (by decide)), ((y7 bc bcp).2.2.2.2.2 362).2.2]
  have fin : ∀ (v5 : Int32) hD, hD = pI hC p 371 v5 → v5 = b2 (!isN y) → KQ G (d + 6) q b bc x2 (nI i) Q hD := by
    intro v5 hD eD e5
    have wD : WQ p hC hD := by rw [eD]; exact WQ.rf.pI
    have leD : Le hC hD none := by rw [eD]; exact pI_le (Or.inl (by decide))
    have pD : hK hD p = 54 := by rw [wD.2.1.1, upC.1]; exact y1
    have D363 : fR hD bc 363 = some p := ((wD.uf bcp).2.2.2.2.2 363).2.2.trans C363
    unfold KQ
    refine ⟨p, D363, ?_⟩
    have leAD : Le h1 hD none := (y9.tr leC).tr leD
    have sD : SoA G hD := k1.1.1.le leAD
    refine bX9_number G (d + 5) hD _ _ (sD.at (by decide)) (sD.at (by decide)) ⟨pD, ?_⟩
    intro hE eE
    have wE : WQ p hD hE := by rw [eE]; exact WQ.rf.pI
    have leE : Le hD hE none := by rw [eE]; exact pI_le (Or.inl (by decide))
    have LE : Le h1 hE none := leAD.tr leE
    have Fr : ∀ a, hK h1 a ≠ 0 → a ≠ bc → Uf h1 hE a := fun a ha hb => (((y7 a (alp a ha)).tr (wC.uf hb)).tr (wD.uf (alp a ha))).tr (wE.uf (alp a ha))
    have upE : Uf hB hC p := upC
    have h8 : hK h1 (gW G 4) = 8 := (k1.1.1.at (i := 4) (by decide)).1
    have u4 := Fr (gW G 4) (by rw [h8]; decide) (Wg bc hWbc).symm
    have tk := tk_kind (k1.1.1.at (i := 1) (by decide))
    have ntk : ∀ i, i = 1 ∨ i = 1024 ∨ i = 1025 ∨ i = 1026 ∨ i = 1027 → gW G i ≠ bc := fun i hi z => by
      have s1 := k1.1.1.at (i := 1) (by decide)
      have hk := hk52
      rw [← z] at hk
      rcases hi with rfl | rfl | rfl | rfl | rfl
      · rw [s1.1] at hk; cases hk
      · rw [kw1024 s1] at hk; cases hk
      · rw [kw1025 s1] at hk; cases hk
      · rw [kw1026 s1] at hk; cases hk
      · rw [kw1027 s1] at hk; cases hk
    have rX : RS G W hE ts Z1 O s1 nb1 := k1.mv (k1.1.le LE fun j hj => (Fr _ (tk j hj).1 (ntk j hj)).uk) (fun a ha => Fr a (fun z => by rw [z] at ha; exact absurd ha (by decide)) fun z => by rw [z, hk52] at ha; exact absurd ha (by decide)) (u4.2.2.2.2.2 82).2.2 (u4.2.2.2.2.2 83).1 (u4.2.2.2.2.2 84).1 (k1.2.1.mv (u4.2.2.2.2.2 91).1 (u4.2.2.2.2.2 92).1) ⟨rfl, rfl, rfl, rfl, rfl⟩ fun a ha => (LE.2 a ha).1
    have wbX : WB G W hE := by
      refine k2.mv k1.1 (fun a ha => ?_) (u4.2.2.2.2.2 82).2.2
      by_cases z : a = bc
      · subst z
        refine (((y7 a (Wp a ha)).us).tr ⟨by rw [wC.2.1.1], by rw [wC.2.1.2.1], by rw [wC.2.1.2.2.1], by rw [wC.2.1.2.2.2.1], by rw [wC.2.1.2.2.2.2], fun g hg => ?_⟩).tr ((wD.uf (Wp a ha)).tr (wE.uf (Wp a ha))).us
        rw [eC, fI_pR, fJ_pR, fR_pR, if_neg (fun e => by rw [e.2] at hg; exact absurd hg (by decide))]
        exact ⟨rfl, rfl, rfl⟩
      · exact (Fr a (k2.1 a ha) z).us
    have uB : ∀ a, W a → Uf h1 hB a := fun a ha => y7 a (Wp a ha)
    have kwX : KW W tc (tc + 1) h1 hE := ((KW.of y9.1 uB).tr (wC.kw (by
      have : tokA hB bc = (tc : Nat) := by
        rw [(uB bc hWbc).us.tok]
        unfold tokA
        rw [hk52, show fI h1 bc (tf 52) = nI tc from e61, nI_toInt (by omega)]
      rw [this]
      omega) fun g hg => by
        rw [eC, fI_pR, fJ_pR, fR_pR, if_neg (fun e => by rw [e.2] at hg; exact absurd hg (by decide))]
        exact ⟨rfl, rfl, rfl⟩)).tr (KW.of (leD.tr leE).1 fun a ha => (wD.uf (Wp a ha)).tr (wE.uf (Wp a ha)))
    obtain ⟨n59, r59⟩ := k1.2.2.2.2.2.2.1
    have h59 : hK h1 (gW G 1059) = 6 := r59.1
    have n59c : gW G 1059 ≠ bc := fun z => by rw [z, hk52] at h59; cases h59
    have e78 : fI hD (gW G 1059) 78 = nI (rCt s1).length := by
      have a1 := alp (gW G 1059) (by rw [h59]; decide)
      have := ((((y7 _ a1).tr (wC.uf n59c)).tr (wD.uf a1)).2.2.2.2.2 78).1
      rw [this, r59.2.1, List.length_map, List.length_range]
    have co : CO hE Z1.2.2 (rCt s1).length p (Vl ts tc, dd, i, y) := by
      have fJE : ∀ g, fJ hE p g = fJ hB p g := fun g => by rw [eE, fJ_pI, eD, fJ_pI, (upC.2.2.2.2.2 g).2.1]
      have fRE : ∀ g, fR hE p g = fR hB p g := fun g => by rw [eE, fR_pI, eD, fR_pI, (upC.2.2.2.2.2 g).2.2]
      refine ⟨by rw [wE.2.1.1]; exact pD, by rw [fJE, fJE, y2, y3]; exact nm, by rw [fRE]; exact y4, ?_, ?_, ?_⟩
      · rw [eE, fI_pI, if_neg (fun z => absurd z.2 (by decide)), eD, fI_pI, if_neg (fun z => absurd z.2 (by decide)), (upC.2.2.2.2.2 369).1]
        exact y5
      · rw [eE, fI_pI, if_pos ⟨rfl, rfl⟩]
        exact e78
      · rw [eE, fI_pI, if_neg (fun z => absurd z.2 (by decide)), eD, fI_pI, if_pos ⟨rfl, rfl⟩]
        exact e5
    have uE : un hE = un h1 + 25 := by rw [wE.un, wD.un, wC.un, y8]
    refine C.mono (r_numb (d := d + 3) rX co (by omega) (by omega)) ?_
    rintro _ hF ⟨rfl, δ, r6, u6, rw6, le6, uf6⟩
    have hW6 := RwF.w rX wbX (Or.inr (Or.inr rfl)) rw6
    have wb6 : WB G W hF := wbX.mv rX.1 (fun a ha => (hW6 a ha).us) (uf6.2.2.2.2.2 82).2.2
    have E363 : fR hE bc 363 = some p := ((wE.uf bcp).2.2.2.2.2 363).2.2.trans D363
    have eZ : updF Z1.2.1 (rCt s1).length p (rCt s1).length = p := by
      unfold updF
      rw [if_pos rfl]
    have ne : ∀ i, i < (rCt s1).length → updF Z1.2.1 (rCt s1).length p i = Z1.2.1 i := fun i hi => by
      unfold updF
      rw [if_neg (by omega)]
    have ad := r_addC (d := d + 3) (c := (rCt s1).length) (y := (Vl ts tc, dd, i, y)) r6 (by
      show (rCt s1 ++ [_])[(rCt s1).length]? = _
      rw [List.getElem?_append_right (Nat.le_refl _), Nat.sub_self]
      rfl) (show (rC s1).length ≤ 2600 by omega) (by have := r6.nbl; unfold pU at k9 hu; omega)
    change C G mX9_addCon (d + 6) [.ref (gW G 4), .ref (updF Z1.2.1 (rCt s1).length p (rCt s1).length)] hF _ at ad
    rw [eZ] at ad
    refine KV.i (KV.i ⟨p, ((hW6 bc hWbc).2.2.2.2.2 363).2.2.trans E363, C.mono ad ?_⟩)
    rintro _ hG ⟨rfl, δ', r7, u7, rw7, le7, uf7⟩
    have hW7 := RwF.w r6 wb6 (Or.inr (Or.inl rfl)) rw7
    refine KV.i ?_
    rintro _ rfl
    have kwG : KW W tc (tc + 1) h1 hG := (kwX.tr (KW.of le6.1 hW6)).tr (KW.of le7.1 hW7)
    have exG : Ext Z1 (Z1.1, updF Z1.2.1 (rCt s1).length p, Z1.2.2) D1 (fun t => D1.1 t ∨ t = tc, (rCt s1).length + 1, (rDt s1).length) := ⟨fun t ht => ⟨Or.inl ht, rfl⟩, ⟨by show D1.2.1 ≤ (rCt s1).length + 1; rw [k3.2.1]; omega, fun i hi => ne i (by rw [← k3.2.1]; exact hi)⟩, ⟨by show D1.2.2 ≤ (rDt s1).length; rw [k3.2.2.1]; omega, fun _ _ => rfl⟩⟩
    refine hQ hG _ (nb1 + δ + δ') ⟨r7, wb6.mv r6.1 (fun a ha => (hW7 a ha).us) (uf7.2.2.2.2.2 82).2.2, ⟨fun x' hx => Or.inl (k3.1 x' hx), ?_, rfl, ⟨tc :: K, List.nodup_cons.mpr ⟨fun hm => hnx (K2 _ hm).2, K1⟩, fun t ht => ?_, ?_, ?_⟩, fun y hy h5 => Or.inl (K5 y hy h5), fun x' hx => ?_⟩, k4.tr (kwG.wd htc.1 htc.2), k5.tr exG, fun t ht => ?_, k7.of rfl, r7.nbl, ?_, (k10.tr LE).tr (le6.tr le7)⟩ ?_ kwG exG
    · show (rCt s1).length + 1 = (rCt s1 ++ [_]).length
      rw [List.length_append, List.length_singleton]
    · rcases List.mem_cons.mp ht with rfl | ht
      · exact ⟨by omega, Or.inr rfl⟩
      · exact ⟨(K2 t ht).1, Or.inl (K2 t ht).2⟩
    · show (rCt s1 ++ [_]).length + (rDt s1).length ≤ _
      rw [List.length_append, List.length_singleton, List.length_cons]
      omega
    · show (_ :: rC s1).length + (rT s1).length ≤ _
      rw [List.length_cons, List.length_cons]
      omega
    · rcases List.mem_append.mp (show x' ∈ rCt s1 ++ [_] from hx) with hx | hx
      · exact K6 x' hx
      · rw [List.mem_singleton] at hx
        subst hx
        exact hdd
    · rcases ht with ht | ht
      · rcases k6 t ht with z | z | z
        · exact Or.inl z
        · exact Or.inr (Or.inl (List.mem_cons_of_mem _ z))
        · exact Or.inr (Or.inr z)
      · exact Or.inr (Or.inl (by rw [ht]; exact List.mem_cons_self ..))
    · have := r7.nbl
      unfold pU at k9 ⊢
      omega
    · show fR hG bc 363 = some (updF Z1.2.1 (rCt s1).length p (rCt s1).length)
      rw [eZ, ((hW7 bc hWbc).2.2.2.2.2 363).2.2, ((hW6 bc hWbc).2.2.2.2.2 363).2.2]
      exact E363
  have kp : hK hC p = 54 := upC.1.trans y1
  refine ⟨p, C363, ?_⟩
  rcases hy with ⟨z1, z2⟩ | ⟨z1, bb, z2⟩
  · have e62 : fR hC bc 362 = none := C362.trans z2
    refine ⟨fun _ => ⟨kp, fun hD eD => ?_⟩, fun b' z => (by rw [e62] at z; cases z)⟩
    have := fin 0 hD eD (by rw [z1]; rfl)
    unfold KQ at this
    exact this
  · have e62 : fR hC bc 362 = some bb := C362.trans z2
    refine ⟨fun z => (by rw [e62] at z; cases z), fun b' _ => ⟨kp, fun hD eD => ?_⟩⟩
    have := fin 1 hD eD (by rw [z1]; rfl)
    unfold KQ at this
    exact this
end
