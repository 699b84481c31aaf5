/-! DATATYPES: their names are declared -/
section
variable {G : Gh} {d : Nat} {W N : Nat → Prop} {h h1 h2 h3 h5 h' hA : AH} {ts : List (Nat × Nat × Nat)} {t i j n nb nb' nb1 nb2 r q g fr ba lo hi m m0 m1 m2 lo1 hi1 b k c arr t0 tc u : Nat} {v : Int} {Z Z' Z1 Z2 : Zt} {D D' D1 D2 : Dm} {O : List (Nat × Nat) × List (Nat × Nat)} {s s0 s' s1 s2 s5 : RSt} {x y e x' a' b' : Tr} {l l1 l2 ds : List Tr} {TK DC : List Nat} {f : Nat → Option Nat} {A : Zt → Dm → AH → Prop} {K V : Nat → Nat}

theorem RS.w53 (k : RS G W h ts Z O s nb) (hk : hK h q = 53) {y : Int32} (e : h' = pI h q 365 y) (hy : y ≠ 0 → ∃ d z, (rDt s)[d]? = some z ∧ (z.2.2.2 : Int) = (fI h q 313).toInt ∧ 205 ≤ d) : RS G W h' ts Z O s nb := by
  have w : WQ q h h' := by rw [e]; exact WQ.rf.pI
  have le : Le h h' none := by rw [e]; exact pI_le (Or.inl (by decide))
  have g4 : gW G 4 ≠ q := fun e => by
    have := (k.1.1.at (i := 4) (by decide)).1
    rw [e, hk] at this
    cases this
  have u4 := w.uf g4
  refine k.mv0 (k.1.le le fun i hi => (w.uf fun e => ?_).uk) (w.UK (by rw [hk]; decide)) (u4.2.2.2.2.2 82).2.2 (u4.2.2.2.2.2 83).1 (u4.2.2.2.2.2 84).1 (k.2.1.mv (u4.2.2.2.2.2 91).1 (u4.2.2.2.2.2 92).1) ⟨rfl, rfl, rfl, rfl, rfl⟩ fun a ha => ?_
  · have s1 := k.1.1.at (i := 1) (by decide)
    rw [← e] at hk
    rcases hi with rfl | rfl | rfl | rfl | rfl
    · rw [s1.1] at hk; cases hk
    · rw [kw1024 s1] at hk; cases hk
    · rw [kw1025 s1] at hk; cases hk
    · rw [kw1026 s1] at hk; cases hk
    · rw [kw1027 s1] at hk; cases hk
  · obtain ⟨j1, j2⟩ := k.2.2.2.2.2.2.2.2.2.2.2 a ha
    refine ⟨by rw [w.2.1.1]; exact j1, fun h53 h0 => ?_⟩
    rw [w.2.1.1] at h53
    by_cases ea : a = q
    · subst ea
      rw [e, fI_pI, if_pos ⟨rfl, rfl⟩] at h0
      rw [e, fI_pI, if_neg (fun z => absurd z.2 (by decide))]
      exact hy h0
    · have u := w.uf ea
      rw [(u.2.2.2.2.2 365).1] at h0
      rw [(u.2.2.2.2.2 313).1]
      exact j2 h53 h0
/-- how long the tables are -/
theorem KB.len (k : KB s D) : (rCt s).length + (rDt s).length ≤ 2600 ∧ (rC s).length + (rT s).length ≤ 2600 := by
  obtain ⟨⟨K, k1, k2, k3, k4⟩, -⟩ := k
  have := nodup_lt 1300 K k1 fun x hx => (k2 x hx).1
  omega
/-- the state behind a type's name -/
def rDn (v a t0 : Nat) (s : RSt) : RSt := (s.1, s.2.1, (v, (rDt s).length) :: s.2.2.1, s.2.2.2.1, rDt s ++ [(v, a, 0, t0)], s.2.2.2.2.2)
theorem RwF.w (k : RS G W h ts Z O s nb) (wb : WB G W h) (hi : i = 1085 ∨ i = 1086 ∨ i = 1059) (u : RwF h h' (gW G i)) : ∀ a, W a → Uf h h' a := by
  intro a ha
  refine u a (wb.1 a ha) ((wb.2.2.2 a ha).2 i (by rcases hi with rfl | rfl | rfl <;> decide)) fun e => ?_
  rcases hi with rfl | rfl | rfl
  · exact (k.2.2.2.2.2.2.2.1 a e).2.1 ha
  · exact (k.2.2.2.2.2.2.2.2.1 a e).2.1 ha
  · exact (k.2.2.2.2.2.2.2.2.2.1 a e).2.1 ha
theorem dat_decl (M : TI G W ts O h Z D nb lo hi ds h1 Z1 D1 s1 nb1 TK DC c) (hWq : W q) (hk : hK h1 q = 53) (htk : fI h1 q 313 = nI t0) (ht0 : lo ≤ t0 ∧ t0 < hi) (hlt : hi ≤ ts.length) (dv : DV W h1 ts (l.map tkN) b) (e49 : fI h1 b 349 = nI (tkN x)) (htx : (lo ≤ tkN x ∧ tkN x < hi) ∧ tkN x < ts.length ∧ Kd ts (tkN x) = 280) (hD0 : D1.1 t0) (hnx : ¬ D1.1 (tkN x)) (hu : pU h nb + c + 20000 ≤ UB) {x2 : Int32} {Q : Outcome → AH → Prop}
    (hQ : ∀ h3 Z3 nb3, TI G W ts O h Z D nb lo hi ds h3 Z3 (fun t => D1.1 t ∨ t = tkN x, (rCt s1).length, (rDt s1).length + 1) (rDn (Vl ts (tkN x)) l.length t0 s1) nb3 (tkN x :: TK) DC (c + 60) → fR h3 b 353 = some (Z3.2.2 (rDt s1).length) → (∀ a, W a → a ≠ b → a ≠ q → Uf h1 h3 a) → (∀ i, i < (rDt s1).length → Z3.2.2 i = Z1.2.2 i) → (fI h3 q 365 = 0 ↔ (fI h1 q 365 = 0 ∧ (rDt s1).length < 205)) → X G mX57_resolve (d + 7) none [] 2 [(0, .ref q), (1, .ref (gW G 4)), (2, .int (x2 + 1))] [] h3 Q) :
    DQ G (d + 6) q b x2 Q h1 := by
  obtain ⟨k1, k2, k3, k4, k5, k6, k7, k8, k9, k10⟩ := M
  obtain ⟨hkb, hWb, hl6, e51, arr, a1, a2, a3, a4, a5⟩ := dv
  rw [List.length_map] at hl6 e51
  have hKl := k3.2.2.2.len
  obtain ⟨⟨K, K1, K2, K3, K4⟩, K5, K6⟩ := id k3.2.2.2
  have hts := k1.1.2.2.2.1
  have hpu : un h1 + 19000 ≤ UB := by
    unfold pU at k9 hu
    omega
  unfold DQ
  rw [e49, e51]
  refine C.mono (r_decl (t0 := t0) (d := d + 3) k1 K6 (by omega) htx.2.1 htx.2.2 hl6 (by omega)) ?_
  rintro _ h3 ⟨p, rfl, p0, p4, r3, F3, u3, le3, e95, e82⟩
  refine KR.i ?_
  intro h4 e4
  have hW3 : ∀ a, W a → Uf h1 h3 a := fun a ha => F3 a (k2.1 a ha) (fun e => k2.2.1 (by rw [← e]; exact ha)) ((k2.2.2.2 a ha).2 2 (by decide)) ((k2.2.2.2 a ha).2 1040 (by decide))
  have wb3 : WB G W h3 := k2.mv k1.1 (fun a ha => (hW3 a ha).us) e82
  have w4 : WQ b h3 h4 := by rw [e4]; exact WQ.rf.pR
  have le4 : Le h3 h4 none := by rw [e4]; exact pR_le (Or.inl (by decide))
  have hkb3 : hK h3 b = 47 := (hW3 b hWb).1.trans hkb
  obtain ⟨r4, wb4⟩ := r3.nW wb3 w4 le4 (by rw [hkb3]; decide) hWb
  have hqb : q ≠ b := fun e => by rw [e, hkb] at hk; cases hk
  have uq4 : Uf h1 h4 q := (hW3 q hWq).tr (w4.uf hqb)
  have kw4 : KW W lo hi h1 h4 := (KW.of le3.1 hW3).tr (w4.kw (by
    have : tokA h3 b = (tkN x : Nat) := by
      rw [(hW3 b hWb).us.tok]
      unfold tokA
      rw [hkb]
      show (fI h1 b 349).toInt = _
      rw [e49, nI_toInt (by omega)]
    rw [this]
    omega) fun g hg => by
      rw [e4, fI_pR, fJ_pR, fR_pR, if_neg (fun e => by rw [e.2] at hg; exact absurd hg (by decide))]
      exact ⟨rfl, rfl, rfl⟩)
  have fin : ∀ (y : Int32) h5, h5 = pI h4 q 365 y → (y ≠ 0 → 205 ≤ (rDt s1).length ∨ fI h1 q 365 ≠ 0) → (y = 0 ↔ (fI h1 q 365 = 0 ∧ (rDt s1).length < 205)) → ∃ b21, fR h5 b 353 = some b21 ∧ (C G mX9_addName (d + 6) [.ref (gW G 4), .ref (b21)] h5 (KV Q (fun h23 => ∀ x25 : Int32, x25 = x2 + 1 → (X G mX57_resolve (d + 6 + 1) none [] 2 [(0, .ref (q)), (1, .ref (gW G 4)), (2, .int (x25))] [] h23 Q)))) := by
    intro y h5 e5 hy1 hy2
    have w5 : WQ q h4 h5 := by rw [e5]; exact WQ.rf.pI
    have le5 : Le h4 h5 none := by rw [e5]; exact pI_le (Or.inl (by decide))
    have sfq : ∀ g, sf g = true → fI h5 q g = fI h4 q g ∧ fJ h5 q g = fJ h4 q g ∧ fR h5 q g = fR h4 q g := fun g hg => by
      rw [e5, fJ_pI, fR_pI, fI_pI, if_neg (fun e => by rw [e.2] at hg; exact absurd hg (by decide))]
      exact ⟨rfl, rfl, rfl⟩
    have kw5 : KW W lo hi h4 h5 := w5.kw (by
      have : tokA h4 q = (t0 : Nat) := by
        rw [uq4.us.tok]
        unfold tokA
        rw [hk]
        show (fI h1 q 313).toInt = _
        rw [htk, nI_toInt (by omega)]
      rw [this]
      omega) sfq
    have r5 : RS G W h5 ts (Z1.1, Z1.2.1, updF Z1.2.2 (rDt s1).length p) O (s1.1, s1.2.1, s1.2.2.1, s1.2.2.2.1, rDt s1 ++ [(Vl ts (tkN x), l.length, 0, t0)], s1.2.2.2.2.2) nb1 := r4.w53 (uq4.1.trans hk) e5 fun h0 => by
      rcases hy1 h0 with z | z
      · refine ⟨(rDt s1).length, (Vl ts (tkN x), l.length, 0, t0), ?_, ?_, z⟩
        · show (rDt s1 ++ [_])[(rDt s1).length]? = _
          rw [List.getElem?_append_right (Nat.le_refl _), Nat.sub_self]
          rfl
        · show ((t0 : Nat) : Int) = _
          rw [(uq4.2.2.2.2.2 313).1, htk, nI_toInt (by omega)]
      · exact (r4.2.2.2.2.2.2.2.2.2.2.2 q hWq).2 (uq4.1.trans hk) (by rw [(uq4.2.2.2.2.2 365).1]; exact z)
    have wb5 : WB G W h5 := wb4.mv r4.1 (fun a ha => (kw5.2 a ha).1) (by rw [e5, fR_pI])
    have e353 : fR h5 b 353 = some p := by rw [e5, fR_pI, e4, fR_pR, if_pos ⟨rfl, rfl⟩]
    have eZ : updF Z1.2.2 (rDt s1).length p (rDt s1).length = p := by
      unfold updF
      rw [if_pos rfl]
    have u5 : un h5 = un h1 + 22 := by rw [w5.un, w4.un, u3]
    have ad := r_addT (d := d + 3) (c := (rDt s1).length) (y := (Vl ts (tkN x), l.length, 0, t0)) r5 (by
      show (rDt s1 ++ [_])[(rDt s1).length]? = _
      rw [List.getElem?_append_right (Nat.le_refl _), Nat.sub_self]
      rfl) (show (rT s1).length ≤ 2600 by omega) (by omega)
    refine ⟨p, e353, ?_⟩
    change C G mX9_addName (d + 6) [.ref (gW G 4), .ref (updF Z1.2.2 (rDt s1).length p (rDt s1).length)] h5 _ at ad
    rw [eZ] at ad
    refine C.mono ad ?_
    rintro _ h6 ⟨rfl, δ, r6, u6, rw6, le6, uf4⟩
    refine KV.i ?_
    rintro _ rfl
    have hW6 := RwF.w r5 wb5 (Or.inl rfl) rw6
    have kw6 : KW W lo hi h5 h6 := KW.of le6.1 hW6
    have kw16 := (kw4.tr kw5).tr kw6
    have ne : ∀ i, i < (rDt s1).length → updF Z1.2.2 (rDt s1).length p i = Z1.2.2 i := fun i hi => by
      unfold updF
      rw [if_neg (by omega)]
    have hb : b ≠ gW G 4 := fun e => k2.2.1 (by rw [← e]; exact hWb)
    have LE := ((le3.tr le4).tr le5).tr le6
    refine hQ h6 _ (nb1 + δ) ⟨r6, wb5.mv r5.1 (fun a ha => (hW6 a ha).us) (uf4.2.2.2.2.2 82).2.2, ⟨fun x' hx => Or.inl (k3.1 x' hx), rfl, ?_, ⟨tkN x :: K, List.nodup_cons.mpr ⟨fun hm => hnx (K2 _ hm).2, K1⟩, fun t ht => ?_, ?_, ?_⟩, fun y hy h5 => ?_, fun x' hx => ?_⟩, k4.tr kw16, ⟨fun t ht => ⟨Or.inl (k5.1 t ht).1, (k5.1 t ht).2⟩, ⟨by have := k5.2.1.1; rw [k3.2.1] at this; exact this, k5.2.1.2⟩, ⟨by have := k5.2.2.1; rw [k3.2.2.1] at this; show D.2.2 ≤ (rDt s1).length + 1; omega, fun i hi => ?_⟩⟩, fun t ht => ?_, k7.of rfl, r6.nbl, ?_, k10.tr LE⟩ ?_ (fun a ha hab haq => ?_) ne ?_
    · show (rDt s1).length + 1 = (rDt s1 ++ [_]).length
      rw [List.length_append, List.length_singleton]
    · rcases List.mem_cons.mp ht with rfl | ht
      · exact ⟨by omega, Or.inr rfl⟩
      · exact ⟨(K2 t ht).1, Or.inl (K2 t ht).2⟩
    · show (rCt s1).length + (rDt s1 ++ [_]).length ≤ _
      rw [List.length_append, List.length_singleton, List.length_cons]
      omega
    · show (rC s1).length + (_ :: rT s1).length ≤ _
      rw [List.length_cons, List.length_cons]
      omega
    · rcases List.mem_append.mp (show y ∈ rDt s1 ++ [_] from hy) with hy | hy
      · exact Or.inl (K5 y hy h5)
      · rw [List.mem_singleton] at hy
        subst hy
        exact Or.inl hD0
    · show x'.2.1 < (rDt s1 ++ [_]).length
      have := K6 x' hx
      rw [List.length_append]
      omega
    · show updF Z1.2.2 (rDt s1).length p i = Z.2.2 i
      have := k5.2.2.1
      rw [k3.2.2.1] at this
      rw [ne i (by omega)]
      exact k5.2.2.2 i hi
    · rcases ht with ht | ht
      · rcases k6 t ht with z | z | z
        · exact Or.inl z
        · exact Or.inr (Or.inl (List.mem_cons_of_mem _ z))
        · exact Or.inr (Or.inr z)
      · exact Or.inr (Or.inl (by rw [ht]; exact List.mem_cons_self ..))
    · have := r6.nbl
      unfold pU at k9 ⊢
      omega
    · show fR h6 b 353 = some (updF Z1.2.2 (rDt s1).length p (rDt s1).length)
      rw [eZ, ((hW6 b hWb).2.2.2.2.2 353).2.2]
      exact e353
    · exact (((hW3 a ha).tr (w4.uf hab)).tr (w5.uf haq)).tr (hW6 a ha)
    · rw [((hW6 q hWq).2.2.2.2.2 365).1, e5, fI_pI, if_pos ⟨rfl, rfl⟩]
      exact hy2
  have e0 : fI h4 q 365 = fI h1 q 365 := (uq4.2.2.2.2.2 365).1
  have e95' : fI h4 (gW G 4) 95 = (if 205 ≤ (rDt s1).length then 1 else 0) := by
    rw [((w4.uf (a := gW G 4) fun e => k2.2.1 (by rw [e]; exact hWb)).2.2.2.2.2 95).1]
    exact e95
  refine ⟨uq4.1.trans hk, fun z => ?_, fun z => ?_⟩
  · rw [e0] at z
    refine bX9_isFull G (d + 6) h4 _ (r4.1.1.at (by decide)) ⟨?_, KI.i ?_⟩
    · rw [e95']
      split
      · exact Or.inr rfl
      · exact Or.inl rfl
    · rw [e95']
      by_cases hf : 205 ≤ (rDt s1).length
      · rw [if_pos hf]
        refine ⟨fun z => absurd z (by decide), fun _ h5 e5 => fin 1 h5 e5 (fun _ => Or.inl hf) ⟨fun z => absurd z (by decide), fun z => by omega⟩⟩
      · rw [if_neg hf]
        exact ⟨fun _ h5 e5 => fin 0 h5 e5 (fun z => absurd rfl z) ⟨fun _ => ⟨z, by omega⟩, fun _ => rfl⟩, fun z => absurd rfl z⟩
  · intro h5 e5
    rw [e0] at z
    exact fin 1 h5 e5 (fun _ => Or.inr z) ⟨fun y => absurd y (by decide), fun y => absurd y.1 z⟩
end
