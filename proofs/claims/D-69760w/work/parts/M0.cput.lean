/-! THE COMPONENT'S TYPES: a type is written down -/
/-- a type as a scheme: all its variables by the order in which they come; Nv: those that have come -/
def pT (τ : Tb) (rt : Nat → Nat) : Nat → Nat → List Nat → Tr × List Nat
  | 0, _, Nv => (.num 0, Nv)
  | f + 1, x, Nv => if uN τ (rt x) < 0 then (if rt x ∈ Nv then (.neg (.num (Nv.idxOf (rt x) : Nat)), Nv) else (.neg (.num (Nv.length : Nat)), Nv ++ [rt x]))
      else
        let r := (uP τ (rt x)).foldl (fun (a : List Tr × List Nat) p => (a.1 ++ [(pT τ rt f p a.2).1], (pT τ rt f p a.2).2)) ([], Nv)
        (gt (uN τ (rt x)) r.1, r.2)
/-- but for the table and an array all stays -/
def FTa (G : Gh) (arr : Nat) (h h' : AH) : Prop := (∀ a, a ≠ arr → (∀ i, i ∈ TyC → a ≠ gW G i) → Uf h h' a) ∧ un h' = un h ∧ Le h h' none
section
variable {G : Gh} {d M Pn x arr : Nat} {h h1 h2 h' : AH} {τ : Tb} {fs rt dp : Nat → Nat} {Nv : List Nat}
theorem FTy.fa (T : FTy G h h') : FTa G arr h h' := ⟨fun a _ ha => T.1 a ha, T.2.1, T.2.2⟩
theorem FTa.tr (a : FTa G arr h h1) (b : FTa G arr h1 h') : FTa G arr h h' := ⟨fun x hx hy => (a.1 x hx hy).tr (b.1 x hx hy), b.2.1.trans a.2.1, a.2.2.tr b.2.2⟩
theorem FTa.sI {j : Nat} {v : Int32} (e : h' = sI h arr j v) : FTa G arr h h' := by
  rw [e]
  refine ⟨fun x hx _ => ⟨rfl, rfl, ?_, rfl, rfl, fun g => ⟨rfl, rfl, rfl⟩⟩, rfl, sI_le⟩
  funext y
  rw [aI_sI, if_neg (fun e => hx e.1)]
theorem NmS.mva (nm : NmS G h M τ) (T : FTa G arr h h') (hk : hK h arr = 1000) (hns : Ns (gW G) arr) (sA : SoA G h) (hD : DW (gW G)) : NmS G h' M τ := by
  intro x hx hn
  obtain ⟨n1, b, n3, n4, n5⟩ := nm x hx hn
  have s2 := sA.at (i := 2) (by decide)
  have u40 := T.1 (gW G 1040) (fun e => by have := kw1040 s2; rw [e, hk] at this; exact absurd this (by decide)) fun i hi z => by
    have : 1040 = i := hD 1040 i (by decide) (by unfold TyC at hi; simp only [List.mem_cons, List.not_mem_nil, or_false] at hi; rcases hi with rfl | rfl | rfl | rfl | rfl | rfl | rfl | rfl | rfl <;> decide) z
    rw [← this] at hi
    exact absurd hi (by decide)
  have kinds : ∀ i, i ∈ TyC → hK h (gW G i) ≠ 4 := fun i hi => by
    unfold TyC at hi
    simp only [List.mem_cons, List.not_mem_nil, or_false] at hi
    rcases hi with rfl | rfl | rfl | rfl | rfl | rfl | rfl | rfl | rfl
    · rw [s2.1]; decide
    · rw [kw1030 s2]; decide
    · rw [kw1031 s2]; decide
    · rw [kw1032 s2]; decide
    · rw [kw1033 s2]; decide
    · rw [kw1034 s2]; decide
    · rw [kw1035 s2]; decide
    · rw [kw1039 s2]; decide
    · rw [kw1046 s2]; decide
  have ub := T.1 b (fun e => by rw [e, hk] at n4; exact absurd n4 (by decide)) fun i hi z => kinds i hi (by rw [← z]; exact n4)
  exact ⟨n1, b, by rw [u40.2.2.2.2.1]; exact n3, ub.1.trans n4, (ub.2.2.2.2.2 51).1.trans n5⟩
theorem TyS.wa {j : Nat} {v : Int32} (k : TyS G h M Pn τ fs) (ha : ∀ i, i ∈ TyC → arr ≠ gW G i) (e : h' = sI h arr j v) : TyS G h' M Pn τ fs := by
  obtain ⟨sA, e36, e37, hM, hPn, hA⟩ := k
  have A : ∀ i, i ∈ TyC → ∀ j, aI h' (gW G i) j = aI h (gW G i) j := fun i hi j => by rw [e, aI_sI, if_neg (fun z => ha i hi z.1.symm)]
  have f : fI h' = fI h := by rw [e]; rfl
  refine ⟨sA.le (by rw [e]; exact sI_le), by rw [f]; exact e36, by rw [f]; exact e37, hM, hPn, fun z hz => ?_⟩
  obtain ⟨b1, b2, b3, b4, b5, b6⟩ := hA z hz
  rw [A 1030 (by decide), A 1031 (by decide), A 1032 (by decide)]
  exact ⟨b1, b2, b3, b4, b5, fun k p hp => by rw [A 1035 (by decide)]; exact b6 k p hp⟩
/-- what holds on the way: variables that have come have the mark w and their numbers -/
def WI (G : Gh) (h0 h : AH) (arr M Pn : Nat) (τ : Tb) (fs : Nat → Nat) (w : Nat) (Nv : List Nat) (out : List Int) : Prop :=
  (TyS G h M Pn τ fs ∧ NmS G h M τ ∧ FTa G arr h0 h ∧ fI h (gW G 2) 38 = fI h0 (gW G 2) 38) ∧ (fI h (gW G 2) 45 = nI out.length ∧ fI h (gW G 2) 47 = nI w ∧ fI h (gW G 2) 48 = nI Nv.length) ∧ (∀ z, z < M → (z ∈ Nv ↔ aI h (gW G 1033) z = nI w) ∧ (z ∈ Nv → aI h (gW G 1034) z = nI (Nv.idxOf z)) ∧ (aI h (gW G 1033) z = nI w ∨ aI h (gW G 1033) z = aI h0 (gW G 1033) z)) ∧ (Nv.Nodup ∧ ∀ z, z ∈ Nv → z < M) ∧ (hK h arr = 1000 ∧ hL h arr = hL h0 arr) ∧ (∀ (j : Nat) (v : Int), out[j]? = some v → (aI h arr j).toInt = v) ∧ ∀ z, aI h (gW G 1032) z = aI h0 (gW G 1032) z
theorem c_put {h0 : AH} {sz : Nat → Nat} {w : Nat} (hD : DW (gW G)) (har : ∀ i, i ∈ TyC → arr ≠ gW G i) (hns : Ns (gW G) arr) (r : RTs M τ rt dp) (kc : KC M τ (· < M)) (hz : SZ M τ rt sz) (hw : w < 2147483648) (hl2 : hL h0 arr < 100000) :
    ∀ n x D h Nv out f, sz x ≤ n → n ≤ f → x < M → n + 3 ≤ D → WI G h0 h arr M Pn τ fs w Nv out → out.length + sz x ≤ hL h0 arr → C G mX3_put D [.ref (gW G 2), .int (nI x), .ref arr] h (fun o h' => o = .returned none ∧ WI G h0 h' arr M Pn τ fs w (pT τ rt f x Nv).2 (out ++ enc (pT τ rt f x Nv).1) ∧ (enc (pT τ rt f x Nv).1).length = sz x) := by
  intro n
  induction n with
  | zero =>
    intro x D h Nv out f hn _ hx
    have := (hz x hx).1
    have := (hz x hx).2
    omega
  | succ n ih =>
    intro x D h Nv out f hn hf hx hDp I hB
    obtain ⟨D, rfl⟩ : ∃ D', D = D' + 1 := ⟨D - 1, by omega⟩
    obtain ⟨f, rfl⟩ : ∃ f', f = f' + 1 := ⟨f - 1, by omega⟩
    obtain ⟨⟨k, nm, T, f38⟩, ⟨f45, f47, f48⟩, hm, ⟨nd, hNv⟩, ⟨hka, hla⟩, ho, h32⟩ := id I
    have s2 := k.1.at (i := 2) (by decide)
    have hM := k.2.2.2.1
    have hr := (r x hx).1
    have nr : uS τ (rt x) = none := r.none _ x (Nat.lt_succ_self _) hx
    obtain ⟨z1, z2⟩ := hz x hx
    have a1 := (k.2.2.2.2.2 (rt x) hr).1
    have hNl : Nv.length ≤ 150000 := by
      have := nodup_lt M Nv nd hNv
      omega
    refine bX3_put G D h _ _ _ s2 (C.ri (c_fd k r hx) ?_)
    rw [nI_cn (by omega), Int32.le_iff_toInt_le, a1, f45, f47, nI_cn (by omega)]
    refine ⟨vp_in_nI (by omega) (by decide), fun hp => ?_, fun hp => ⟨vp_in_nI (by omega) (by decide), ?_⟩⟩
    · change (0 : Int) ≤ _ at hp
      have hpc : pc τ (rt x) = uP τ (rt x) := by unfold pc; rw [if_pos hp]
      rw [hpc] at z2
      refine ⟨vp_in_nI (by omega) (by decide), hka, hns, by rw [hla]; exact vp_in_nI (by omega) (by omega), fun h9 e9 h12 e12 => ?_⟩
      have k9 := k.wa har e9
      have f9 : fI h9 = fI h := by rw [e9]; rfl
      rw [f9, f45, nI_1] at e12
      obtain ⟨k12, T12⟩ := k9.pf (Or.inr (Or.inl rfl)) e12
      have Ta : FTa G arr h h12 := (FTa.sI e9).tr T12.fa
      have nm12 := nm.mva Ta hka hns k.1 hD
      refine C.ri (c_hm k12 nm12 hr) ?_
      rw [if_pos hp]
      have hl6 : (uP τ (rt x)).length ≤ 6 := (nm _ hr hp).1.2
      have I12 : WI G h0 h12 arr M Pn τ fs w Nv (out ++ [uN τ (rt x)]) := by
        have aC : ∀ i, i ∈ TyC → ∀ j, aI h12 (gW G i) j = aI h (gW G i) j := fun i hi j => by rw [e12, aI_pI, e9, aI_sI, if_neg (fun z => har i hi z.1.symm)]
        have g : ∀ g, g ≠ 45 → fI h12 (gW G 2) g = fI h (gW G 2) g := fun g hg => by rw [e12, fI_pI, if_neg (fun z => hg z.2), f9]
        refine ⟨⟨k12, nm12, T.tr Ta, (g 38 (by decide)).trans f38⟩, ⟨by rw [e12, fI_pI, if_pos ⟨rfl, rfl⟩, List.length_append]; rfl, (g 47 (by decide)).trans f47, (g 48 (by decide)).trans f48⟩, fun z hz => by rw [aC 1033 (by decide), aC 1034 (by decide)]; exact hm z hz, ⟨nd, hNv⟩, ⟨by rw [e12, hK_pI, e9]; exact hka, by rw [e12, hL_pI, e9]; exact hla⟩, fun j v hv => ?_, fun z => by rw [aC 1032 (by decide)]; exact h32 z⟩
        rw [e12, aI_pI, e9, aI_sI]
        by_cases c : j = out.length
        · rw [if_pos ⟨rfl, c⟩]
          rw [c, List.getElem?_append_right (Nat.le_refl _), Nat.sub_self] at hv
          cases hv
          exact a1
        · rw [if_neg (fun z => c z.2)]
          have hj := (List.getElem?_eq_some_iff.mp hv).1
          rw [List.length_append, List.length_singleton] at hj
          rw [List.getElem?_append_left (by omega)] at hv
          exact ho j v hv
      -- the parts
      have lp : ∀ g i hh, (uP τ (rt x)).length - i < g → i ≤ (uP τ (rt x)).length → ∀ rs : List Tr × List Nat, rs = ((uP τ (rt x)).take i).foldl (fun (a : List Tr × List Nat) p => (a.1 ++ [(pT τ rt f p a.2).1], (pT τ rt f p a.2).2)) ([], Nv) → WI G h0 hh arr M Pn τ fs w rs.2 (out ++ uN τ (rt x) :: enc (ls rs.1)) → (enc (ls rs.1)).length = (((uP τ (rt x)).take i).map sz).sum → rs.1.length = i →
          X G mX3_put (D + 1) none [] 115 [(0, .ref (gW G 2)), (2, .ref arr), (3, .int (nI (rt x))), (4, .int (nI (uP τ (rt x)).length)), (5, .int (nI i))] [] hh (fun o h' => o = .returned none ∧ WI G h0 h' arr M Pn τ fs w (pT τ rt (f + 1) x Nv).2 (out ++ enc (pT τ rt (f + 1) x Nv).1) ∧ (enc (pT τ rt (f + 1) x Nv).1).length = sz x) := by
        intro g
        induction g with
        | zero => intro i hh hg; omega
        | succ g IH =>
          intro i hh hg hi rs ers I1 hlen hrl
          obtain ⟨⟨k1, nm1, -, -⟩, -⟩ := id I1
          refine bX3_put_115 G D hh _ _ _ _ _ (k1.1.at (by decide)) ?_
          rw [nI_leI (by omega) (by omega)]
          refine ⟨fun hle => ?_, fun hle => ?_⟩
          · have ei : i = (uP τ (rt x)).length := by omega
            rw [ei, List.take_length] at ers hlen
            have e : pT τ rt (f + 1) x Nv = (gt (uN τ (rt x)) rs.1, rs.2) := by
              conv => lhs; unfold pT
              rw [if_neg (by omega), ← ers]
            rw [e]
            refine ⟨rfl, I1, ?_⟩
            show (uN τ (rt x) :: enc (ls rs.1)).length = sz x
            rw [List.length_cons, hlen]
            omega
          · have hil : i < (uP τ (rt x)).length := by omega
            obtain ⟨p, hpi⟩ : ∃ p, (uP τ (rt x))[i]? = some p := ⟨_, List.getElem?_eq_getElem hil⟩
            have hpM : p < M := (kc _ hr).2.2 hp p (List.mem_of_getElem? hpi)
            have st1 := sum_take sz _ _ _ hpi
            have st2 := sum_le sz (uP τ (rt x)) (i + 1)
            have szp := (hz p hpM).1
            obtain ⟨D', rfl⟩ : ∃ D', D = D' + 1 := ⟨D - 1, by omega⟩
            refine C.ri (c_pt k1 r hr hpi) ?_
            have ept : ∀ N2, pT τ rt f (rt p) N2 = pT τ rt f p N2 := fun N2 => by
              cases f with
              | zero => rfl
              | succ f => unfold pT; rw [r.id hpM]
            refine C.mono (ih (rt p) _ hh rs.2 (out ++ uN τ (rt x) :: enc (ls rs.1)) f (by omega) (by omega) (r p hpM).1 (by omega) I1 (by rw [List.length_append, List.length_cons, hlen]; omega)) ?_
            rintro _ h2 ⟨rfl, I2, hl2'⟩
            rw [ept] at I2 hl2'
            refine KV.i ?_
            rintro _ rfl
            rw [nI_1]
            have encapp : ∀ (l : List Tr) (y : Tr), enc (ls (l ++ [y])) = enc (ls l) ++ enc y := fun l y => by
              rw [enc_ls, enc_ls, List.map_append, List.flatten_append]
              show _ ++ (enc y ++ []) = _
              rw [List.append_nil]
            refine IH (i + 1) h2 (by omega) (by omega) (rs.1 ++ [(pT τ rt f p rs.2).1], (pT τ rt f p rs.2).2) ?_ ?_ ?_ ?_
            · rw [List.take_add_one, hpi, List.foldl_append, ← ers]
              rfl
            · dsimp only
              rw [encapp, ← List.cons_append, ← List.append_assoc]
              exact I2
            · dsimp only
              rw [encapp, List.length_append, hlen, st1, hl2', szp]
            · dsimp only
              rw [List.length_append, hrl]
              rfl
      exact lp ((uP τ (rt x)).length + 1) 0 h12 (by omega) (by omega) ([], Nv) rfl I12 rfl rfl
    · change ¬ (0 : Int) ≤ _ at hp
      have hv : uN τ (rt x) < 0 := by omega
      have hpc : pc τ (rt x) = [] := by unfold pc; rw [if_neg hp]
      have sz1 : sz x = 1 := by rw [z1, z2, hpc]; rfl
      obtain ⟨m1, m2, m3⟩ := hm (rt x) hr
      -- the number is written
      have fin : ∀ h1 N2 j, WI G h0 h1 arr M Pn τ fs w N2 out → N2.idxOf (rt x) = j → rt x ∈ N2 → pT τ rt (f + 1) x Nv = (.neg (.num (j : Nat)), N2) → ∀ h22, h22 = sI h1 arr out.length (-1 - aI h1 (gW G 1034) (rt x)) → ∀ h25, h25 = pI h22 (gW G 2) 45 (fI h22 (gW G 2) 45 + 1) → WI G h0 h25 arr M Pn τ fs w (pT τ rt (f + 1) x Nv).2 (out ++ enc (pT τ rt (f + 1) x Nv).1) ∧ (enc (pT τ rt (f + 1) x Nv).1).length = sz x := by
        intro h1 N2 j I1 ej hin epT h22 e22 h25 e25
        obtain ⟨⟨k1, nm1, T1, g38⟩, ⟨g45, g47, g48⟩, hm1, ⟨nd1, hNv1⟩, ⟨hka1, hla1⟩, ho1, g32⟩ := I1
        have c34 : aI h1 (gW G 1034) (rt x) = nI j := by rw [← ej]; exact (hm1 (rt x) hr).2.1 hin
        have jl : j < N2.length := by rw [← ej]; exact List.idxOf_lt_length_iff.mpr hin
        have nl := nodup_lt M N2 nd1 hNv1
        rw [c34] at e22
        have k22 := k1.wa har e22
        have f22 : fI h22 = fI h1 := by rw [e22]; rfl
        rw [f22, g45, nI_1] at e25
        obtain ⟨k25, T25⟩ := k22.pf (Or.inr (Or.inl rfl)) e25
        have Ta : FTa G arr h1 h25 := (FTa.sI e22).tr T25.fa
        have aC : ∀ i, i ∈ TyC → ∀ j, aI h25 (gW G i) j = aI h1 (gW G i) j := fun i hi j => by rw [e25, aI_pI, e22, aI_sI, if_neg (fun z => har i hi z.1.symm)]
        have g : ∀ g, g ≠ 45 → fI h25 (gW G 2) g = fI h1 (gW G 2) g := fun g hg => by rw [e25, fI_pI, if_neg (fun z => hg z.2), f22]
        rw [epT]
        refine ⟨⟨⟨k25, nm1.mva Ta hka1 hns k1.1 hD, T1.tr Ta, (g 38 (by decide)).trans g38⟩, ⟨by rw [e25, fI_pI, if_pos ⟨rfl, rfl⟩, List.length_append]; rfl, (g 47 (by decide)).trans g47, (g 48 (by decide)).trans g48⟩, fun z hz => by rw [aC 1033 (by decide), aC 1034 (by decide)]; exact hm1 z hz, ⟨nd1, hNv1⟩, ⟨by rw [e25, hK_pI, e22]; exact hka1, by rw [e25, hL_pI, e22]; exact hla1⟩, fun i v hv => ?_, fun z => by rw [aC 1032 (by decide)]; exact g32 z⟩, by rw [sz1]; rfl⟩
        rw [e25, aI_pI, e22, aI_sI]
        by_cases c : i = out.length
        · rw [if_pos ⟨rfl, c⟩]
          rw [c, List.getElem?_append_right (Nat.le_refl _), Nat.sub_self] at hv
          have hv' : some (-1 - (j : Int)) = some v := hv
          rw [← Option.some.inj hv', i_sub, nI_toInt (by omega)]
          · rfl
          · rw [nI_toInt (by omega)]; show _ ≤ -1 - (j : Int); omega
          · rw [nI_toInt (by omega)]; show -1 - (j : Int) ≤ _; omega
        · rw [if_neg (fun z => c z.2)]
          have hj := (List.getElem?_eq_some_iff.mp hv).1
          rw [List.length_append] at hj
          change i < out.length + 1 at hj
          rw [List.getElem?_append_left (by omega)] at hv
          exact ho1 i v hv
      refine ⟨fun e => ⟨vp_in_nI (by omega) (by decide), hka, hns, by rw [hla]; exact vp_in_nI (by omega) (by omega), fun h22 e22 h25 e25 => ⟨rfl, ?_⟩⟩, fun e => ⟨vp_in_nI (by omega) (by decide), fun h28 e28 => ⟨vp_in_nI (by omega) (by decide), fun h31 e31 h33 e33 => ⟨vp_in_nI (by omega) (by decide), ?_⟩⟩⟩⟩
      · have hin := m1.mpr e
        refine fin h Nv _ I rfl hin ?_ h22 e22 h25 e25
        unfold pT
        rw [if_pos hv, if_pos hin]
      · have hnin : rt x ∉ Nv := fun q => e (m1.mp q)
        have f28 : fI h28 = fI h := by rw [e28]; rfl
        have f31 : fI h31 = fI h := by rw [e31, fI_sI, f28]
        rw [f28, f48] at e31
        rw [f31, f48, nI_1] at e33
        obtain ⟨k28, T28⟩ := k.ot hD (Or.inl rfl) e28
        obtain ⟨k31, T31⟩ := k28.ot hD (Or.inr (Or.inl rfl)) e31
        obtain ⟨k33, T33⟩ := k31.pf (Or.inr (Or.inr (Or.inr rfl))) e33
        have T3 := (T28.tr T31).tr T33
        have n4 : gW G 1034 ≠ gW G 1033 := fun z => absurd (hD 1034 1033 (by decide) (by decide) z) (by decide)
        have n2 : ∀ i, (i = 1033 ∨ i = 1034) → gW G 1032 ≠ gW G i := fun i hi z => by
          have := hD 1032 i (by decide) (by rcases hi with rfl | rfl <;> decide) z
          omega
        have m33 : ∀ z, aI h33 (gW G 1033) z = if z = rt x then nI w else aI h (gW G 1033) z := fun z => by
          rw [e33, aI_pI, e31, aI_sI, if_neg (fun q => n4 q.1.symm), e28, aI_sI]
          by_cases q : z = rt x
          · rw [if_pos ⟨rfl, q⟩, if_pos q]
          · rw [if_neg (fun w => q w.2), if_neg q]
        have c33 : ∀ z, aI h33 (gW G 1034) z = if z = rt x then nI Nv.length else aI h (gW G 1034) z := fun z => by
          rw [e33, aI_pI, e31, aI_sI]
          by_cases q : z = rt x
          · rw [if_pos ⟨rfl, q⟩, if_pos q]
          · rw [if_neg (fun w => q w.2), if_neg q, e28, aI_sI, if_neg (fun q => n4 q.1)]
        have u33 := T3.1 arr har
        have I33 : WI G h0 h33 arr M Pn τ fs w (Nv ++ [rt x]) out := by
          have g : ∀ g, g ≠ 48 → fI h33 (gW G 2) g = fI h (gW G 2) g := fun g hg => by rw [e33, fI_pI, if_neg (fun z => hg z.2), f31]
          refine ⟨⟨k33, nm.mv T3 k.1 hD, T.tr T3.fa, (g 38 (by decide)).trans f38⟩, ⟨(g 45 (by decide)).trans f45, (g 47 (by decide)).trans f47, by rw [e33, fI_pI, if_pos ⟨rfl, rfl⟩, List.length_append]; rfl⟩, fun z hz => ?_, ⟨?_, fun z hz => ?_⟩, ⟨u33.1.trans hka, u33.2.1.trans hla⟩, fun j v hv => by rw [u33.2.2.1]; exact ho j v hv, fun z => ?_⟩
          · obtain ⟨q1, q2, q3⟩ := hm z hz
            rw [m33, c33]
            by_cases q : z = rt x
            · rw [if_pos q, if_pos q]
              refine ⟨⟨fun _ => rfl, fun _ => List.mem_append_right _ (by rw [q]; exact List.mem_cons_self ..)⟩, fun _ => ?_, Or.inl rfl⟩
              rw [q, List.idxOf_append, if_neg hnin, List.idxOf_cons_self]
              congr 1
              omega
            · rw [if_neg q, if_neg q]
              have hiff : z ∈ Nv ++ [rt x] ↔ z ∈ Nv := ⟨fun w => (List.mem_append.mp w).resolve_right fun w => q ((List.mem_cons.mp w).resolve_right fun w => (by cases w)), fun w => List.mem_append_left _ w⟩
              refine ⟨hiff.trans q1, fun w => ?_, q3⟩
              rw [List.idxOf_append, if_pos (hiff.mp w)]
              exact q2 (hiff.mp w)
          · rw [List.nodup_append]
            refine ⟨nd, by simp, fun a ha b hb => ?_⟩
            rw [(List.mem_cons.mp hb).resolve_right fun w => by cases w]
            exact fun e => hnin (by rw [← e]; exact ha)
          · rcases List.mem_append.mp hz with w | w
            · exact hNv z w
            · rw [(List.mem_cons.mp w).resolve_right fun w => by cases w]
              exact hr
          · rw [e33, aI_pI, e31, aI_sI, if_neg (fun q => n2 1034 (Or.inr rfl) q.1), e28, aI_sI, if_neg (fun q => n2 1033 (Or.inl rfl) q.1)]
            exact h32 z
        refine ⟨I33.2.2.2.2.1.1, hns, by rw [I33.2.2.2.2.1.2, I33.2.1.1]; exact vp_in_nI (by omega) (by omega), fun h37 e37 h40 e40 => ⟨rfl, ?_⟩⟩
        rw [I33.2.1.1, nI_cn (by omega)] at e37
        refine fin h33 (Nv ++ [rt x]) Nv.length I33 ?_ (List.mem_append_right _ (List.mem_cons_self ..)) ?_ h37 e37 h40 e40
        · rw [List.idxOf_append, if_neg hnin, List.idxOf_cons_self]
          omega
        · unfold pT
          rw [if_pos hv, if_neg hnin]
end
