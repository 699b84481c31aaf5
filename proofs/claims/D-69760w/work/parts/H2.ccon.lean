/-! DATATYPES: their constructors -/
section
variable {G : Gh} {d : Nat} {W N : Nat → Prop} {h h1 h2 h3 h5 h' hA : AH} {ts : List (Nat × Nat × Nat)} {t i j n nb nb' nb1 nb2 r q g fr ba lo hi m m0 m1 m2 lo1 hi1 b k c arr t0 tc u : Nat} {v : Int} {Z Z' Z1 Z2 : Zt} {D D' D1 D2 : Dm} {O : List (Nat × Nat) × List (Nat × Nat)} {s s0 s' s1 s2 s5 : RSt} {x y e x' a' b' : Tr} {l l1 l2 ds : List Tr} {TK DC : List Nat} {f : Nat → Option Nat} {A : Zt → Dm → AH → Prop} {K V : Nat → Nat}
variable {d0 rc bc : Nat} {Fd : List (List Tr)} {hs : List Tr}
theorem dm_at {f : Nat × Nat × Nat × Nat → Nat × Nat × Nat × Nat} {l : Dtb} : (l.modify i f)[j]? = if i = j then (l[j]?).map f else l[j]? := by
  rw [List.getElem?_modify]
  split
  · rfl
  · cases l[j]? <;> rfl
/-- how many constructors a type has -/
theorem RS.w54 (k : RS G W h ts Z O s nb) (hd : c < (rDt s).length) (e : h' = pI h (Z.2.2 c) 54 (nI m)) : RS G W h' ts Z O (dSet c m s) nb := by
  obtain ⟨k1, k2, k3, k4, k5, k6, k7, k8, k9, k10, k11, k12⟩ := id k
  obtain ⟨⟨U, t1, ⟨n, t2⟩, t3⟩, t4, t5, t6, t7, t8⟩ := k6
  have hk4 : hK h (Z.2.2 c) = 4 := (t4 c _ (List.getElem?_eq_getElem hd)).1
  have w : WQ (Z.2.2 c) h h' := by rw [e]; exact WQ.rf.pI
  have le : Le h h' none := by rw [e]; exact pI_le (Or.inl (by decide))
  have u : ∀ ks : List Nat, 4 ∉ ks → UK ks h h' := fun ks hn => w.UK (by rw [hk4]; exact hn)
  have uR : UK [6, 7, 1004] h h' := u _ (by decide)
  have s2 := k1.1.at (i := 2) (by decide)
  have h8 : hK h (gW G 4) = 8 := (k1.1.at (i := 4) (by decide)).1
  have u4 := w.uf (a := gW G 4) fun z => by rw [z, hk4] at h8; cases h8
  have h3' : hK h (gW G 2) = 3 := s2.1
  have u2 := w.uf (a := gW G 2) fun z => by rw [z, hk4] at h3'; cases h3'
  have h40 : hK h (gW G 1040) = 1006 := kw1040 s2
  have u40 := w.uf (a := gW G 1040) fun z => by rw [z, hk4] at h40; cases h40
  have elen : (rDt (dSet c m s)).length = (rDt s).length := List.length_modify ..
  have eat : ∀ j, (rDt (dSet c m s))[j]? = if c = j then ((rDt s)[j]?).map (fun y => (y.1, y.2.1, m, y.2.2.2)) else (rDt s)[j]? := fun j => dm_at
  have tki := k1.1.at (i := 1) (by decide)
  refine ⟨k1.le le fun j hj => (w.uf fun z => ?_).uk, k2.mv (u4.2.2.2.2.2 91).1 (u4.2.2.2.2.2 92).1, k3.mv (u _ (by decide)), k4.mv (rcap_uk k5 ⟨⟨U, t1, ⟨n, t2⟩, t3⟩, t4, t5, t6, t7, t8⟩ k7 uR) (u _ (by decide)) (u4.2.2.2.2.2 82).2.2 (u4.2.2.2.2.2 83).1 (u4.2.2.2.2.2 84).1, k5.mv (u _ (by decide)), ⟨⟨U, t1, ⟨n, t2.uK uR⟩, fun x hx => ?_⟩, fun d' x hx => ?_, fun d' h1 h2 => ?_, ?_, fun d' x hx => ?_, fun d1 d2 h1 h2 => t8 d1 d2 (by rw [← elen]; exact h1) (by rw [← elen]; exact h2)⟩, k7.mv uR, k8.mv t2 uR, ?_, ?_, k11.mv k1.1 (u _ (by decide)), JD.ext (k12.mv (u _ (by decide)) fun a ha => (le.2 a ha).1) fun d' y hy => ?_⟩
  · rw [← z] at hk4
    rcases hj with rfl | rfl | rfl | rfl | rfl
    · rw [tki.1] at hk4; cases hk4
    · rw [kw1024 tki] at hk4; cases hk4
    · rw [kw1025 tki] at hk4; cases hk4
    · rw [kw1026 tki] at hk4; cases hk4
    · rw [kw1027 tki] at hk4; cases hk4
  · obtain ⟨y, y1, y2⟩ := t3 x hx
    rw [eat, y1]
    by_cases z : c = x.2
    · rw [if_pos z]; exact ⟨_, rfl, y2⟩
    · rw [if_neg z]; exact ⟨y, rfl, y2⟩
  · rw [eat] at hx
    by_cases z : c = d'
    · subst z
      rw [if_pos rfl] at hx
      obtain ⟨y, y1, y2⟩ := Option.map_eq_some_iff.mp hx
      obtain ⟨b1, b2, b3, b4, b5, b6⟩ := t4 c y y1
      rw [← y2]
      refine ⟨by rw [w.2.1.1]; exact b1, ?_, ?_, b4, fun q => ?_, ?_⟩
      · rw [e, fJ_pI]; exact b2
      · rw [e, fI_pI, if_neg (fun z => absurd z.2 (by decide))]; exact b3
      · rw [e, fI_pI, if_neg (fun z => absurd z.2 (by decide))]; exact b5 q
      · rw [e, fI_pI, if_pos ⟨rfl, rfl⟩]
    · rw [if_neg z] at hx
      obtain ⟨b1, b2, b3, b4, b5, b6⟩ := t4 d' x hx
      have hdl := (List.getElem?_eq_some_iff.mp hx).1
      obtain ⟨a1, -, -, -, -, a6⟩ := w.uf (a := Z.2.2 d') fun z' => z (t8 c d' hd hdl z'.symm)
      exact ⟨a1.trans b1, by rw [(a6 49).2.1, (a6 50).2.1]; exact b2, (a6 51).1.trans b3, b4, fun q => (a6 52).1.trans (b5 q), (a6 54).1.trans b6⟩
  · rw [u40.2.2.2.2.1]
    exact t5 d' (by rw [← elen]; exact h1) h2
  · rw [elen, (u2.2.2.2.2.2 41).1]
    exact t6
  · obtain ⟨n', y1⟩ := t7 d' x hx
    rw [eat, y1]
    by_cases z : c = d'
    · rw [if_pos z]; exact ⟨_, rfl⟩
    · rw [if_neg z]; exact ⟨_, rfl⟩
  · obtain ⟨⟨n, k2⟩, -⟩ := k5
    exact k9.mv k2 uR
  · obtain ⟨n, k2⟩ := k7
    exact k10.mv k2 uR
  · rw [eat, hy]
    by_cases z : c = d'
    · rw [if_pos z]; exact ⟨_, rfl, rfl⟩
    · rw [if_neg z]; exact ⟨_, rfl, rfl⟩
theorem tk_len (hw : wf K (ls ds) m0 hi) (hs : ∀ f, f ∈ ds → shD V n f) : ds.length + (TKc ds).length ≤ hi - m0 := by
  obtain ⟨n1, n2, b1, b2, -⟩ := dat_rng ds m0 hi hw hs
  have := nodup_lt (hi - m0) ((TKd ds ++ TKc ds).map fun t => t - m0) (List.pairwise_map.mpr ((List.nodup_append.mpr ⟨n1, n2, fun a ha b hb e => by
    have h1 := (b1 a ha).2
    have h2 := (b2 b hb).2
    rw [e, h2] at h1
    cases h1⟩).imp_of_mem fun {a b} ha hb hne => by
      have ba : m0 ≤ a := by
        rcases List.mem_append.mp ha with z | z
        · exact (b1 a z).1.1
        · exact (b2 a z).1.1
      have bb : m0 ≤ b := by
        rcases List.mem_append.mp hb with z | z
        · exact (b1 b z).1.1
        · exact (b2 b z).1.1
      omega)) fun y hy => by
    obtain ⟨t, ht, e⟩ := List.mem_map.mp hy
    rcases List.mem_append.mp ht with z | z
    · have := (b1 t z).1
      omega
    · have := (b2 t z).1
      omega
  rw [List.length_map, List.length_append] at this
  have hln : (TKd ds).length = ds.length := List.length_map ..
  omega
end
