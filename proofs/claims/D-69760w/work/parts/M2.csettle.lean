/-! THE COMPONENT'S TYPES: what is neither known nor general becomes unit -/
/-- the variables of L are the node 2 -/
def stT (τ : Tb) (L : List Nat) : Tb := (τ.1, τ.2.1, fun z => if z ∈ L then some 2 else uS τ z)
/-- all that x is made of is known or general -/
def stl (M : Nat) (τ : Tb) (x : Nat) : Prop := ∃ K : Nat → Prop, KC M τ K ∧ K x ∧ ∀ z, K z → uS τ z = none → uN τ z ≠ -1
section
variable {M x : Nat} {τ : Tb} {rt dp sz : Nat → Nat} {L : List Nat} {ρ : Nat → Tr}
/-- roots when the variable x has become what y is -/
def rtU (rt : Nat → Nat) (x y : Nat) : Nat → Nat := fun z => if rt z = x then rt y else rt z
theorem RTs.uni {y : Nat} (r : RTs M τ rt dp) (hx : x < M) (hy : y < M) (ex : uS τ x = .none) (hne : rt y ≠ x) : RTs M (tSet τ x y) (rtU rt x y) (fun z => if rt z = x then dp z + dp y + 1 else dp z) := by
  have rx : rt x = x := (r x hx).2.2 ex
  intro z hz
  obtain ⟨r1, r2, r3⟩ := r z hz
  have e : uS (tSet τ x y) z = if z = x then some y else uS τ z := rfl
  unfold rtU
  refine ⟨?_, fun w hw => ?_, fun hn => ?_⟩
  · split
    · exact (r y hy).1
    · exact r1
  · rw [e] at hw
    dsimp only
    by_cases hzx : z = x
    · rw [if_pos hzx] at hw
      cases hw
      rw [hzx, if_pos rx, if_neg hne, if_pos rx, if_neg hne]
      exact ⟨hy, rfl, by omega⟩
    · rw [if_neg hzx] at hw
      obtain ⟨c1, c2, c3⟩ := r2 w hw
      rw [c2]
      refine ⟨c1, rfl, ?_⟩
      split <;> omega
  · rw [e] at hn
    by_cases hzx : z = x
    · rw [if_pos hzx] at hn
      cases hn
    · rw [if_neg hzx] at hn
      rw [r3 hn, if_neg hzx]
/-- roots when more has become the same -/
theorem RTs.more {τ' : Tb} {rt' dp' : Nat → Nat} (r : RTs M τ rt dp) (r' : RTs M τ' rt' dp') (kept : ∀ z y, z < M → uS τ z = some y → uS τ' z = some y) : ∀ m z, dp z < m → z < M → rt' z = rt' (rt z) := by
  intro m
  induction m with
  | zero => intro z hz; omega
  | succ m ih2 =>
    intro z hz hzM
    cases ez : uS τ z with
    | none => rw [(r z hzM).2.2 ez]
    | some y =>
      obtain ⟨c1, c2, c3⟩ := (r z hzM).2.1 y ez
      rw [c2, ((r' z hzM).2.1 y (kept z y hzM ez)).2.1]
      exact ih2 y (by omega) c1
theorem SF.uni (s : SF M τ rt dp) (kc : KC M τ (· < M)) (hx : x < M) (ex : uS τ x = none) (hv : uN τ x < 0) (b3 : B3 M τ) (hz : SZ M τ rt sz) : ∃ rt' dp', SF M (tSet τ x 2) rt' dp' ∧ SZ M (tSet τ x 2) rt' sz := by
  obtain ⟨r, nc, cp, -⟩ := id s
  have rx : rt x = x := (r x hx).2.2 ex
  have h2M : 2 < M := by have := b3.1; omega
  have n2 : uN τ (rt 2) = 9 := by
    have := nc 2 h2M (by rw [b3.2.1.2.2]; decide)
    rw [b3.2.1.2.2] at this
    exact this
  have hne : rt 2 ≠ x := fun e => by rw [e] at n2; omega
  refine ⟨rtU rt x 2, _, ⟨r.uni hx h2M ex hne, fun z hz hn => ?_, fun f hf z hz hn => ?_, ?_⟩, fun z hzM => ?_⟩
  · have := nc z hz hn
    show uN τ (rtU rt x 2 z) = uN τ z
    unfold rtU
    rw [if_neg (fun e => by rw [e] at this; change 0 ≤ uN τ z at hn; omega)]
    exact this
  · have := nc z hz hn
    show (uP τ z).map f = (uP τ (rtU rt x 2 z)).map f
    have hzx : rt z ≠ x := fun e => by rw [e] at this; change 0 ≤ uN τ z at hn; omega
    unfold rtU
    rw [if_neg hzx]
    refine cp f ⟨fun y hy => ?_, fun p hp => (by cases hp)⟩ z hz hn
    have h1 := hf.1 y hy
    have h2 := hf.1 x hx
    unfold rtU at h1 h2
    rw [if_pos rx] at h2
    by_cases c : rt y = x
    · rw [if_pos c] at h1
      rw [c, h1, h2]
    · rw [if_neg c] at h1
      exact h1
  · obtain ⟨ρ, s1, s2⟩ := s.sol kc (fun _ => gt 9 [])
    have e1 := s2 x hx (by rw [rx]; exact hv)
    have e2 := (b3.val s1).2.2
    exact Sl.fn ((Sl_set hx ex).mpr ⟨s1, by rw [e1, e2]⟩)
  · obtain ⟨z1, z2⟩ := hz z hzM
    unfold rtU
    have epc : ∀ y, pc (tSet τ x 2) y = pc τ y := fun _ => rfl
    rw [epc]
    by_cases c : rt z = x
    · obtain ⟨w1, w2⟩ := hz 2 h2M
      rw [if_pos c]
      have hx1 : sz x = 1 := by
        have := (hz x hx).2
        rw [rx] at this
        rw [this]
        unfold pc
        rw [if_neg (by omega)]
        rfl
      have h21 : sz (rt 2) = 1 := by
        have hl : (uP τ 2).map rt = (uP τ (rt 2)).map rt := cp rt r.rsp 2 h2M (by rw [b3.2.1.2.2]; decide)
        rw [b3.2.2.2.2] at hl
        have : uP τ (rt 2) = [] := by
          cases e : uP τ (rt 2) with
          | nil => rfl
          | cons a l => rw [e] at hl; cases hl
        rw [w2]
        unfold pc
        rw [if_pos (by omega), this]
        rfl
      rw [z1, c, hx1, h21]
      refine ⟨rfl, ?_⟩
      rw [← w2, h21]
    · rw [if_neg c]
      exact ⟨z1, z2⟩
theorem st_nil : stT τ [] = τ := by
  show (τ.1, τ.2.1, fun z => if z ∈ ([] : List Nat) then some 2 else uS τ z) = τ
  have : (fun z => if z ∈ ([] : List Nat) then some 2 else uS τ z) = τ.2.2 := by
    funext z
    rw [if_neg (fun q => (by cases q))]
    rfl
  rw [this]
theorem st_cons (hx : x ∉ L) : tSet (stT τ L) x 2 = stT τ (x :: L) := by
  show (τ.1, τ.2.1, fun z => if z = x then some 2 else (if z ∈ L then some 2 else uS τ z)) = (τ.1, τ.2.1, fun z => if z ∈ x :: L then some 2 else uS τ z)
  congr 2
  funext z
  by_cases c : z = x
  · rw [if_pos c, if_pos (by rw [c]; exact List.mem_cons_self ..)]
  · rw [if_neg c]
    by_cases c2 : z ∈ L
    · rw [if_pos c2, if_pos (List.mem_cons_of_mem _ c2)]
    · rw [if_neg c2, if_neg (fun q => c2 ((List.mem_cons.mp q).resolve_left c))]
theorem st_S (z : Nat) : uS (stT τ L) z = if z ∈ L then some 2 else uS τ z := rfl
theorem stl.set (h : stl M τ x) {v : Nat} (nv : uS τ v = none) (hv : uN τ v = -1) : stl M (tSet τ v 2) x := by
  obtain ⟨K, k1, k2, k3⟩ := h
  have hKv : ¬ K v := fun q => k3 v q nv hv
  have e : ∀ z, K z → uS (tSet τ v 2) z = uS τ z := fun z hz => by
    show (if z = v then some 2 else uS τ z) = _
    rw [if_neg (fun q => hKv (by rw [← q]; exact hz))]
  refine ⟨K, fun z hz => ?_, k2, fun z hz hn => k3 z hz (by rw [← e z hz]; exact hn)⟩
  obtain ⟨h1, h2, h3⟩ := k1 z hz
  rw [e z hz]
  exact ⟨h1, h2, h3⟩
theorem stl.part {p : Nat} (h : stl M τ x) (hp : p ∈ pc τ x) : stl M τ p := by
  obtain ⟨K, k1, k2, k3⟩ := h
  unfold pc at hp
  by_cases c : 0 ≤ uN τ x
  · rw [if_pos c] at hp
    exact ⟨K, k1, (k1 x k2).2.2 c p hp, k3⟩
  · rw [if_neg c] at hp
    cases hp
theorem stl.rtt (h : stl M τ x) (r : RTs M τ rt dp) : stl M τ (rt x) := by
  obtain ⟨K, k1, k2, k3⟩ := h
  exact ⟨K, k1, k1.rtt r _ x (Nat.lt_succ_self _) (k1 x k2).1 k2, k3⟩
/-- a node is settled if the parts of its root are -/
theorem stl_mk (s : SF M τ rt dp) (kc : KC M τ (· < M)) (hx : x < M) (hn : uN τ (rt x) ≠ -1) (h : ∀ p, p ∈ pc τ (rt x) → stl M τ (rt p)) : stl M τ x := by
  have r := s.1
  refine ⟨Cls M rt (fun z => z = rt x ∨ stl M τ z), Cls.kc s kc fun z hz h1 p hp => ?_, ⟨hx, Or.inl rfl⟩, ?_⟩
  · rcases h1 with h1 | h1
    · rw [h1] at hp; exact Or.inr (h p hp)
    · exact Or.inr ((h1.part hp).rtt r)
  · rintro w ⟨hw, c⟩ nw
    rw [(r w hw).2.2 nw] at c
    rcases c with c | c
    · rw [c]; exact hn
    · obtain ⟨K, k1, k2, k3⟩ := c
      exact k3 w k2 nw
end
section
variable {G : Gh} {M Pn x m : Nat} {h h0 h1 h' : AH} {τ : Tb} {sz : Nat → Nat} {L : List Nat}
/-- what holds on the way: L have become unit -/
def SI (G : Gh) (h0 h : AH) (M Pn : Nat) (τ : Tb) (sz : Nat → Nat) (L : List Nat) : Prop := (∃ fs rt dp, TyS G h M Pn (stT τ L) fs ∧ SF M (stT τ L) rt dp ∧ SZ M (stT τ L) rt sz) ∧ NmS G h M τ ∧ FTy G h0 h ∧ (∀ v, v ∈ L → v < M ∧ uS τ v = none ∧ uN τ v = -1) ∧ B3 M τ ∧ fI h (gW G 2) 44 = nI 2 ∧ ∀ z, z ∉ L → aI h (gW G 1032) z = aI h0 (gW G 1032) z
theorem c_stl (hD : DW (gW G)) (kc0 : KC M τ (· < M)) : ∀ n x D h L, sz x ≤ n → x < M → n + 3 ≤ D → SI G h0 h M Pn τ sz L → C G mX3_settle D [.ref (gW G 2), .int (nI x)] h (fun o h' => o = .returned none ∧ ∃ L', SI G h0 h' M Pn τ sz L' ∧ (∀ v, v ∈ L → v ∈ L') ∧ stl M (stT τ L') x ∧ ∀ y, stl M (stT τ L) y → stl M (stT τ L') y) := by
  intro n
  induction n with
  | zero =>
    intro x D h L hn hx _ I
    obtain ⟨⟨fs, rt, dp, -, -, hz⟩, -⟩ := I
    have := (hz x hx).1
    have := (hz x hx).2
    omega
  | succ n ih =>
    intro x D h L hn hx hDp I
    obtain ⟨D, rfl⟩ : ∃ D', D = D' + 1 := ⟨D - 1, by omega⟩
    obtain ⟨⟨fs, rt, dp, k, sf, hz⟩, nm, T, hL, b3, f44, h32⟩ := id I
    have r := sf.1
    have kc := k.kc
    have s2 := k.1.at (i := 2) (by decide)
    have hM := k.2.2.2.1
    have hr := (r x hx).1
    have nr : uS (stT τ L) (rt x) = none := r.none _ x (Nat.lt_succ_self _) hx
    have nmL : ∀ {h'' : AH}, NmS G h'' M τ → NmS G h'' M (stT τ L) := fun q => q.cg' fun _ _ => ⟨rfl, rfl⟩
    have a1 := (k.2.2.2.2.2 (rt x) hr).1
    have b3' : B3 M (stT τ L) := b3
    refine bX3_settle G D h _ _ s2 (C.ri (c_fd k r hx) ?_)
    rw [nI_cn (by omega), f44]
    have en : (aI h (gW G 1030) (rt x) = -1) ↔ uN τ (rt x) = -1 := by
      rw [i_eq, a1]
      exact Iff.rfl
    have hnL : rt x ∉ L := fun q => by rw [st_S, if_pos q] at nr; cases nr
    refine ⟨vp_in_nI (by omega) (by decide), fun e => ⟨vp_in_nI (by omega) (by decide), fun h10 e10 => ?_⟩, fun e => ?_⟩
    · have hv := en.mp e
      obtain ⟨k10, T10⟩ := k.set hD hr (by have := b3.1; omega) e10
      rw [st_cons hnL] at k10
      have nm10 := nm.mv T10 k.1 hD
      refine C.ri (c_hm k10 (nm10.cg' fun _ _ => ⟨rfl, rfl⟩) hr) ?_
      rw [if_neg (by show ¬ 0 ≤ uN τ (rt x); omega)]
      refine bX3_settle_35 G D h10 _ _ _ _ (k10.1.at (by decide)) ⟨fun _ => ⟨rfl, rt x :: L, ?_, fun v hv => List.mem_cons_of_mem _ hv, ?_, fun y hy => ?_⟩, fun q => absurd (nI_le (a := 0) (b := 0) (by omega) (by decide)) q⟩
      · obtain ⟨rt', dp', sf', hz'⟩ := sf.uni kc hr nr (by show uN τ (rt x) < 0; omega) b3' hz
        rw [st_cons hnL] at sf' hz'
        refine ⟨⟨fs, rt', dp', k10, sf', hz'⟩, nm10, T.tr T10, fun v hv' => ?_, b3, by rw [e10]; exact f44, fun z hz' => ?_⟩
        · rcases List.mem_cons.mp hv' with c | c
          · rw [c]
            rw [st_S, if_neg hnL] at nr
            exact ⟨hr, nr, hv⟩
          · exact hL v c
        · rw [e10, aI_sI, if_neg (fun w => hz' (by rw [w.2]; exact List.mem_cons_self ..))]
          exact h32 z fun w => hz' (List.mem_cons_of_mem _ w)
      · obtain ⟨rt', dp', sf', -⟩ := sf.uni kc hr nr (by show uN τ (rt x) < 0; omega) b3' hz
        rw [st_cons hnL] at sf'
        have kc' := k10.kc
        have h2M : 2 < M := by have := b3.1; omega
        have rx' : rt' x = rt' 2 := by
          have r' := sf'.1
          have q1 : rt' (rt x) = rt' 2 := ((r' (rt x) hr).2.1 2 (by rw [st_S, if_pos (List.mem_cons_self ..)])).2.1
          rw [← q1]
          exact r.more r' (fun z y hz ez => (by
            rw [← st_cons hnL]
            show (if z = rt x then some 2 else uS (stT τ L) z) = _
            rw [if_neg (fun q => (by rw [q, nr] at ez; cases ez))]
            exact ez)) _ x (Nat.lt_succ_self _) hx
        have n2 : uN τ (rt' 2) = 9 := by
          have := sf'.2.1 2 h2M (by show 0 ≤ uN τ 2; rw [b3.2.1.2.2]; decide)
          exact this.trans b3.2.1.2.2
        refine stl_mk sf' kc' hx (by rw [rx']; show uN τ (rt' 2) ≠ -1; omega) fun p hp => ?_
        rw [rx'] at hp
        have hl : (uP τ 2).map rt' = (uP τ (rt' 2)).map rt' := sf'.2.2.1 rt' sf'.1.rsp 2 h2M (by show 0 ≤ uN τ 2; rw [b3.2.1.2.2]; decide)
        rw [b3.2.2.2.2] at hl
        have e2 : uP τ (rt' 2) = [] := by
          cases e : uP τ (rt' 2) with
          | nil => rfl
          | cons a l => rw [e] at hl; cases hl
        unfold pc at hp
        split at hp
        · change p ∈ uP τ (rt' 2) at hp
          rw [e2] at hp
          cases hp
        · cases hp
      · rw [← st_cons hnL]
        exact hy.set nr hv
    · have hv : uN τ (rt x) ≠ -1 := fun q => e (en.mpr q)
      refine C.ri (c_hm k (nmL nm) hr) ?_
      have ehm : (if 0 ≤ uN (stT τ L) (rt x) then (uP (stT τ L) (rt x)).length else 0) = (pc τ (rt x)).length := by
        show (if 0 ≤ uN τ (rt x) then (uP τ (rt x)).length else 0) = _
        unfold pc
        split <;> rfl
      rw [ehm]
      have hl6 : (pc τ (rt x)).length ≤ 6 := by
        unfold pc
        by_cases c : 0 ≤ uN τ (rt x)
        · rw [if_pos c]; exact (nm _ hr c).1.2
        · rw [if_neg c]; exact Nat.zero_le _
      have szx := (hz x hx).2
      have szt := (hz x hx).1
      have epc : pc (stT τ L) (rt x) = pc τ (rt x) := rfl
      rw [epc] at szx
      have lp : ∀ g i hh L1, (pc τ (rt x)).length - i < g → i ≤ (pc τ (rt x)).length → SI G h0 hh M Pn τ sz L1 → (∀ v, v ∈ L → v ∈ L1) → (∀ j p, j < i → (pc τ (rt x))[j]? = some p → stl M (stT τ L1) p) → (∀ y, stl M (stT τ L) y → stl M (stT τ L1) y) →
          X G mX3_settle (D + 1) none [] 35 [(0, .ref (gW G 2)), (2, .int (nI (rt x))), (3, .int (nI (pc τ (rt x)).length)), (4, .int (nI i))] [] hh (fun o h' => o = .returned none ∧ ∃ L', SI G h0 h' M Pn τ sz L' ∧ (∀ v, v ∈ L → v ∈ L') ∧ stl M (stT τ L') x ∧ ∀ y, stl M (stT τ L) y → stl M (stT τ L') y) := by
        intro g
        induction g with
        | zero => intro i hh L1 hg; omega
        | succ g IH =>
          intro i hh L1 hg hi I1 hLL hdone hmono
          obtain ⟨⟨fs1, rt1, dp1, k1, sf1, hz1⟩, nm1, T1, hL1, -, f441, h321⟩ := id I1
          have kc1 := k1.kc
          have kept : ∀ z y, z < M → uS (stT τ L) z = some y → uS (stT τ L1) z = some y := fun z y hz ez => by
            rw [st_S] at ez ⊢
            by_cases c : z ∈ L
            · rw [if_pos c] at ez
              rw [if_pos (hLL z c)]
              exact ez
            · rw [if_neg c] at ez
              rw [if_neg (fun q => (by rw [(hL1 z q).2.1] at ez; cases ez))]
              exact ez
          have r1x : rt1 x = rt x := by
            rw [r.more sf1.1 kept _ x (Nat.lt_succ_self _) hx]
            refine (sf1.1 _ hr).2.2 ?_
            rw [st_S, if_neg (fun q => hv (hL1 _ q).2.2)]
            rw [st_S, if_neg hnL] at nr
            exact nr
          refine bX3_settle_35 G D hh _ _ _ _ (k1.1.at (by decide)) ?_
          rw [nI_leI (by omega) (by omega)]
          refine ⟨fun hle => ⟨rfl, L1, I1, hLL, ?_, hmono⟩, fun hle => ?_⟩
          · refine stl_mk sf1 kc1 hx (by rw [r1x]; exact hv) fun p hp => ?_
            rw [r1x] at hp
            change p ∈ pc τ (rt x) at hp
            obtain ⟨j, hj⟩ := List.getElem?_of_mem hp
            have := (List.getElem?_eq_some_iff.mp hj).1
            exact (hdone j p (by omega) hj).rtt sf1.1
          · have hil : i < (pc τ (rt x)).length := by omega
            obtain ⟨p, hpi⟩ : ∃ p, (pc τ (rt x))[i]? = some p := ⟨_, List.getElem?_eq_getElem hil⟩
            obtain ⟨hn0, hpu, hpM⟩ := pc_lt k hr (by rw [epc]; exact List.mem_of_getElem? hpi)
            have hpu' : (uP (stT τ L1) (rt x))[i]? = some p := by
              show (uP τ (rt x))[i]? = some p
              unfold pc at hpi
              rw [if_pos (show 0 ≤ uN τ (rt x) from hn0)] at hpi
              exact hpi
            obtain ⟨D', rfl⟩ : ∃ D', D = D' + 1 := ⟨D - 1, by omega⟩
            have st1 := sum_take sz _ _ _ hpi
            have st2 := sum_le sz (pc τ (rt x)) (i + 1)
            have szp := (hz1 p hpM).1
            refine C.ri (c_pt k1 sf1.1 hr hpu') (C.mono (ih (rt1 p) _ hh L1 (by omega) (sf1.1 p hpM).1 (by omega) I1) ?_)
            rintro _ h2 ⟨rfl, L2, I2, hL2, st, mono⟩
            refine KV.i ?_
            rintro _ rfl
            rw [nI_1]
            refine IH (i + 1) h2 L2 (by omega) (by omega) I2 (fun v hv => hL2 v (hLL v hv)) (fun j q hj hq => ?_) fun y hy => mono y (hmono y hy)
            by_cases hji : j = i
            · rw [hji, hpi] at hq
              cases hq
              -- the root is settled, so is the node
              obtain ⟨⟨fs2, rt2, dp2, k2, sf2, -⟩, -, -, hL2', -⟩ := id I2
              have kept2 : ∀ z y, z < M → uS (stT τ L1) z = some y → uS (stT τ L2) z = some y := fun z y hz ez => by
                rw [st_S] at ez ⊢
                by_cases c : z ∈ L1
                · rw [if_pos c] at ez
                  rw [if_pos (hL2 z c)]
                  exact ez
                · rw [if_neg c] at ez
                  rw [if_neg (fun q => (by rw [(hL2' z q).2.1] at ez; cases ez))]
                  exact ez
              have e2 : rt2 p = rt2 (rt1 p) := sf1.1.more sf2.1 kept2 _ p (Nat.lt_succ_self _) hpM
              obtain ⟨K, q1, q2, q3⟩ := st.rtt sf2.1
              refine ⟨Cls M rt2 (stl M (stT τ L2)), Cls.kc sf2 k2.kc fun z hz h1 p hp => (h1.part hp).rtt sf2.1, ⟨hpM, by rw [e2]; exact ⟨K, q1, q2, q3⟩⟩, ?_⟩
              rintro w ⟨hw, c⟩ nw
              rw [(sf2.1 w hw).2.2 nw] at c
              obtain ⟨K, k1, k2, k3⟩ := c
              exact k3 w k2 nw
            · exact mono q (hdone j q (by omega) hq)
      exact lp ((pc τ (rt x)).length + 1) 0 h L (by omega) (by omega) I (fun _ q => q) (fun j p hj => by omega) (fun _ q => q)
end
