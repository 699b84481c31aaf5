/-! THE COMPONENT'S TYPES: whether no type is a part of itself -/
/-- the parts of a node that has a name -/
def pc (τ : Tb) (x : Nat) : List Nat := if 0 ≤ uN τ x then uP τ x else []
/-- nodes on the way down: parts that are behind them are closed, but for the next one on the way -/
def StkOK (τ : Tb) (rt : Nat → Nat) (Cl : List Nat) : List (Nat × Nat) → Option Nat → Prop
  | [], _ => True
  | (x, k) :: L, ch => k ≤ (pc τ x).length ∧ (∀ i p, i < k → (pc τ x)[i]? = some p → rt p ∈ Cl ∨ ch = some (rt p)) ∧ (∀ y, ch = some y → ∃ p, p ∈ pc τ x ∧ rt p = y) ∧ StkOK τ rt Cl L (some x)
/-- closed nodes, the latest first: their parts were closed before them -/
def ClOK (τ : Tb) (rt : Nat → Nat) : List Nat → Prop
  | [] => True
  | z :: Cl => (∀ p, p ∈ pc τ z → rt p ∈ Cl) ∧ ClOK τ rt Cl
/-- how many were closed before -/
def rkk : List Nat → Nat → Nat
  | [], _ => 0
  | z :: l, x => if x = z then l.length + 1 else rkk l x
section
variable {τ : Tb} {rt : Nat → Nat} {Cl Cl' : List Nat} {L : List (Nat × Nat)}
theorem StkOK.mono (hm : ∀ z, z ∈ Cl → z ∈ Cl') : ∀ (L : List (Nat × Nat)) (ch : Option Nat), StkOK τ rt Cl L ch → StkOK τ rt Cl' L ch := by
  intro L
  induction L with
  | nil => intro _ _; trivial
  | cons p L ih =>
    obtain ⟨x, k⟩ := p
    rintro ch ⟨h1, h2, h3, h4⟩
    exact ⟨h1, fun i p hi hp => (h2 i p hi hp).imp (hm _) id, h3, ih _ h4⟩
theorem StkOK.close {x : Nat} (h : StkOK τ rt Cl L (some x)) : StkOK τ rt (x :: Cl) L none := by
  cases L with
  | nil => trivial
  | cons p L =>
    obtain ⟨y, k⟩ := p
    obtain ⟨h1, h2, -, h4⟩ := h
    refine ⟨h1, fun i p hi hp => Or.inl ?_, fun y e => (by cases e), StkOK.mono (fun z hz => List.mem_cons_of_mem _ hz) _ _ h4⟩
    rcases h2 i p hi hp with q | q
    · exact List.mem_cons_of_mem _ q
    · cases q
      exact List.mem_cons_self ..
theorem StkOK.km {km : Nat → Nat} (hk : ∀ x p, p ∈ pc τ x → (∃ k, (x, k) ∈ L) → km (rt p) < km x) : ∀ (L' : List (Nat × Nat)) (x : Nat), (∀ p, p ∈ L' → p ∈ L) → StkOK τ rt Cl L' (some x) → ∀ y, y ∈ L'.map (·.1) → km x < km y := by
  intro L'
  induction L' with
  | nil => intro x _ _ y hy; cases hy
  | cons p L' ih =>
    obtain ⟨z, k⟩ := p
    rintro x hs ⟨-, -, h3, h4⟩ y hy
    obtain ⟨p, hp, e⟩ := h3 x rfl
    have h1 := hk z p hp ⟨k, hs _ (List.mem_cons_self ..)⟩
    rw [e] at h1
    rcases List.mem_cons.mp hy with rfl | hy
    · exact h1
    · exact Nat.lt_trans h1 (ih z (fun p hp => hs p (List.mem_cons_of_mem _ hp)) h4 y hy)
theorem rkk_le : ∀ (l : List Nat) (x : Nat), rkk l x ≤ l.length := by
  intro l
  induction l with
  | nil => intro _; exact Nat.le_refl _
  | cons z l ih =>
    intro x
    show (if x = z then l.length + 1 else rkk l x) ≤ l.length + 1
    split
    · exact Nat.le_refl _
    · exact Nat.le_succ_of_le (ih x)
theorem ClOK.rkl : ∀ (Cl : List Nat), Cl.Nodup → ClOK τ rt Cl → ∀ z, z ∈ Cl → ∀ p, p ∈ pc τ z → rt p ∈ Cl ∧ rkk Cl (rt p) < rkk Cl z := by
  intro Cl
  induction Cl with
  | nil => intro _ _ z hz; cases hz
  | cons w Cl ih =>
    rintro nd ⟨h1, h2⟩ z hz p hp
    rw [List.nodup_cons] at nd
    have hin : rt p ∈ Cl := by
      rcases List.mem_cons.mp hz with rfl | hz
      · exact h1 p hp
      · exact (ih nd.2 h2 z hz p hp).1
    have hne : rt p ≠ w := fun e => nd.1 (by rw [← e]; exact hin)
    refine ⟨List.mem_cons_of_mem _ hin, ?_⟩
    show (if rt p = w then Cl.length + 1 else rkk Cl (rt p)) < (if z = w then Cl.length + 1 else rkk Cl z)
    rw [if_neg hne]
    by_cases hw : z = w
    · rw [if_pos hw]
      have := rkk_le Cl (rt p)
      omega
    · rw [if_neg hw]
      exact (ih nd.2 h2 z ((List.mem_cons.mp hz).resolve_left hw) p hp).2
end
/-- marks: m is the latest -/
def MK (G : Gh) (h : AH) (M m : Nat) : Prop := fI h (gW G 2) 38 = nI m ∧ ∀ z, z < M → ∃ j, j ≤ m ∧ aI h (gW G 1033) z = nI j
section
variable {G : Gh} {d M Pn m j t : Nat} {h h0 h1 h' : AH} {τ : Tb} {fs rt dp : Nat → Nat} {L : List (Nat × Nat)} {Cl : List Nat} {v : Int32}
/-- other arrays of the table are written -/
theorem TyS.ot {i : Nat} (k : TyS G h M Pn τ fs) (hD : DW (gW G)) (hi : i = 1033 ∨ i = 1034 ∨ i = 1039 ∨ i = 1046) (e : h' = sI h (gW G i) j v) : TyS G h' M Pn τ fs ∧ FTy G h h' := by
  obtain ⟨sA, e36, e37, hM, hPn, hA⟩ := k
  have T : FTy G h h' := by rw [e]; exact FTy.rf.sI (by rcases hi with rfl | rfl | rfl | rfl <;> decide)
  have ne : ∀ i', (i' = 1030 ∨ i' = 1031 ∨ i' = 1032 ∨ i' = 1035) → gW G i' ≠ gW G i := fun i' hi' z => by
    have := hD i' i (by rcases hi' with rfl | rfl | rfl | rfl <;> decide) (by rcases hi with rfl | rfl | rfl | rfl <;> decide) z
    omega
  have A : ∀ i', (i' = 1030 ∨ i' = 1031 ∨ i' = 1032 ∨ i' = 1035) → ∀ j, aI h' (gW G i') j = aI h (gW G i') j := fun i' hi' j => by rw [e, aI_sI, if_neg (fun z => ne i' hi' z.1)]
  have f : fI h' = fI h := by rw [e]; rfl
  refine ⟨⟨sA.le T.2.2, by rw [f]; exact e36, by rw [f]; exact e37, hM, hPn, fun z hz => ?_⟩, T⟩
  obtain ⟨b1, b2, b3, b4, b5, b6⟩ := hA z hz
  rw [A 1030 (by decide), A 1031 (by decide), A 1032 (by decide)]
  exact ⟨b1, b2, b3, b4, b5, fun k p hp => by rw [A 1035 (by decide)]; exact b6 k p hp⟩
theorem TyS.pf {g : Nat} (k : TyS G h M Pn τ fs) (hg : g = 38 ∨ g = 45 ∨ g = 47 ∨ g = 48) (e : h' = pI h (gW G 2) g v) : TyS G h' M Pn τ fs ∧ FTy G h h' := by
  obtain ⟨sA, e36, e37, hM, hPn, hA⟩ := k
  have T : FTy G h h' := FTy.rf.p2 e (by rcases hg with rfl | rfl | rfl | rfl <;> decide)
  have A : ∀ i j, aI h' i j = aI h i j := fun i j => by rw [e, aI_pI]
  refine ⟨⟨sA.le T.2.2, by rw [e, fI_pI, if_neg (fun z => by omega)]; exact e36, by rw [e, fI_pI, if_neg (fun z => by omega)]; exact e37, hM, hPn, fun z hz => ?_⟩, T⟩
  obtain ⟨b1, b2, b3, b4, b5, b6⟩ := hA z hz
  rw [A, A, A]
  exact ⟨b1, b2, b3, b4, b5, fun k p hp => by rw [A]; exact b6 k p hp⟩
/-- a new mark -/
theorem c_mk (k : TyS G h M Pn τ fs) (mk : MK G h M m) : C G mX3_mark d [.ref (gW G 2)] h (fun o h' => o = .returned (some (.int (nI (m + 1)))) ∧ TyS G h' M Pn τ fs ∧ FTy G h h' ∧ fI h' (gW G 2) 38 = nI (m + 1) ∧ (∀ i j, aI h' i j = aI h i j)) := by
  refine bX3_mark G d h _ (k.1.at (by decide)) fun h1 e1 => ?_
  rw [mk.1, nI_1] at e1
  have e : fI h1 (gW G 2) 38 = nI (m + 1) := by rw [e1, fI_pI, if_pos ⟨rfl, rfl⟩]
  obtain ⟨k1, T1⟩ := k.pf (Or.inl rfl) e1
  rw [e]
  exact ⟨rfl, k1, T1, rfl, fun i j => by rw [e1, aI_pI]⟩
theorem PL.ot {i : Nat} (k : PL G h L) (hD : DW (gW G)) (hi : i = 1033 ∨ i = 1034 ∨ i = 1046) (e : h' = sI h (gW G i) j v) : PL G h' L := by
  intro n p hp
  have ne : gW G 1039 ≠ gW G i := fun z => by
    have := hD 1039 i (by decide) (by rcases hi with rfl | rfl | rfl <;> decide) z
    omega
  rw [e, aI_sI, aI_sI, if_neg (fun z => ne z.1), if_neg (fun z => ne z.1)]
  exact k n p hp
theorem PL.top {x k k' : Nat} (pl : PL G h ((x, k) :: L)) (e : h' = sI h (gW G 1039) (2 * L.length + 1) (nI k')) : PL G h' ((x, k') :: L) := by
  intro n p hp
  rw [e, aI_sI, aI_sI, List.length_cons]
  cases n with
  | zero =>
    cases hp
    have := pl 0 _ rfl
    rw [List.length_cons] at this
    rw [if_neg (fun z => by omega), if_pos ⟨rfl, by omega⟩]
    exact ⟨this.1, rfl⟩
  | succ n =>
    have hp' : L[n]? = some p := by simpa using hp
    have hi := (List.getElem?_eq_some_iff.mp hp').1
    have := pl (n + 1) p (by simpa using hp)
    rw [List.length_cons] at this
    rw [if_neg (fun z => by omega), if_neg (fun z => by omega)]
    exact this
/-- what holds on the way -/
def FV (G : Gh) (h0 h : AH) (M Pn : Nat) (τ : Tb) (fs rt : Nat → Nat) (o c t : Nat) (L : List (Nat × Nat)) (Cl : List Nat) : Prop :=
  (TyS G h M Pn τ fs ∧ NmS G h M τ ∧ PL G h L ∧ FTy G h0 h ∧ fI h (gW G 2) 38 = nI c) ∧ (∀ z, z < M → (∃ j, j ≤ c ∧ aI h (gW G 1033) z = nI j) ∧ (aI h (gW G 1033) z = nI o ↔ z ∈ L.map (·.1)) ∧ (aI h (gW G 1033) z = nI c ↔ z ∈ Cl)) ∧ ((L.map (·.1) ++ Cl).Nodup ∧ (∀ z, z ∈ L.map (·.1) ++ Cl → z < M ∧ uS τ z = none) ∧ t ∈ L.map (·.1) ++ Cl) ∧ StkOK τ rt Cl L none ∧ ClOK τ rt Cl
def fQ (G : Gh) (h0 : AH) (M Pn : Nat) (τ : Tb) (fs rt : Nat → Nat) (c t : Nat) : Outcome → AH → Prop := fun o h' => (FTy G h0 h' ∧ MK G h' M c ∧ TyS G h' M Pn τ fs) ∧ ((o = .returned (some (.int 0)) ∧ ¬ Fn M τ) ∨ (o = .returned (some (.int 1)) ∧ ∃ Cl : List Nat, t ∈ Cl ∧ Cl.Nodup ∧ ClOK τ rt Cl))
/-- what is still to be done -/
def muL (τ : Tb) : List (Nat × Nat) → Nat
  | [] => 0
  | (x, k) :: L => (pc τ x).length + 1 - k + muL τ L
theorem FV.mk {o c : Nat} (v : FV G h0 h M Pn τ fs rt o c t L Cl) : MK G h M c := ⟨v.1.2.2.2.2, fun z hz => (v.2.1 z hz).1⟩
theorem Fn.rtt {km : Nat → Nat} (r : RTs M τ rt dp) (hk : ∀ x, x < M → (∀ y, uS τ x = some y → km x = km y) ∧ (0 ≤ uN τ x → ∀ p, p ∈ uP τ x → km p < km x)) : ∀ n x, dp x < n → x < M → km x = km (rt x) := by
  intro n
  induction n with
  | zero => intro x hx; omega
  | succ n ih =>
    intro x hx hM
    cases e : uS τ x with
    | none => rw [(r x hM).2.2 e]
    | some y =>
      obtain ⟨h1, h2, h3⟩ := (r x hM).2.1 y e
      rw [(hk x hM).1 y e, h2]
      exact ih y (by omega) h1
theorem pc_lt (k : TyS G h M Pn τ fs) {x p : Nat} (hx : x < M) (hp : p ∈ pc τ x) : 0 ≤ uN τ x ∧ p ∈ uP τ x ∧ p < M := by
  unfold pc at hp
  by_cases c : 0 ≤ uN τ x
  · rw [if_pos c] at hp
    obtain ⟨i, hi⟩ := List.getElem?_of_mem hp
    exact ⟨c, hp, ((k.2.2.2.2.2 x hx).2.2.2.2.2 i p hi).2⟩
  · rw [if_neg c] at hp
    cases hp
theorem fin_37 (hD : DW (gW G)) (r : RTs M τ rt dp) {o c : Nat} (hoc : o < c) (hc : c < 2147483648) : ∀ n h L Cl, 8 * (M - (L.length + Cl.length)) + muL τ L < n → FV G h0 h M Pn τ fs rt o c t L Cl → X G mX3_isFinite (d + 2) none [] 37 [(0, .ref (gW G 2)), (2, .int (nI o)), (3, .int (nI c)), (4, .int (nI (2 * L.length)))] [] h (fQ G h0 M Pn τ fs rt c t) := by
  intro n
  induction n with
  | zero => intro h L Cl hn; omega
  | succ n IH =>
    intro h L Cl hn V
    obtain ⟨⟨k, nm, pl, T, e38⟩, hmk, ⟨nd, hlt, htm⟩, sk, co⟩ := id V
    have s2 := k.1.at (i := 2) (by decide)
    have hM := k.2.2.2.1
    cases L with
    | nil =>
      refine bX3_isFinite_37 G (d + 1) h _ _ _ _ s2 ⟨fun _ => ⟨⟨T, V.mk, k⟩, Or.inr ⟨rfl, Cl, htm, nd, co⟩⟩, fun z => absurd ?_ z⟩
      exact nI_le (a := 2 * 0) (b := 0) (by omega) (by decide)
    | cons p L =>
      obtain ⟨x, i⟩ := p
      obtain ⟨hx, nx⟩ := hlt x (List.mem_append_left _ (List.mem_cons_self ..))
      have hlen : L.length + 1 + Cl.length ≤ M := by
        have := nodup_lt M _ nd (fun z hz => (hlt z hz).1)
        rw [List.length_append, List.length_map, List.length_cons] at this
        exact this
      obtain ⟨k1, k2, -, k4⟩ := id sk
      obtain ⟨pl1, q1, q2⟩ := pl.pop
      dsimp only at q1 q2
      rw [List.length_cons]
      rw [List.length_cons] at hn
      have e1 : nI (2 * (L.length + 1)) - 2 = nI (2 * L.length) := by
        rw [show (2 : Int32) = nI 2 from rfl, nI_sub (by omega) (by omega)]
        congr 1
      have e2 : nI (2 * (L.length + 1)) - 1 = nI (2 * L.length + 1) := by
        rw [show (1 : Int32) = nI 1 from rfl, nI_sub (by omega) (by omega)]
        congr 1
      have e3 : nI (2 * (L.length + 1)) + (-2) = nI (2 * L.length) := by
        rw [show (-2 : Int32) = -2 from rfl, ← Int32.sub_eq_add_neg]
        exact e1
      refine bX3_isFinite_37 G (d + 1) h _ _ _ _ s2 ⟨fun z => absurd z (nI_nle (by omega) (by omega)), fun _ => ?_⟩
      rw [e1, e2]
      refine ⟨vp_in_nI (by omega) (by decide), ?_⟩
      rw [nI_cn (by omega), nI_cn (by omega), q1, q2]
      rintro _ rfl
      refine ⟨vp_in_nI (by omega) (by decide), ?_⟩
      rintro _ rfl
      refine C.ri (c_hm k nm hx) ?_
      have ehm : (if 0 ≤ uN τ x then (uP τ x).length else 0) = (pc τ x).length := by
        unfold pc
        split <;> rfl
      have hl6 : (pc τ x).length ≤ 6 := by
        unfold pc
        by_cases c : 0 ≤ uN τ x
        · rw [if_pos c]; exact (nm x hx c).1.2
        · rw [if_neg c]; exact Nat.zero_le _
      rw [ehm, nI_eq (by change i ≤ _ at k1; change i < 2147483648; omega) (by omega)]
      change i ≤ _ at k1
      change 8 * (M - (L.length + 1 + Cl.length)) + ((pc τ x).length + 1 - i + muL τ L) < n + 1 at hn
      refine ⟨fun ei => ⟨vp_in_nI (by change x < _; omega) (by decide), fun h32 e32 => ?_⟩, fun ei => ⟨vp_in_nI (by omega) (by decide), vp_in_nI (by omega) (by decide), fun h12 e12 => ?_⟩⟩
      · change i = _ at ei
        rw [nI_cn (by change x < _; omega)] at e32
        change h32 = sI h (gW G 1033) x (nI c) at e32
        rintro _ rfl
        rw [e3]
        obtain ⟨k3, T3⟩ := k.ot hD (Or.inl rfl) e32
        have nd' : (L.map (·.1) ++ x :: Cl).Nodup := by
          have : ((x :: L.map (·.1)) ++ Cl).Nodup := nd
          rw [List.perm_middle.nodup_iff]
          exact this
        have hx1 : x ∉ L.map (·.1) := by
          have : ((x :: L.map (·.1)) ++ Cl).Nodup := nd
          rw [List.cons_append, List.nodup_cons] at this
          exact fun z => this.1 (List.mem_append_left _ z)
        have mem' : ∀ z, z ∈ L.map (·.1) ++ x :: Cl ↔ z ∈ ((x, i) :: L).map (·.1) ++ Cl := fun z => by
          rw [List.map_cons, List.cons_append]
          simp only [List.mem_append, List.mem_cons]
          constructor
          · rintro (q | q | q)
            · exact Or.inr (Or.inl q)
            · exact Or.inl q
            · exact Or.inr (Or.inr q)
          · rintro (q | q | q)
            · exact Or.inr (Or.inl q)
            · exact Or.inl q
            · exact Or.inr (Or.inr q)
        refine IH h32 L (x :: Cl) (by rw [List.length_cons]; omega) ⟨⟨k3, nm.mv T3 k.1 hD, pl1.ot hD (Or.inl rfl) e32, T.tr T3, by rw [e32]; exact e38⟩, fun z hz => ?_, ⟨nd', fun z hz => hlt z ((mem' z).mp hz), (mem' t).mpr htm⟩, k4.close, ?_, co⟩
        · obtain ⟨m1, m2, m3⟩ := hmk z hz
          rw [e32, aI_sI]
          by_cases q : z = x
          · rw [if_pos ⟨rfl, q⟩, nI_eq (by omega) (by omega), nI_eq (by omega) (by omega)]
            refine ⟨⟨c, Nat.le_refl _, rfl⟩, ⟨fun w => (by omega), fun w => absurd (by rw [← q]; exact w) hx1⟩, ⟨fun _ => by rw [q]; exact List.mem_cons_self .., fun _ => rfl⟩⟩
          · rw [if_neg (fun w => q w.2)]
            refine ⟨m1, ⟨fun w => ((List.mem_cons.mp (m2.mp w)).resolve_left q), fun w => m2.mpr (List.mem_cons_of_mem _ w)⟩, ⟨fun w => List.mem_cons_of_mem _ (m3.mp w), fun w => m3.mpr ((List.mem_cons.mp w).resolve_left q)⟩⟩
        · intro p hp
          obtain ⟨j, hj⟩ := List.getElem?_of_mem hp
          have := (List.getElem?_eq_some_iff.mp hj).1
          exact (k2 j p (by omega) hj).resolve_right fun w => by cases w
      · change ¬ i = _ at ei
        have hil : i < (pc τ x).length := by omega
        obtain ⟨p, hp⟩ : ∃ p, (pc τ x)[i]? = some p := ⟨_, List.getElem?_eq_getElem hil⟩
        obtain ⟨hn0, hpu, hpM⟩ := pc_lt k hx (List.mem_of_getElem? hp)
        have hpu' : (uP τ x)[i]? = some p := by
          unfold pc at hp
          rw [if_pos hn0] at hp
          exact hp
        rw [q2] at e12
        change h12 = sI h (gW G 1039) (2 * L.length + 1) (nI i + 1) at e12
        rw [nI_1] at e12
        obtain ⟨k3, T3⟩ := k.ot hD (Or.inr (Or.inr (Or.inl rfl))) e12
        have nm3 := nm.mv T3 k.1 hD
        have pl3 := pl.top e12
        have m12 : ∀ z, aI h12 (gW G 1033) z = aI h (gW G 1033) z := fun z => by
          rw [e12, aI_sI, if_neg (fun w => absurd (hD 1033 1039 (by decide) (by decide) w.1) (by decide))]
        refine C.ri (c_pt k3 r hx hpu') ?_
        have hrp := (r p hpM).1
        have nrp : uS τ (rt p) = none := r.none _ p (Nat.lt_succ_self _) hpM
        obtain ⟨m1, m2, m3⟩ := hmk (rt p) hrp
        rw [nI_cn (by omega), m12]
        refine ⟨vp_in_nI (by omega) (by decide), fun ec => ?_, fun ec => ⟨vp_in_nI (by omega) (by decide), fun eo => ?_, fun eo => ?_⟩⟩
        · have := IH h12 ((x, i + 1) :: L) Cl (by rw [List.length_cons]; change 8 * (M - (L.length + 1 + Cl.length)) + ((pc τ x).length + 1 - (i + 1) + muL τ L) < n; omega) ⟨⟨k3, nm3, pl3, T.tr T3, by rw [e12]; exact e38⟩, fun z hz => by rw [m12]; exact hmk z hz, ⟨nd, hlt, htm⟩, ⟨hil, fun j q hj hq => ?_, fun y e => (by cases e), k4⟩, co⟩
          · rw [List.length_cons] at this
            exact this
          · by_cases hji : j = i
            · rw [hji, hp] at hq
              cases hq
              exact Or.inl (m3.mp ec)
            · exact k2 j q (by omega) hq
        · refine ⟨⟨T.tr T3, ⟨by rw [e12]; exact e38, fun z hz => by rw [m12]; exact (hmk z hz).1⟩, k3⟩, Or.inl ⟨rfl, fun hF => ?_⟩⟩
          obtain ⟨km, hkm⟩ := hF
          have kr := Fn.rtt r hkm
          have hin := m2.mp eo
          have h1 : km (rt p) < km x := by
            rw [← kr _ p (Nat.lt_succ_self _) hpM]
            exact (hkm x hx).2 hn0 p hpu
          rcases List.mem_cons.mp hin with q | q
          · change rt p = x at q
            rw [q] at h1
            omega
          · have h2 := StkOK.km (km := km) (L := L) (fun z u hu hz => by
              obtain ⟨kk, hz⟩ := hz
              have hzM := (hlt z (List.mem_append_left _ (List.mem_cons_of_mem _ (List.mem_map.mpr ⟨_, hz, rfl⟩)))).1
              obtain ⟨c1, c2, c3⟩ := pc_lt k hzM hu
              rw [← kr _ u (Nat.lt_succ_self _) c3]
              exact (hkm z hzM).2 c1 u c2) L x (fun _ q => q) k4 (rt p) q
            omega
        · have hnew1 : rt p ∉ ((x, i) :: L).map (·.1) := fun w => eo (m2.mpr w)
          have hnew2 : rt p ∉ Cl := fun w => ec (m3.mpr w)
          have nd2 : (rt p :: (((x, i + 1) :: L).map (·.1) ++ Cl)).Nodup := by
            rw [List.nodup_cons]
            refine ⟨fun w => ?_, nd⟩
            rcases List.mem_append.mp w with w | w
            · exact hnew1 w
            · exact hnew2 w
          have hlen2 : L.length + 2 + Cl.length ≤ M := by
            have := nodup_lt M _ nd2 (fun z hz => by
              rcases List.mem_cons.mp hz with q | q
              · rw [q]; exact hrp
              · exact (hlt z q).1)
            rw [List.length_cons, List.length_append, List.length_map, List.length_cons] at this
            omega
          refine ⟨vp_in_nI (by omega) (by decide), fun h22 e22 => ⟨vp_in_nI (by omega) (by decide), fun h25 e25 => ⟨(by rw [nI_1]; exact vp_in_nI (by omega) (by decide)), fun h28 e28 => ?_⟩⟩⟩
          rintro _ rfl
          rw [nI_cn (by omega)] at e25
          rw [nI_1, nI_cn (by omega)] at e28
          rw [show (2 : Int32) = nI 2 from rfl, nI_add]
          have e28' : h28 = sI h25 (gW G 1039) (2 * ((x, i + 1) :: L).length + 1) (nI 0) := e28
          have e25' : h25 = sI h22 (gW G 1039) (2 * ((x, i + 1) :: L).length) (nI (rt p)) := e25
          obtain ⟨k4', T4⟩ := k3.ot hD (Or.inl rfl) e22
          obtain ⟨k5, T5⟩ := k4'.ot hD (Or.inr (Or.inr (Or.inl rfl))) e25
          obtain ⟨k6, T6⟩ := k5.ot hD (Or.inr (Or.inr (Or.inl rfl))) e28
          have pl4 := pl3.ot hD (Or.inl rfl) e22
          have pl6 := pl4.push e25' e28'
          have hl6' : (pc τ (rt p)).length ≤ 6 := by
            unfold pc
            by_cases c : 0 ≤ uN τ (rt p)
            · rw [if_pos c]; exact (nm _ hrp c).1.2
            · rw [if_neg c]; exact Nat.zero_le _
          have := IH h28 ((rt p, 0) :: (x, i + 1) :: L) Cl (by
            rw [List.length_cons, List.length_cons]
            change 8 * (M - (L.length + 1 + 1 + Cl.length)) + ((pc τ (rt p)).length + 1 - 0 + ((pc τ x).length + 1 - (i + 1) + muL τ L)) < n
            omega) ⟨⟨k6, ((nm3.mv T4 k3.1 hD).mv T5 k4'.1 hD).mv T6 k5.1 hD, pl6, ((T.tr T3).tr T4).tr (T5.tr T6), by rw [e28, e25, e22, e12]; exact e38⟩, fun z hz => ?_, ⟨nd2, fun z hz => ?_, List.mem_cons_of_mem _ htm⟩, ⟨Nat.zero_le _, fun j q hj => (by omega), fun y e => (by cases e), hil, fun j q hj hq => ?_, fun y e => ?_, k4⟩, co⟩
          · rw [List.length_cons, List.length_cons, show 2 * (L.length + 1 + 1) = 2 * (L.length + 1) + 2 by omega] at this
            exact this
          · have m28 : aI h28 (gW G 1033) z = if z = rt p then nI o else aI h (gW G 1033) z := by
              rw [e28, aI_sI, if_neg (fun w => absurd (hD 1033 1039 (by decide) (by decide) w.1) (by decide)), e25, aI_sI, if_neg (fun w => absurd (hD 1033 1039 (by decide) (by decide) w.1) (by decide)), e22, aI_sI, m12]
              by_cases q : z = rt p
              · rw [if_pos ⟨rfl, q⟩, if_pos q]
              · rw [if_neg (fun w => q w.2), if_neg q]
            obtain ⟨n1, n2, n3⟩ := hmk z hz
            rw [m28]
            by_cases q : z = rt p
            · rw [if_pos q, nI_eq (by omega) (by omega), nI_eq (by omega) (by omega)]
              refine ⟨⟨o, by omega, rfl⟩, ⟨fun _ => by rw [q]; exact List.mem_cons_self .., fun _ => rfl⟩, ⟨fun w => (by omega), fun w => absurd (by rw [← q]; exact w) hnew2⟩⟩
            · rw [if_neg q]
              refine ⟨n1, ⟨fun w => List.mem_cons_of_mem _ (n2.mp w), fun w => n2.mpr ((List.mem_cons.mp w).resolve_left q)⟩, n3⟩
          · rcases List.mem_cons.mp hz with q | q
            · rw [q]; exact ⟨hrp, nrp⟩
            · exact hlt z q
          · by_cases hji : j = i
            · rw [hji, hp] at hq
              cases hq
              exact Or.inr rfl
            · exact (k2 j q (by omega) hq).imp id fun w => by cases w
          · cases e
            exact ⟨p, List.mem_of_getElem? hp, rfl⟩
theorem c_fin (hD : DW (gW G)) (k : TyS G h M Pn τ fs) (nm : NmS G h M τ) (r : RTs M τ rt dp) (mk : MK G h M m) (hm : m + 2 < 2147483648) (ht : t < M) (nt : uS τ t = none) : C G mX3_isFinite (d + 2) [.ref (gW G 2), .int (nI t)] h (fQ G h M Pn τ fs rt (m + 2) t) := by
  refine bX3_isFinite G (d + 1) h _ _ (k.1.at (by decide)) (C.mono (c_mk k mk) ?_)
  rintro _ h1 ⟨rfl, k1, T1, e1, a1⟩
  refine KI.i (C.mono (c_mk k1 ⟨e1, fun z hz => ?_⟩) ?_)
  · obtain ⟨j, hj, e⟩ := mk.2 z hz
    exact ⟨j, by omega, by rw [a1]; exact e⟩
  rintro _ h4 ⟨rfl, k4, T4, e4, a4⟩
  refine KI.i ⟨(vp_in_nI (n := 0) (by decide) (by decide)), fun h8 e8 => ⟨(vp_in_nI (n := 1) (by decide) (by decide)), fun h11 e11 => ⟨vp_in_nI (by have := k.2.2.2.1; omega) (by decide), fun h14 e14 => ?_⟩⟩⟩
  have hM := k.2.2.2.1
  rw [nI_cn (by omega)] at e14
  have e8' : h8 = sI h4 (gW G 1039) (2 * ([] : List (Nat × Nat)).length) (nI t) := e8
  have e11' : h11 = sI h8 (gW G 1039) (2 * ([] : List (Nat × Nat)).length + 1) (nI 0) := e11
  obtain ⟨k8, T8⟩ := k4.ot hD (Or.inr (Or.inr (Or.inl rfl))) e8
  obtain ⟨k11, T11⟩ := k8.ot hD (Or.inr (Or.inr (Or.inl rfl))) e11
  obtain ⟨k14, T14⟩ := k11.ot hD (Or.inl rfl) e14
  have pl : PL G h14 [(t, 0)] := (PL.push (L := []) (fun i p hp => (by cases hp)) e8' e11').ot hD (Or.inl rfl) e14
  have T := (((T1.tr T4).tr T8).tr T11).tr T14
  have m14 : ∀ z, aI h14 (gW G 1033) z = if z = t then nI (m + 1) else aI h (gW G 1033) z := fun z => by
    rw [e14, aI_sI]
    by_cases q : z = t
    · rw [if_pos ⟨rfl, q⟩, if_pos q]
    · rw [if_neg (fun w => q w.2), if_neg q, e11, aI_sI, if_neg (fun w => absurd (hD 1033 1039 (by decide) (by decide) w.1) (by decide)), e8, aI_sI, if_neg (fun w => absurd (hD 1033 1039 (by decide) (by decide) w.1) (by decide)), a4, a1]
  have := fin_37 (d := d) (h0 := h) (t := t) hD r (o := m + 1) (c := m + 2) (by omega) hm _ h14 [(t, 0)] [] (Nat.lt_succ_self _) ⟨⟨k14, nm.mv T k.1 hD, pl, T, by rw [e14, e11, e8]; exact e4⟩, fun z hz => ?_, ⟨by simp, fun z hz => ?_, List.mem_cons_self ..⟩, ⟨Nat.zero_le _, fun i p hi => (by omega), fun y e => (by cases e), trivial⟩, trivial⟩
  · exact this
  · obtain ⟨j, hj, e⟩ := mk.2 z hz
    rw [m14]
    by_cases q : z = t
    · rw [if_pos q, nI_eq (by omega) (by omega), nI_eq (by omega) (by omega)]
      exact ⟨⟨m + 1, by omega, rfl⟩, ⟨fun _ => by rw [q]; exact List.mem_cons_self .., fun _ => rfl⟩, ⟨fun w => (by omega), fun w => (by cases w)⟩⟩
    · rw [if_neg q, e, nI_eq (by omega) (by omega), nI_eq (by omega) (by omega)]
      refine ⟨⟨j, by omega, rfl⟩, ⟨fun w => (by omega), fun w => absurd ((List.mem_cons.mp w).resolve_right fun q2 => (by cases q2)) q⟩, ⟨fun w => (by omega), fun w => (by cases w)⟩⟩
  · rcases List.mem_cons.mp hz with q | q
    · rw [q]; exact ⟨ht, nt⟩
    · cases q
end
