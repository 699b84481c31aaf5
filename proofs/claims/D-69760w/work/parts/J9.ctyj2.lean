/-! THE COMPONENT'S TYPES: pairs are joined -/
section
variable {G : Gh} {d M Pn x y : Nat} {h h' : AH} {τ τ0 : Tb} {fs rt dp : Nat → Nat} {ρ : Nat → Tr} {L L0 : List (Nat × Nat)}
theorem Sl.rtt (s : Sl M τ ρ) (r : RTs M τ rt dp) : ∀ n x, dp x < n → x < M → ρ x = ρ (rt x) := by
  intro n
  induction n with
  | zero => intro x hn; omega
  | succ n ih =>
    intro x hn hx
    obtain ⟨-, r2, r3⟩ := r x hx
    cases e : uS τ x with
    | none => rw [r3 e]
    | some y =>
      obtain ⟨c1, c2, c3⟩ := r2 y e
      rw [(s x hx).1 y e, c2]
      exact ih y (by omega) c1
theorem RTs.none (r : RTs M τ rt dp) : ∀ n x, dp x < n → x < M → uS τ (rt x) = none := by
  intro n
  induction n with
  | zero => intro x hn; omega
  | succ n ih =>
    intro x hn hx
    obtain ⟨-, r2, r3⟩ := r x hx
    cases e : uS τ x with
    | none => rw [r3 e]; exact e
    | some y =>
      obtain ⟨c1, c2, c3⟩ := r2 y e
      rw [c2]
      exact ih y (by omega) c1
theorem PL.pop {p : Nat × Nat} (k : PL G h (p :: L)) : PL G h L ∧ aI h (gW G 1039) (2 * L.length) = nI p.1 ∧ aI h (gW G 1039) (2 * L.length + 1) = nI p.2 := by
  refine ⟨fun i q hq => ?_, ?_⟩
  · have hi := (List.getElem?_eq_some_iff.mp hq).1
    have := k (i + 1) q (by simpa using hq)
    rw [List.length_cons, show 2 * (L.length + 1 - 1 - (i + 1)) = 2 * (L.length - 1 - i) by omega] at this
    exact this
  · have := k 0 p rfl
    rw [List.length_cons, show 2 * (L.length + 1 - 1 - 0) = 2 * L.length by omega] at this
    exact this
theorem PL.set {j : Nat} {v : Int32} (k : PL G h L) (hD : DW (gW G)) (e : h' = sI h (gW G 1032) j v) : PL G h' L := by
  intro i p hp
  have ne : gW G 1039 ≠ gW G 1032 := fun z => absurd (hD 1039 1032 (by decide) (by decide) z) (by decide)
  rw [e, aI_sI, aI_sI, if_neg (fun z => ne z.1), if_neg (fun z => ne z.1)]
  exact k i p hp
theorem Jn_mem {L1 L2 : List (Nat × Nat)} (e : ∀ p, p ∈ L1 ↔ p ∈ L2) : Jn M τ L1 ρ ↔ Jn M τ L2 ρ := ⟨fun h => ⟨h.1, fun p hp => h.2 p ((e p).mpr hp)⟩, fun h => ⟨h.1, fun p hp => h.2 p ((e p).mp hp)⟩⟩
theorem Jn_sw : Jn M τ ((x, y) :: L) ρ ↔ Jn M τ ((y, x) :: L) ρ := by
  refine ⟨fun h => ⟨h.1, fun p hp => ?_⟩, fun h => ⟨h.1, fun p hp => ?_⟩⟩
  · rcases List.mem_cons.mp hp with rfl | hp
    · exact (h.2 (x, y) (List.mem_cons_self ..)).symm
    · exact h.2 p (List.mem_cons_of_mem _ hp)
  · rcases List.mem_cons.mp hp with rfl | hp
    · exact (h.2 (y, x) (List.mem_cons_self ..)).symm
    · exact h.2 p (List.mem_cons_of_mem _ hp)
/-- what is the same has the same name -/
def NC (M : Nat) (τ : Tb) (rt : Nat → Nat) : Prop := ∀ z, z < M → 0 ≤ uN τ z → uN τ (rt z) = uN τ z
/-- f makes one of what is the same, and of pairs -/
def Rsp (M : Nat) (rt f : Nat → Nat) (L : List (Nat × Nat)) : Prop := (∀ z, z < M → f z = f (rt z)) ∧ ∀ p, p ∈ L → f p.1 = f p.2
/-- but for pairs what is the same has the same parts -/
def CP (M : Nat) (τ : Tb) (rt : Nat → Nat) (L : List (Nat × Nat)) : Prop := ∀ f : Nat → Nat, Rsp M rt f L → ∀ z, z < M → 0 ≤ uN τ z → (uP τ z).map f = (uP τ (rt z)).map f
/-- a set of nodes that is closed under parts -/
def KC (M : Nat) (τ : Tb) (K : Nat → Prop) : Prop := ∀ z, K z → z < M ∧ (∀ y, uS τ z = some y → K y) ∧ (0 ≤ uN τ z → ∀ p, p ∈ uP τ z → K p)
/-- what was joined lies in each closed set that has a and b -/
def TKj (M : Nat) (τ0 τ : Tb) (a b : Nat) (L : List (Nat × Nat)) : Prop := ∀ K : Nat → Prop, KC M τ0 K → K a → K b → KC M τ K ∧ (∀ p, p ∈ L → K p.1 ∧ K p.2) ∧ ∀ z, z < M → uS τ z ≠ uS τ0 z → K z ∧ uS τ0 z = none
def EQj (M : Nat) (rt : Nat → Nat) (a b : Nat) (L : List (Nat × Nat)) : Prop := ∀ f : Nat → Nat, Rsp M rt f L → f a = f b
theorem KC.rtt {K : Nat → Prop} (k : KC M τ K) (r : RTs M τ rt dp) : ∀ n x, dp x < n → x < M → K x → K (rt x) := by
  intro n
  induction n with
  | zero => intro x hn; omega
  | succ n ih =>
    intro x hn hx hK
    obtain ⟨-, r2, r3⟩ := r x hx
    cases e : uS τ x with
    | none => rw [r3 e]; exact hK
    | some y =>
      obtain ⟨c1, c2, c3⟩ := r2 y e
      rw [c2]
      exact ih y (by omega) c1 ((k x hK).2.1 y e)
/-- the roots when x has become the same as y -/
def rtS (rt : Nat → Nat) (x y : Nat) : Nat → Nat := fun z => if rt z = x then y else rt z
section
variable {f : Nat → Nat} {a b : Nat} {L' : List (Nat × Nat)}
theorem Rsp.set (rx : rt x = x) (hx : x < M) (ha : a < M) (hb : b < M) (e : (rt a = x ∧ rt b = y) ∨ (rt a = y ∧ rt b = x)) (hL : ∀ p, p ∈ L → p ∈ L') (k : Rsp M (rtS rt x y) f L') : Rsp M rt f ((a, b) :: L) ∧ f x = f y := by
  have fx : f x = f y := by
    have := k.1 x hx
    unfold rtS at this
    rw [if_pos rx] at this
    exact this
  have fr : ∀ z, z < M → f z = f (rt z) := fun z hz => by
    have := k.1 z hz
    unfold rtS at this
    by_cases c : rt z = x
    · rw [if_pos c] at this
      rw [c, fx]
      exact this
    · rw [if_neg c] at this
      exact this
  refine ⟨⟨fr, fun p hp => ?_⟩, fx⟩
  rcases List.mem_cons.mp hp with rfl | hp
  · show f a = f b
    rw [fr a ha, fr b hb]
    rcases e with ⟨e1, e2⟩ | ⟨e1, e2⟩
    · rw [e1, e2]; exact fx
    · rw [e1, e2]; exact fx.symm
  · exact k.2 p (hL p hp)
theorem NC.set (k : NC M τ rt) (h : 0 ≤ uN τ x → uN τ y = uN τ x) : NC M (tSet τ x y) (rtS rt x y) := by
  intro z hz hn
  have := k z hz hn
  show uN τ (rtS rt x y z) = uN τ z
  unfold rtS
  by_cases c : rt z = x
  · rw [if_pos c]
    rw [c] at this
    rw [h (by rw [this]; exact hn)]
    exact this
  · rw [if_neg c]
    exact this
theorem CP.set (k : CP M τ rt ((a, b) :: L)) (nc : NC M τ rt) (rx : rt x = x) (hx : x < M) (ha : a < M) (hb : b < M) (e : (rt a = x ∧ rt b = y) ∨ (rt a = y ∧ rt b = x)) (hL : ∀ p, p ∈ L → p ∈ L') (hp : 0 ≤ uN τ x → ∀ f : Nat → Nat, (∀ p, p ∈ L' → f p.1 = f p.2) → (uP τ x).map f = (uP τ y).map f) : CP M (tSet τ x y) (rtS rt x y) L' := by
  intro f r z hz hn
  obtain ⟨r0, -⟩ := Rsp.set rx hx ha hb e hL r
  have c := k f r0 z hz hn
  show (uP τ z).map f = (uP τ (rtS rt x y z)).map f
  unfold rtS
  by_cases q : rt z = x
  · rw [if_pos q, c, q]
    have := nc z hz hn
    rw [q] at this
    exact hp (by rw [this]; exact hn) f r.2
  · rw [if_neg q]
    exact c
theorem TKj.set {a0 b0 : Nat} {τ0 : Tb} (k : TKj M τ0 τ a0 b0 ((a, b) :: L)) (r : RTs M τ rt dp) (hx : x < M) (nx : uS τ x = none) (ha : a < M) (hb : b < M) (e : (rt a = x ∧ rt b = y) ∨ (rt a = y ∧ rt b = x)) (hL' : ∀ p, p ∈ L' → p ∈ L ∨ (0 ≤ uN τ x ∧ 0 ≤ uN τ y ∧ p.1 ∈ uP τ x ∧ p.2 ∈ uP τ y)) : TKj M τ0 (tSet τ x y) a0 b0 L' := by
  intro K kc ka kb
  obtain ⟨t1, t2, t3⟩ := k K kc ka kb
  obtain ⟨p1, p2⟩ := t2 (a, b) (List.mem_cons_self ..)
  have q1 := t1.rtt r _ a (Nat.lt_succ_self _) ha p1
  have q2 := t1.rtt r _ b (Nat.lt_succ_self _) hb p2
  have kx : K x ∧ K y := by
    rcases e with ⟨e1, e2⟩ | ⟨e1, e2⟩
    · rw [e1] at q1; rw [e2] at q2; exact ⟨q1, q2⟩
    · rw [e1] at q1; rw [e2] at q2; exact ⟨q2, q1⟩
  have es : ∀ z, uS (tSet τ x y) z = if z = x then some y else uS τ z := fun _ => rfl
  refine ⟨fun z hz => ⟨(t1 z hz).1, fun w hw => ?_, (t1 z hz).2.2⟩, fun p hp => ?_, fun z hz hn => ?_⟩
  · rw [es] at hw
    by_cases c : z = x
    · rw [if_pos c] at hw
      cases hw
      exact kx.2
    · rw [if_neg c] at hw
      exact (t1 z hz).2.1 w hw
  · rcases hL' p hp with q | ⟨n1, n2, q3, q4⟩
    · exact t2 p (List.mem_cons_of_mem _ q)
    · exact ⟨(t1 x kx.1).2.2 n1 _ q3, (t1 y kx.2).2.2 n2 _ q4⟩
  · by_cases c : z = x
    · rw [c]
      refine ⟨kx.1, ?_⟩
      cases e0 : uS τ0 x with
      | none => rfl
      | some w =>
        have := (t3 x hx (by rw [nx, e0]; exact fun q => (by cases q))).2
        rw [e0] at this
        cases this
    · rw [es, if_neg c] at hn
      exact t3 z hz hn
/-- a pair that is the same already -/
theorem Rsp.pop (ha : a < M) (hb : b < M) (e : rt a = rt b) (k : Rsp M rt f L) : Rsp M rt f ((a, b) :: L) := by
  refine ⟨k.1, fun p hp => ?_⟩
  rcases List.mem_cons.mp hp with rfl | hp
  · show f a = f b
    rw [k.1 a ha, k.1 b hb, e]
  · exact k.2 p hp
end
/-- what holds while pairs are joined -/
def JI (G : Gh) (h0 h : AH) (M Pn : Nat) (τ0 τ : Tb) (fs rt dp : Nat → Nat) (a b : Nat) (L : List (Nat × Nat)) : Prop :=
  (TyS G h M Pn τ fs ∧ NmS G h M τ ∧ PL G h L ∧ FTy G h0 h) ∧ (RTs M τ rt dp ∧ NC M τ rt ∧ CP M τ rt L ∧ TKj M τ0 τ a b L ∧ EQj M rt a b L) ∧ (∀ ρ, Jn M τ L ρ ↔ Jn M τ0 [(a, b)] ρ) ∧ uN τ = uN τ0 ∧ uP τ = uP τ0 ∧ (∀ p, p ∈ L → p.1 < M ∧ p.2 < M) ∧ L.length + rp M τ ≤ 1 + Pn ∧ ∀ z, z < M → uS τ z = none → aI h (gW G 1032) z = aI h0 (gW G 1032) z
def jQ (G : Gh) (h0 : AH) (M Pn : Nat) (τ0 : Tb) (fs : Nat → Nat) (a b : Nat) : Outcome → AH → Prop := fun o h' => FTy G h0 h' ∧ ((o = .returned (some (.int 0)) ∧ ∀ ρ, ¬ Jn M τ0 [(a, b)] ρ) ∨ (o = .returned (some (.int 1)) ∧ ∃ τ rt dp, JI G h0 h' M Pn τ0 τ fs rt dp a b []))
theorem rp_le {M : Nat} (hn : uS τ x = none) (hx : x < M) : (uP τ x).length ≤ rp M τ := by
  have := rp_set (y := x) hx hn
  omega
/-- equal names have as many parts -/
theorem NmS.len (nm : NmS G h M τ) (hx : x < M) (hy : y < M) (h1 : 0 ≤ uN τ x) (e : uN τ x = uN τ y) : (uP τ x).length = (uP τ y).length := by
  obtain ⟨⟨-, l1⟩, b, b1, -, b3⟩ := nm x hx h1
  obtain ⟨⟨-, l2⟩, c, c1, -, c3⟩ := nm y hy (by omega)
  rw [e, c1] at b1
  cases b1
  rw [b3] at c3
  exact (nI_eq (by omega) (by omega)).mp c3
theorem NmS.cg {τ' : Tb} (nm : NmS G h M τ) (e1 : uN τ' = uN τ) (e2 : uP τ' = uP τ) : NmS G h M τ' := by
  intro x hx hn
  rw [e1] at hn ⊢
  rw [e2]
  exact nm x hx hn
theorem jn_18 (hD : DW (gW G)) {h0 : AH} {a0 b0 : Nat} (hPn : Pn < 149000) : ∀ n h τ rt dp L, 8 * nRt M τ + L.length < n → JI G h0 h M Pn τ0 τ fs rt dp a0 b0 L → X G mX3_joined (d + 1) none [] 18 [(0, .ref (gW G 2)), (3, .int (nI (2 * L.length)))] [] h (jQ G h0 M Pn τ0 fs a0 b0) := by
  intro n
  induction n with
  | zero => intro h τ rt dp L hn; omega
  | succ n IH =>
    intro h τ rt dp L hn I
    obtain ⟨⟨k, nm, pl, T⟩, ⟨r, nc, cp, tm, eq⟩, hJ, eN, eP, hL, hB, h32⟩ := id I
    have s2 := k.1.at (i := 2) (by decide)
    have hM := k.2.2.2.1
    cases L with
    | nil =>
      refine bX3_joined_18 G d h _ _ s2 ⟨fun _ => ⟨T, Or.inr ⟨rfl, τ, rt, dp, I⟩⟩, fun z => absurd ?_ z⟩
      exact nI_le (a := 2 * 0) (b := 0) (by omega) (by decide)
    | cons p L =>
      obtain ⟨a, b⟩ := p
      obtain ⟨ha, hb⟩ := hL (a, b) (List.mem_cons_self ..)
      change a < M at ha
      change b < M at hb
      rw [List.length_cons] at hB hn
      refine bX3_joined_18 G d h _ _ s2 ⟨fun z => absurd z (nI_nle (by rw [List.length_cons]; omega) (by rw [List.length_cons]; omega)), fun _ x2 e2 => ?_⟩
      have e2' : x2 = nI (2 * L.length) := by
        rw [e2, List.length_cons, show (-2 : Int32) = -nI 2 from rfl, ← Int32.sub_eq_add_neg, nI_sub (by omega) (by omega)]
        congr 1
      subst e2'
      obtain ⟨pl1, q1, q2⟩ := pl.pop
      dsimp only at q1 q2
      rw [nI_cn (by omega), q1]
      refine ⟨vp_in_nI (by omega) (by decide), C.ri (c_fd k r ha) ?_⟩
      rw [nI_1, nI_cn (by omega), q2]
      refine ⟨vp_in_nI (by omega) (by decide), C.ri (c_fd k r hb) ?_⟩
      have hra := (r a ha).1
      have hrb := (r b hb).1
      have na : uS τ (rt a) = none := r.none _ a (Nat.lt_succ_self _) ha
      have nb : uS τ (rt b) = none := r.none _ b (Nat.lt_succ_self _) hb
      have ra : rt (rt a) = rt a := (r _ hra).2.2 na
      have rb : rt (rt b) = rt b := (r _ hrb).2.2 nb
      have hLt : ∀ p, p ∈ L → p.1 < M ∧ p.2 < M := fun p hp => hL p (List.mem_cons_of_mem _ hp)
      have jrt : ∀ ρ, Jn M τ ((a, b) :: L) ρ ↔ Jn M τ ((rt a, rt b) :: L) ρ := fun ρ => Jn_rt (fun s => s.rtt r _ a (Nat.lt_succ_self _) ha) (fun s => s.rtt r _ b (Nat.lt_succ_self _) hb)
      rw [nI_eq (by omega) (by omega), nI_cn (by omega), nI_cn (by omega)]
      refine ⟨fun e => ?_, fun hne => ⟨vp_in_nI (by omega) (by decide), ?_⟩⟩
      · refine IH h τ rt dp L (by omega) ⟨⟨k, nm, pl1, T⟩, ⟨r, nc, fun f q => cp f (q.pop ha hb e), fun K s1 s2 s3 => ?_, fun f q => eq f (q.pop ha hb e)⟩, fun ρ => ?_, eN, eP, hLt, by omega, h32⟩
        · obtain ⟨t1, t2, t3⟩ := tm K s1 s2 s3
          exact ⟨t1, fun p hp => t2 p (List.mem_cons_of_mem _ hp), t3⟩
        · rw [← hJ ρ, jrt ρ, e, Jn_same]
      · have key : ∀ x y, ((x = rt a ∧ y = rt b) ∨ (x = rt b ∧ y = rt a)) → ∀ L' h', (uN τ x < 0 ∧ L' = L) ∨ (0 ≤ uN τ x ∧ uN τ x = uN τ y ∧ x = rt a ∧ L' = ((uP τ x).zip (uP τ y)).reverse ++ L) → TyS G h' M Pn (tSet τ x y) fs → NmS G h' M τ → PL G h' L' → FTy G h0 h' → (∀ z, z ≠ x → aI h' (gW G 1032) z = aI h (gW G 1032) z) → X G mX3_joined (d + 1) none [] 18 [(0, .ref (gW G 2)), (3, .int (nI (2 * L'.length)))] [] h' (jQ G h0 M Pn τ0 fs a0 b0) := by
          intro x y hxy L' h' hc k' nm' pl' T' h32'
          have hx : x < M := by rcases hxy with ⟨q, -⟩ | ⟨q, -⟩ <;> rw [q] <;> assumption
          have hy : y < M := by rcases hxy with ⟨-, q⟩ | ⟨-, q⟩ <;> rw [q] <;> assumption
          have nx : uS τ x = none := by rcases hxy with ⟨q, -⟩ | ⟨q, -⟩ <;> rw [q] <;> assumption
          have ny : uS τ y = none := by rcases hxy with ⟨-, q⟩ | ⟨-, q⟩ <;> rw [q] <;> assumption
          have rx : rt x = x := (r x hx).2.2 nx
          have hxne : x ≠ y := by rcases hxy with ⟨q1, q2⟩ | ⟨q1, q2⟩ <;> rw [q1, q2]; exact hne; exact fun z => hne z.symm
          have e : (rt a = x ∧ rt b = y) ∨ (rt a = y ∧ rt b = x) := by
            rcases hxy with ⟨q1, q2⟩ | ⟨q1, q2⟩
            · exact Or.inl ⟨q1.symm, q2.symm⟩
            · exact Or.inr ⟨q2.symm, q1.symm⟩
          have hLL : ∀ p, p ∈ L → p ∈ L' := fun p hp => by
            rcases hc with ⟨-, q⟩ | ⟨-, -, -, q⟩
            · rw [q]; exact hp
            · rw [q]; exact List.mem_append_right _ hp
          have hzip : ∀ p, p ∈ (uP τ x).zip (uP τ y) → p.1 ∈ uP τ x ∧ p.2 ∈ uP τ y := fun p hp => ⟨(List.of_mem_zip hp).1, (List.of_mem_zip hp).2⟩
          have nrt := nRt_set (y := y) hx nx
          have rps := rp_set (y := y) hx nx
          have hlen : L'.length ≤ L.length + (uP τ x).length ∧ L'.length ≤ L.length + 6 := by
            rcases hc with ⟨-, q⟩ | ⟨q0, q1, -, q⟩
            · rw [q]; omega
            · have := nm.len hx hy q0 q1
              have := (nm x hx q0).1.2
              rw [q, List.length_append, List.length_reverse, List.length_zip]
              omega
          refine IH h' (tSet τ x y) (rtS rt x y) (fun z => if rt z = x then dp z + dp y + 1 else dp z) L' (by omega) ⟨⟨k', nm'.cg rfl rfl, pl', T'⟩, ⟨r.set hx hy nx ny hxne, nc.set ?_, cp.set nc rx hx ha hb e hLL ?_, tm.set r hx nx ha hb e ?_, fun f q => eq f (Rsp.set rx hx ha hb e hLL q).1⟩, fun ρ => ?_, eN, eP, ?_, by omega, fun z hz hn => ?_⟩
          · intro q
            rcases hc with ⟨q2, -⟩ | ⟨-, q2, -⟩
            · omega
            · exact q2.symm
          · intro q f hf
            rcases hc with ⟨q2, -⟩ | ⟨q0, q2, -, q3⟩
            · omega
            · have hl := nm.len hx hy q0 q2
              refine List.ext_getElem? fun i => ?_
              rw [List.getElem?_map, List.getElem?_map]
              by_cases hi : i < (uP τ x).length
              · obtain ⟨u, hu⟩ : ∃ u, (uP τ x)[i]? = some u := ⟨_, List.getElem?_eq_getElem hi⟩
                obtain ⟨w, hw⟩ : ∃ w, (uP τ y)[i]? = some w := ⟨_, List.getElem?_eq_getElem (by omega)⟩
                have hz : ((uP τ x).zip (uP τ y))[i]? = some (u, w) := by rw [List.getElem?_zip_eq_some]; exact ⟨hu, hw⟩
                have := hf (u, w) (by rw [q3]; exact List.mem_append_left _ (List.mem_reverse.mpr (List.mem_of_getElem? hz)))
                rw [hu, hw]
                show some (f u) = some (f w)
                rw [this]
              · rw [List.getElem?_eq_none (by omega), List.getElem?_eq_none (by omega)]
          · intro p hp
            rcases hc with ⟨-, q⟩ | ⟨q0, q2, -, q⟩
            · rw [q] at hp; exact Or.inl hp
            · rw [q] at hp
              rcases List.mem_append.mp hp with hp | hp
              · exact Or.inr ⟨q0, by omega, hzip p (List.mem_reverse.mp hp)⟩
              · exact Or.inl hp
          · rw [← hJ ρ, jrt ρ]
            have sw : Jn M τ ((rt a, rt b) :: L) ρ ↔ Jn M τ ((x, y) :: L) ρ := by
              rcases hxy with ⟨q1, q2⟩ | ⟨q1, q2⟩
              · rw [q1, q2]
              · rw [q1, q2]; exact Jn_sw
            rw [sw]
            rcases hc with ⟨-, q⟩ | ⟨q0, q2, -, q⟩
            · rw [q, Jn_set hx nx]
            · rw [Jn_parts hx hy q0 (by omega) q2, Jn_set hx nx]
              refine Jn_mem fun p => ?_
              rw [q, List.mem_append, List.mem_append, List.mem_reverse]
          · intro p hp
            rcases hc with ⟨-, q⟩ | ⟨q0, -, -, q⟩
            · rw [q] at hp; exact hLt p hp
            · rw [q] at hp
              rcases List.mem_append.mp hp with hp | hp
              · obtain ⟨z1, z2⟩ := hzip p (List.mem_reverse.mp hp)
                obtain ⟨i, hi⟩ := List.getElem?_of_mem z1
                obtain ⟨j, hj⟩ := List.getElem?_of_mem z2
                exact ⟨((k.2.2.2.2.2 x hx).2.2.2.2.2 i _ hi).2, ((k.2.2.2.2.2 y hy).2.2.2.2.2 j _ hj).2⟩
              · exact hLt p hp
          · have es : uS (tSet τ x y) z = if z = x then some y else uS τ z := rfl
            rw [es] at hn
            by_cases c : z = x
            · rw [if_pos c] at hn; cases hn
            · rw [if_neg c] at hn
              rw [h32' z c]
              exact h32 z hz hn
        have a1 := (k.2.2.2.2.2 (rt a) hra).1
        have b1 := (k.2.2.2.2.2 (rt b) hrb).1
        rw [Int32.le_iff_toInt_le, a1]
        refine ⟨fun z => ⟨vp_in_nI (by omega) (by decide), ?_⟩, fun z => ⟨vp_in_nI (by omega) (by decide), fun h29 e29 => ?_⟩⟩
        · have z' : 0 ≤ uN τ (rt a) := z
          rw [Int32.le_iff_toInt_le, b1]
          refine ⟨fun w => ⟨vp_in_nI (by omega) (by decide), vp_in_nI (by omega) (by decide), ?_⟩, fun w => ⟨vp_in_nI (by omega) (by decide), fun h26 e26 => ?_⟩⟩
          · have w' : 0 ≤ uN τ (rt b) := w
            rw [i_eq, a1, b1]
            refine ⟨fun e => C.ri (c_hm k nm hra) ?_, fun e => ⟨T, Or.inl ⟨rfl, fun ρ hρ => ?_⟩⟩⟩
            · rw [if_pos z']
              refine ⟨vp_in_nI (by omega) (by decide), fun h23 e23 => ?_⟩
              obtain ⟨k2, T2⟩ := k.set hD hra hrb e23
              have nm2 := nm.mv T2 k.1 hD
              have pl2 := pl1.set hD e23
              have hl := nm.len hra hrb z' e
              have hl6 := (nm _ hra z').1.2
              have hrl := rp_le na hra
              have hzl : ((uP τ (rt a)).zip (uP τ (rt b))).length = (uP τ (rt a)).length := by rw [List.length_zip]; omega
              refine jn_144 (τ := tSet τ (rt a) (rt b)) hD hra hrb hl L (fun h2 k3 pl3 T3 e3 => ?_) ?_ ((uP τ (rt a)).length + 1) 0 h23 (Nat.lt_succ_self _) (Nat.zero_le _) k2 pl2 FTy.rf (fun _ => rfl)
              · have := key (rt a) (rt b) (Or.inl ⟨rfl, rfl⟩) _ h2 (Or.inr ⟨z', e, rfl, rfl⟩) k3 (nm2.mv T3 k2.1 hD) pl3 ((T.tr T2).tr T3) (fun z hz => by rw [e3, e23, aI_sI, if_neg (fun w => hz w.2)])
                rw [List.length_append, List.length_reverse, hzl, Nat.add_comm (uP τ (rt a)).length] at this
                exact this
              · show 2 * (L.length + (uP τ (rt a)).length) ≤ 300000
                omega
            · exact Jn_no hra hrb z' w' e ((jrt ρ).mp ((hJ ρ).mpr hρ))
          · have w' : ¬ 0 ≤ uN τ (rt b) := w
            obtain ⟨k2, T2⟩ := k.set hD hrb hra e26
            exact key (rt b) (rt a) (Or.inr ⟨rfl, rfl⟩) L h26 (Or.inl ⟨by omega, rfl⟩) k2 (nm.mv T2 k.1 hD) (pl1.set hD e26) (T.tr T2) (fun z hz => by rw [e26, aI_sI, if_neg (fun w => hz w.2)])
        · have z' : ¬ 0 ≤ uN τ (rt a) := z
          obtain ⟨k2, T2⟩ := k.set hD hra hrb e29
          exact key (rt a) (rt b) (Or.inl ⟨rfl, rfl⟩) L h29 (Or.inl ⟨by omega, rfl⟩) k2 (nm.mv T2 k.1 hD) (pl1.set hD e29) (T.tr T2) (fun z hz => by rw [e29, aI_sI, if_neg (fun w => hz w.2)])
end
