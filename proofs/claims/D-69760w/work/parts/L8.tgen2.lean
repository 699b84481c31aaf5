/-! GENERAL VARIABLES: what schemes they make -/
section
variable {M M0 : Nat} {τ τ' : Tb} {rt dp km : Nat → Nat} {V ts : List Nat} {E K : Nat → Prop} {ρ ρ' : Nat → Tr} {s : Tr} {x : Nat}
/-- nodes where two solutions agree -/
theorem Sl.agr (h1 : Sl M τ ρ) (h2 : Sl M τ ρ') (kc : KC M τ (· < M)) : KC M τ (fun z => z < M ∧ ρ z = ρ' z) := by
  rintro z ⟨hz, e⟩
  obtain ⟨-, c2, c3⟩ := kc z hz
  refine ⟨hz, fun y hy => ⟨c2 y hy, ?_⟩, fun hn p hp => ⟨c3 hn p hp, ?_⟩⟩
  · rw [← (h1 z hz).1 y hy, ← (h2 z hz).1 y hy]
    exact e
  · rw [(h1 z hz).2 hn, (h2 z hz).2 hn] at e
    have e2 := (gt_inj e).2
    obtain ⟨i, hi⟩ := List.getElem?_of_mem hp
    have e3 : ((uP τ z).map ρ)[i]? = ((uP τ z).map ρ')[i]? := by rw [e2]
    rw [List.getElem?_map, List.getElem?_map, hi] at e3
    injection e3
/-- the nodes of a scheme lie in each closed set that has it -/
theorem sc_in (r : RTs M τ rt dp) (kc : KC M τ K) : ∀ f x, K x → ∀ y, sNd (scF M τ rt f x) y → K y := by
  intro f
  induction f with
  | zero =>
    intro x hx y hy
    change x = y at hy
    rw [← hy]
    exact hx
  | succ f ih =>
    intro x hx y hy
    have hM := (kc x hx).1
    by_cases c : cln M τ x
    · rw [sc_cln c] at hy
      change x = y at hy
      rw [← hy]
      exact hx
    · by_cases hn : uN τ (rt x) < 0
      · rw [sc_var c hn] at hy
        exact hy.elim
      · rw [sc_gt c hn] at hy
        have : ∀ l : List Tr, sNd (ls l) y → ∃ z, z ∈ l ∧ sNd z y := by
          intro l
          induction l with
          | nil => intro h; exact h.elim
          | cons a l ih2 =>
            rintro (h | h)
            · exact ⟨a, List.mem_cons_self .., h⟩
            · obtain ⟨z, h1, h2⟩ := ih2 h
              exact ⟨z, List.mem_cons_of_mem _ h1, h2⟩
        obtain ⟨z, h1, h2⟩ := this _ hy
        obtain ⟨p, hp, rfl⟩ := List.mem_map.mp h1
        exact ih p ((kc _ (kc.rtt r _ x (Nat.lt_succ_self _) hM hx)).2.2 (by omega) p hp) y h2
/-- instances of a node's scheme are its types in other solutions -/
theorem sc_ins (sf : SF M τ rt dp) (kc : KC M τ (· < M)) (gr : ∀ x, x < M → uN τ x = -2 → uS τ x = none) (k1 : ∀ x, x < M → km x = km (rt x)) (k2 : ∀ x, x < M → 0 ≤ uN τ x → ∀ p, p ∈ uP τ x → km p < km x) (h' : Sl M τ ρ') {θ : Int → Tr} (hK : KC M τ K) (hg : ∀ v, K v → uS τ v = none → uN τ v = -2 → ρ' v = θ v) (hc : ∀ y, K y → cln M τ y → ρ' y = ρ y) : ∀ f x, km x < f → K x → ρ' x = ins θ ρ (scF M τ rt f x) := by
  have r := sf.1
  intro f
  induction f with
  | zero => intro x hk; omega
  | succ f ih =>
    intro x hk hx
    have hM := (hK x hx).1
    have hr := (r x hM).1
    have hKr := hK.rtt r _ x (Nat.lt_succ_self _) hM hx
    by_cases c : cln M τ x
    · rw [sc_cln c]
      exact hc x hx c
    · have c' : ¬ cln M τ (rt x) := fun q => c ((cln_rt sf kc gr hM).mp q)
      have nr : uS τ (rt x) = none := r.none _ x (Nat.lt_succ_self _) hM
      rw [h'.rtt r _ x (Nat.lt_succ_self _) hM]
      by_cases hn : uN τ (rt x) < 0
      · rw [sc_var c hn]
        refine hg _ hKr nr (Classical.byContradiction fun w => c' (cln_mk sf kc gr hr nr w fun p hp => ?_))
        unfold pc at hp
        rw [if_neg (by omega)] at hp
        cases hp
      · rw [sc_gt c hn, ins_gt, (h' _ hr).2 (by omega), List.map_map]
        congr 1
        refine List.map_congr_left fun p hp => ih p ?_ ((hK _ hKr).2.2 (by omega) p hp)
        have := k2 _ hr (by omega) p hp
        rw [← k1 x hM] at this
        omega
/-- what holds when variables are made general: E is marked, V are the nodes of the names ts that are not -/
def GenH (M : Nat) (τ : Tb) (rt : Nat → Nat) (E : Nat → Prop) (V ts : List Nat) : Prop := (∀ z, z < M → E z → ∀ p, p ∈ pc τ z → E (rt p)) ∧ (∀ z, z ∈ V → (uS τ z = none ∧ z < M ∧ ¬ E z) ∧ ∀ p, p ∈ pc τ z → rt p ∈ V ∨ E (rt p)) ∧ (∀ t, t ∈ ts → cln M τ t ∧ (rt t ∈ V ∨ E (rt t))) ∧ ∀ K : Nat → Prop, KC M τ K → (∀ t, t ∈ ts → K t) → ∀ z, z ∈ V → K z
theorem GenH.gr (g : GenH M τ rt E V ts) (gr : ∀ x, x < M → uN τ x = -2 → uS τ x = none) : ∀ x, x < M → uN (gnT τ V) x = -2 → uS (gnT τ V) x = none := fun x hx hn => by
  rw [gn_uN] at hn
  by_cases c : x ∈ V ∧ uN τ x < 0
  · exact (g.2.1 x c.1).1.1
  · rw [if_neg c] at hn; exact gr x hx hn
/-- old clean nodes stay clean -/
theorem gen_old (sf : SF M τ rt dp) (kc : KC M τ (· < M)) (g : GenH M τ rt E V ts) {γ : (Nat → Tr) → En} {R : En → List Tr → Prop} (hM0 : M0 ≤ M)
    (hγ : ∀ ρ ρ', Sl M τ ρ → Sl M τ ρ' → (∀ z, Cls M rt E z → ρ z = ρ' z) → γ ρ = γ ρ') (H1 : ∀ ρ, Sl M τ ρ → R (γ ρ) (ts.map ρ)) (H2 : ∀ ρ, Sl M τ ρ → ∀ u, R (γ ρ) u → ∃ ρ', Sl M τ ρ' ∧ (∀ x, x < M0 → ρ' x = ρ x) ∧ ts.map ρ' = u) {x : Nat} (hx : x < M0) (c : cln M τ x) : cln M (gnT τ V) x := by
  obtain ⟨gE, gV', gt', gm⟩ := g
  have r := sf.1
  obtain ⟨K0, c1, c2, c3⟩ := c
  refine ⟨fun z => K0 z ∧ ∀ ρ ρ', Sl M τ ρ → Sl M τ ρ' → (∀ x, x < M0 → ρ x = ρ' x) → ρ z = ρ' z, gn_kc.mpr fun z ⟨hz, hd⟩ => ⟨(c1 z hz).1, fun y hy => ⟨(c1 z hz).2.1 y hy, fun ρ ρ' h1 h2 he => ?_⟩, fun hn p hp => ⟨(c1 z hz).2.2 hn p hp, fun ρ ρ' h1 h2 he => ?_⟩⟩, ⟨c2, fun ρ ρ' _ _ he => he x hx⟩, fun z ⟨hz, hd⟩ e => ?_⟩
  · exact ((Sl.agr h1 h2 kc z ⟨(c1 z hz).1, hd ρ ρ' h1 h2 he⟩).2.1 y hy).2
  · exact ((Sl.agr h1 h2 kc z ⟨(c1 z hz).1, hd ρ ρ' h1 h2 he⟩).2.2 hn p hp).2
  · rw [gn_uN] at e
    by_cases q : z ∈ V ∧ uN τ z < 0
    · obtain ⟨⟨v1, v2, v3⟩, -⟩ := gV' z q.1
      have rz : rt z = z := (r z v2).2.2 v1
      obtain ⟨ρ1, s1, s2⟩ := sf.sol kc (fun _ => gt 9 [])
      obtain ⟨ρ2, t1, t2⟩ := sf.sol kc (fun v => if v = z then gt 7 [] else gt 9 [])
      have e12 : γ ρ2 = γ ρ1 := by
        refine hγ ρ2 ρ1 t1 s1 fun w hw => ?_
        refine sf.uniq (Cls.kc sf kc gE) t1 s1 (fun y hy hn => ?_) w hw
        have hyM := hy.1
        have hr := (r y hyM).1
        have rr := r.id hyM
        rw [t2 (rt y) hr (by rw [rr]; exact hn), s2 (rt y) hr (by rw [rr]; exact hn), rr, if_neg]
        intro w2
        have := hy.2
        rw [w2] at this
        exact v3 this
      obtain ⟨ρ3, u1, u2, u3⟩ := H2 ρ1 s1 (ts.map ρ2) (by rw [← e12]; exact H1 ρ2 t1)
      have a1 : ρ3 z = ρ1 z := hd ρ3 ρ1 u1 s1 u2
      have a2 : ρ3 z = ρ2 z := by
        refine (gm _ (Sl.agr u1 t1 kc) (fun t ht => ⟨(gt' t ht).1.lt, ?_⟩) z q.1).2
        obtain ⟨i, hi⟩ := List.getElem?_of_mem ht
        have e3 : (ts.map ρ3)[i]? = (ts.map ρ2)[i]? := by rw [u3]
        rw [List.getElem?_map, List.getElem?_map, hi] at e3
        injection e3
      rw [a1, s2 z v2 (by rw [rz]; exact q.2), t2 z v2 (by rw [rz]; exact q.2), rz, if_pos rfl] at a2
      exact absurd (gt_inj a2).1 (by decide)
    · rw [if_neg q] at e
      exact c3 z hz e
/-- the types of a name that was made general -/
theorem gen_sc (sf : SF M τ rt dp) (kc : KC M τ (· < M)) (gr : ∀ x, x < M → uN τ x = -2 → uS τ x = none) (g : GenH M τ rt E V ts) {γ : (Nat → Tr) → En} {R : En → List Tr → Prop}
    (hγ : ∀ ρ ρ', Sl M τ ρ → Sl M τ ρ' → (∀ z, Cls M rt E z → ρ z = ρ' z) → γ ρ = γ ρ') (hE0 : ∀ ρ ρ', Sl M τ ρ → Sl M τ ρ' → (∀ x, x < M0 → ρ x = ρ' x) → ∀ z, E z → ρ z = ρ' z) (H1 : ∀ ρ, Sl M τ ρ → R (γ ρ) (ts.map ρ)) (H2 : ∀ ρ, Sl M τ ρ → ∀ u, R (γ ρ) u → ∃ ρ', Sl M τ ρ' ∧ (∀ x, x < M0 → ρ' x = ρ x) ∧ ts.map ρ' = u)
    {i t : Nat} (ht : ts[i]? = some t) (se : SE M (gnT τ V) t s) (hρ : Sl M τ ρ) (u : Tr) : sg s ρ u ↔ ∃ us, R (γ ρ) us ∧ us[i]? = some u := by
  obtain ⟨gE, gV', gt', gm⟩ := id g
  have r := sf.1
  have sf' : SF M (gnT τ V) rt dp := gn_sf sf
  have kc' : KC M (gnT τ V) (· < M) := gn_kc.mpr kc
  have gr' := g.gr gr
  obtain ⟨km, k1, k2⟩ := sf'.kmx
  have htM := se.1
  have htm := List.mem_of_getElem? ht
  obtain ⟨ct, hrt⟩ := gt' t htm
  have es : scF M (gnT τ V) rt (km t + 1) t = s := by
    obtain ⟨f, hf⟩ := se.use (gn_rts.mpr r) kc'
    rw [← hf (f + km t + 1) (by omega)]
    exact sc_fuel sf' kc' k1 k2 _ _ t htM (by omega) (by omega)
  have kVE : KC M τ (Cls M rt (fun z => z ∈ V ∨ E z)) := Cls.kc sf kc fun z hz h1 p hp => by
    rcases h1 with h1 | h1
    · exact (gV' z h1).2 p hp
    · exact Or.inr (gE z hz h1 p hp)
  -- the nodes of t: clean, in V or E
  obtain ⟨Kt, q1, q2, q3⟩ := ct
  have kT : KC M τ (fun z => Kt z ∧ Cls M rt (fun z => z ∈ V ∨ E z) z) := fun z hz => ⟨hz.2.1, fun y hy => ⟨(q1 z hz.1).2.1 y hy, (kVE z hz.2).2.1 y hy⟩, fun hn p hp => ⟨(q1 z hz.1).2.2 hn p hp, (kVE z hz.2).2.2 hn p hp⟩⟩
  have agree : ∀ ρ', Sl M τ ρ' → (∀ z, z < M → uS τ z = none → E z → ρ' z = ρ z) → ∀ y, (Kt y ∧ Cls M rt (fun z => z ∈ V ∨ E z) y) → cln M (gnT τ V) y → ρ' y = ρ y := by
    intro ρ' hρ' hE y hy cy
    obtain ⟨Ky, y1, y2, y3⟩ := cy
    have y1' := gn_kc.mp y1
    refine sf.uniq (K := fun z => Ky z ∧ Kt z ∧ Cls M rt (fun z => z ∈ V ∨ E z) z) (fun z hz => ⟨(y1' z hz.1).1, fun w hw => ⟨(y1' z hz.1).2.1 w hw, (kT z hz.2).2.1 w hw⟩, fun hn p hp => ⟨(y1' z hz.1).2.2 hn p hp, (kT z hz.2).2.2 hn p hp⟩⟩) hρ' hρ (fun z hz hn => ?_) y ⟨y2, hy⟩
    have hzM := (y1' z hz.1).1
    rcases hz.2.2.2 with w | w
    · refine absurd ?_ (y3 _ (y1'.rtt r _ z (Nat.lt_succ_self _) hzM hz.1))
      rw [gn_uN, if_pos ⟨w, hn⟩]
    · exact hE _ (r z hzM).1 (r.none _ z (Nat.lt_succ_self _) hzM) w
  constructor
  · rintro ⟨θ, rfl⟩
    obtain ⟨ρ', s1, s2⟩ := sf.sol kc (fun v => if v ∈ V then θ v else ρ v)
    have hEa : ∀ z, Cls M rt E z → ρ' z = ρ z := by
      refine fun w hw => sf.uniq (Cls.kc sf kc gE) s1 hρ (fun y hy hn => ?_) w hw
      have hyM := hy.1
      have hr := (r y hyM).1
      have rr := r.id hyM
      rw [s2 (rt y) hr (by rw [rr]; exact hn), rr, if_neg fun q => (gV' _ q).1.2.2 hy.2]
    have hE : ∀ z, z < M → uS τ z = none → E z → ρ' z = ρ z := fun z hz hn he => hEa z ⟨hz, by rw [(r z hz).2.2 hn]; exact he⟩
    refine ⟨ts.map ρ', by rw [← hγ ρ' ρ s1 hρ hEa]; exact H1 ρ' s1, ?_⟩
    rw [List.getElem?_map, ht]
    show some (ρ' t) = _
    rw [← es]
    congr 1
    refine sc_ins sf' kc' gr' k1 k2 (gn_sl.mpr s1) (gn_kc.mpr kT) (fun v hv nv e => ?_) (fun y hy cy => agree ρ' s1 (fun z hz hn he => hE z hz hn he) y hy cy) _ t (by omega) ⟨q2, htM, hrt⟩
    have hvM := hv.2.1
    rw [gn_uN] at e
    by_cases q : v ∈ V ∧ uN τ v < 0
    · have rv : rt v = v := (r v hvM).2.2 nv
      rw [s2 v hvM (by rw [rv]; exact q.2), rv, if_pos q.1]
    · rw [if_neg q] at e
      exact absurd e (q3 v hv.1)
  · rintro ⟨us, h1, h2⟩
    obtain ⟨ρ', u1, u2, u3⟩ := H2 ρ hρ us h1
    have hE := hE0 ρ' ρ u1 hρ u2
    refine ⟨fun v => ρ' v.toNat, ?_⟩
    have e3 : (ts.map ρ')[i]? = us[i]? := by rw [u3]
    rw [List.getElem?_map, ht, h2] at e3
    injection e3 with e3
    rw [← e3, ← es]
    refine sc_ins sf' kc' gr' k1 k2 (gn_sl.mpr u1) (gn_kc.mpr kT) (fun v _ _ _ => ?_) (fun y hy cy => agree ρ' u1 (fun z _ _ he => hE z he) y hy cy) _ t (by omega) ⟨q2, htM, hrt⟩
    rw [Int.toNat_natCast]
end
