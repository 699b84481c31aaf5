/-! GENERAL VARIABLES: what stays -/
/-- what the nodes before M0 say -/
def Det (M : Nat) (τ : Tb) (M0 z : Nat) : Prop := ∀ ρ ρ', Sl M τ ρ → Sl M τ ρ' → (∀ x, x < M0 → ρ x = ρ' x) → ρ z = ρ' z
section
variable {G : Gh} {M M0 : Nat} {τ : Tb} {rt dp : Nat → Nat} {V ts : List Nat} {E K : Nat → Prop} {ρ ρ' : Nat → Tr} {s : Tr} {x : Nat} {h h' : AH}
theorem kc_det (kc : KC M τ (· < M)) (hK : KC M τ K) : KC M τ (fun z => K z ∧ Det M τ M0 z) := fun z ⟨hz, hd⟩ => ⟨(hK z hz).1, fun y hy => ⟨(hK z hz).2.1 y hy, fun ρ ρ' h1 h2 he => ((Sl.agr h1 h2 kc z ⟨(hK z hz).1, hd ρ ρ' h1 h2 he⟩).2.1 y hy).2⟩, fun hn p hp => ⟨(hK z hz).2.2 hn p hp, fun ρ ρ' h1 h2 he => ((Sl.agr h1 h2 kc z ⟨(hK z hz).1, hd ρ ρ' h1 h2 he⟩).2.2 hn p hp).2⟩⟩
theorem gen_det (sf : SF M τ rt dp) (kc : KC M τ (· < M)) (g : GenH M τ rt E V ts) {γ : (Nat → Tr) → En} {R : En → List Tr → Prop}
    (hγ : ∀ ρ ρ', Sl M τ ρ → Sl M τ ρ' → (∀ z, Cls M rt E z → ρ z = ρ' z) → γ ρ = γ ρ') (H1 : ∀ ρ, Sl M τ ρ → R (γ ρ) (ts.map ρ)) (H2 : ∀ ρ, Sl M τ ρ → ∀ u, R (γ ρ) u → ∃ ρ', Sl M τ ρ' ∧ (∀ x, x < M0 → ρ' x = ρ x) ∧ ts.map ρ' = u) {z : Nat} (hd : Det M τ M0 z) : ¬ (z ∈ V ∧ uN τ z < 0) := by
  intro q
  obtain ⟨gE, gV', gt', gm⟩ := g
  have r := sf.1
  obtain ⟨⟨v1, v2, v3⟩, -⟩ := gV' z q.1
  have rz : rt z = z := (r z v2).2.2 v1
  obtain ⟨ρ1, s1, s2⟩ := sf.sol kc (fun _ => gt 9 [])
  obtain ⟨ρ2, t1, t2⟩ := sf.sol kc (fun v => if v = z then gt 7 [] else gt 9 [])
  have e12 : γ ρ2 = γ ρ1 := by
    refine hγ ρ2 ρ1 t1 s1 fun w hw => ?_
    refine sf.uniq (Cls.kc sf kc gE) t1 s1 (fun y hy hn => ?_) w hw
    have hyM := hy.1
    have hr := (r y hyM).1
    have rr := r.id hyM
    rw [t2 (rt y) hr (by rw [rr]; exact hn), s2 (rt y) hr (by rw [rr]; exact hn), rr, if_neg]
    intro w2
    have := hy.2
    rw [w2] at this
    exact v3 this
  obtain ⟨ρ3, u1, u2, u3⟩ := H2 ρ1 s1 (ts.map ρ2) (by rw [← e12]; exact H1 ρ2 t1)
  have a1 : ρ3 z = ρ1 z := hd ρ3 ρ1 u1 s1 u2
  have a2 : ρ3 z = ρ2 z := by
    refine (gm _ (Sl.agr u1 t1 kc) (fun t ht => ⟨(gt' t ht).1.lt, ?_⟩) z q.1).2
    obtain ⟨i, hi⟩ := List.getElem?_of_mem ht
    have e3 : (ts.map ρ3)[i]? = (ts.map ρ2)[i]? := by rw [u3]
    rw [List.getElem?_map, List.getElem?_map, hi] at e3
    injection e3
  rw [a1, s2 z v2 (by rw [rz]; exact q.2), t2 z v2 (by rw [rz]; exact q.2), rz, if_pos rfl] at a2
  exact absurd (gt_inj a2).1 (by decide)
theorem gen_cln (kc : KC M τ (· < M)) (hd : ∀ z, Det M τ M0 z → ¬ (z ∈ V ∧ uN τ z < 0)) (hx : Det M τ M0 x) (c : cln M τ x) : cln M (gnT τ V) x := by
  obtain ⟨K0, c1, c2, c3⟩ := c
  refine ⟨fun z => K0 z ∧ Det M τ M0 z, gn_kc.mpr (kc_det kc c1), ⟨c2, hx⟩, fun z ⟨hz, hdz⟩ e => ?_⟩
  rw [gn_uN, if_neg (hd z hdz)] at e
  exact c3 z hz e
theorem cln_gn (c : cln M (gnT τ V) x) : cln M τ x := by
  obtain ⟨K0, c1, c2, c3⟩ := c
  refine ⟨K0, gn_kc.mp c1, c2, fun z hz e => c3 z hz ?_⟩
  rw [gn_uN]
  split
  · rfl
  · exact e
theorem gen_scF (sf : SF M τ rt dp) (kc : KC M τ (· < M)) (hd : ∀ z, Det M τ M0 z → ¬ (z ∈ V ∧ uN τ z < 0)) : ∀ f x, x < M → Det M τ M0 x → scF M (gnT τ V) rt f x = scF M τ rt f x := by
  have r := sf.1
  intro f
  induction f with
  | zero => intro x _ _; rfl
  | succ f ih =>
    intro x hx hdx
    by_cases c : cln M τ x
    · rw [sc_cln c, sc_cln (gen_cln kc hd hdx c)]
    · have c' : ¬ cln M (gnT τ V) x := fun q => c (cln_gn q)
      have hdr : Det M τ M0 (rt x) := fun ρ ρ' h1 h2 he => by
        rw [← h1.rtt r _ x (Nat.lt_succ_self _) hx, ← h2.rtt r _ x (Nat.lt_succ_self _) hx]
        exact hdx ρ ρ' h1 h2 he
      have eN : uN (gnT τ V) (rt x) = uN τ (rt x) := by rw [gn_uN, if_neg (hd _ hdr)]
      by_cases hn : uN τ (rt x) < 0
      · rw [sc_var c hn, sc_var c' (by rw [eN]; exact hn)]
      · rw [sc_gt c hn, sc_gt c' (by rw [eN]; exact hn), eN]
        have k1 := kc_det (M0 := M0) kc kc (rt x) ⟨(r x hx).1, hdr⟩
        congr 1
        refine List.map_congr_left fun p hp => ?_
        obtain ⟨p1, p2⟩ := k1.2.2 (by omega) p hp
        exact ih p p1 p2
/-- old schemes stay -/
theorem gen_se (sf : SF M τ rt dp) (kc : KC M τ (· < M)) (hd : ∀ z, Det M τ M0 z → ¬ (z ∈ V ∧ uN τ z < 0)) (hx : Det M τ M0 x) (e : SE M τ x s) : SE M (gnT τ V) x s := by
  obtain ⟨f, hf⟩ := e.use sf.1 kc
  exact ⟨e.1, rt, dp, f, gn_rts.mpr sf.1, fun f' hf' => by rw [gen_scF sf kc hd f' x e.1 hx]; exact hf f' hf'⟩
theorem gen_fl2 (kc : KC M τ (· < M)) (hd : ∀ z, Det M τ M0 z → ¬ (z ∈ V ∧ uN τ z < 0)) (hx : Det M τ M0 x) (hfl : ∀ z, z < M → uS τ z = none → (z ∈ V → (aI h' (gW G 1032) z = -2 ↔ ¬ cln M (gnT τ V) z)) ∧ (z ∉ V → aI h' (gW G 1032) z = aI h (gW G 1032) z)) (f : FL2 G h M τ x) : FL2 G h' M (gnT τ V) x := by
  obtain ⟨F, f1, f2, f3⟩ := f
  refine ⟨fun z => F z ∧ Det M τ M0 z, gn_kc.mpr (kc_det kc f1), ⟨f2, hx⟩, fun z ⟨hz, hdz⟩ hn c => ?_⟩
  have hn' : uS τ z = none := hn
  obtain ⟨g1, g2⟩ := hfl z (f1 z hz).1 hn'
  by_cases q : z ∈ V
  · exact (g1 q).mpr c
  · rw [g2 q]
    exact f3 z hz hn' fun w => c (gen_cln kc hd hdz w)
end
