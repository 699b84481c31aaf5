/-! GENERAL VARIABLES: the names' schemes -/
theorem gzz_ins {θ : Int → Tr} {ρ : Nat → Tr} : ∀ (s : Tr) (b : Bool), gzz s b ≤ gzz (ins θ ρ s) b := by
  have le1 : ∀ (t u : Tr) (b : Bool), (∀ b, gzz t b = if b = true then 0 else 1) → gzz t b ≤ gzz u b := fun t u b h => by
    rw [h b]
    cases b with
    | true => exact Nat.zero_le _
    | false => exact gsz_pos u
  intro s
  induction s with
  | num v => intro b; exact Nat.le_refl _
  | var x => intro b; exact le1 _ _ b fun b => rfl
  | add a c iha ihc =>
    intro b
    show (if b = true then gzz a false + gzz c true else 1) ≤ if b = true then gzz (ins θ ρ a) false + gzz (ins θ ρ c) true else 1
    split
    · exact Nat.add_le_add (iha false) (ihc true)
    · exact Nat.le_refl _
  | mulL n a iha =>
    intro b
    show (if b = true then 0 else gzz a true + 1) ≤ if b = true then 0 else gzz (ins θ ρ a) true + 1
    split
    · exact Nat.le_refl _
    · exact Nat.succ_le_succ (iha true)
  | neg a _ => intro b; exact le1 _ _ b fun b => rfl
  | sub a c _ _ => intro b; exact le1 _ _ b fun b => rfl
  | mulR a n _ => intro b; exact le1 _ _ b fun b => rfl
section
variable {G : Gh} {M : Nat} {τ : Tb} {rt dp : Nat → Nat} {V ts : List Nat} {E : Nat → Prop} {ρ : Nat → Tr} {t : Nat} {h' : AH} {Γ : List (Nat × Tr)}
theorem gE_s {s : Tr} (hn : ∀ x, x ∈ Γ → x.1 ≠ t) : gE (Γ ++ [(t, s)]) ρ = updE (gE Γ ρ) t (sg s ρ) := by
  funext x w
  unfold updE
  by_cases c : x = t
  · rw [if_pos c]
    refine propext ⟨?_, fun e => ⟨s, by rw [c]; exact List.mem_append_right _ (List.mem_cons_self ..), e⟩⟩
    rintro ⟨s', h1, h2⟩
    rcases List.mem_append.mp h1 with q | q
    · exact absurd c (hn _ q)
    · have e := (List.mem_cons.mp q).resolve_right fun z => by cases z
      cases e
      exact h2
  · rw [if_neg c]
    refine propext ⟨?_, fun ⟨s', h1, h2⟩ => ⟨s', List.mem_append_left _ h1, h2⟩⟩
    rintro ⟨s', h1, h2⟩
    rcases List.mem_append.mp h1 with q | q
    · exact ⟨s', q, h2⟩
    · have e := (List.mem_cons.mp q).resolve_right fun z => by cases z
      cases e
      exact absurd rfl c
/-- names with schemes come in sight -/
theorem gE_aps : ∀ (toks : List Nat) (scs : List Tr) (Γ : List (Nat × Tr)), toks.Nodup → (∀ t, t ∈ toks → ∀ x, x ∈ Γ → x.1 ≠ t) → scs.length = toks.length → gE (Γ ++ toks.zip scs) ρ = updS (gE Γ ρ) (toks.zip (scs.map fun s => sg s ρ)) := by
  intro toks
  induction toks with
  | nil =>
    intro scs Γ _ _ _
    rw [List.zip_nil_left, List.zip_nil_left, List.append_nil]
    rfl
  | cons t toks ih =>
    intro scs Γ h1 h2 h3
    cases scs with
    | nil => cases h3
    | cons s scs =>
      have e1 : Γ ++ (t :: toks).zip (s :: scs) = (Γ ++ [(t, s)]) ++ toks.zip scs := by
        rw [List.append_assoc]
        rfl
      rw [e1, ih scs (Γ ++ [(t, s)]) (List.nodup_cons.mp h1).2 (fun t' ht' x hx => ?_) (by simpa using h3), gE_s (h2 t (List.mem_cons_self ..))]
      · rfl
      · rcases List.mem_append.mp hx with q | q
        · exact h2 t' (List.mem_cons_of_mem _ ht') x q
        · rw [(List.mem_cons.mp q).resolve_right fun z => by cases z]
          exact fun e => (List.nodup_cons.mp h1).1 (by rw [show t = t' from e]; exact ht')
/-- flags of a name that was made general -/
theorem gen_fl2n (sf : SF M τ rt dp) (kc : KC M τ (· < M)) (g : GenH M τ rt E V ts) (ht : t ∈ ts) (hfl : ∀ z, z ∈ V → (aI h' (gW G 1032) z = -2 ↔ ¬ cln M (gnT τ V) z)) : FL2 G h' M (gnT τ V) t := by
  obtain ⟨gE, gV', gt', gm⟩ := g
  have r := sf.1
  obtain ⟨ct, hrt⟩ := gt' t ht
  have htM := ct.lt
  obtain ⟨Kt, q1, q2, q3⟩ := ct
  have kVE : KC M τ (Cls M rt (fun z => z ∈ V ∨ E z)) := Cls.kc sf kc fun z hz h1 p hp => by
    rcases h1 with h1 | h1
    · exact (gV' z h1).2 p hp
    · exact Or.inr (gE z hz h1 p hp)
  have kEE : KC M τ (Cls M rt E) := Cls.kc sf kc gE
  refine ⟨fun z => Kt z ∧ Cls M rt (fun z => z ∈ V ∨ E z) z, gn_kc.mpr fun z hz => ⟨hz.2.1, fun y hy => ⟨(q1 z hz.1).2.1 y hy, (kVE z hz.2).2.1 y hy⟩, fun hn p hp => ⟨(q1 z hz.1).2.2 hn p hp, (kVE z hz.2).2.2 hn p hp⟩⟩, ⟨q2, htM, hrt⟩, fun z ⟨hz, hzM, hzr⟩ hn c => ?_⟩
  have hn' : uS τ z = none := hn
  rw [(r z hzM).2.2 hn'] at hzr
  rcases hzr with w | w
  · exact (hfl z w).mpr c
  · refine absurd ⟨fun y => Kt y ∧ Cls M rt E y, gn_kc.mpr fun y hy => ⟨hy.2.1, fun x hx => ⟨(q1 y hy.1).2.1 x hx, (kEE y hy.2).2.1 x hx⟩, fun hn p hp => ⟨(q1 y hy.1).2.2 hn p hp, (kEE y hy.2).2.2 hn p hp⟩⟩, ⟨hz, hzM, by rw [(r z hzM).2.2 hn']; exact w⟩, fun y ⟨hy, hyM, hyr⟩ e => ?_⟩ c
    rw [gn_uN, if_neg] at e
    · exact q3 y hy e
    · intro q
      obtain ⟨⟨v1, v2, v3⟩, -⟩ := gV' y q.1
      rw [(r y hyM).2.2 v1] at hyr
      exact v3 hyr
end
