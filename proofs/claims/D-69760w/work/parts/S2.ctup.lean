/-! THE COMPONENT'S TYPER: tuples -/
section
variable {G : Gh} {c : Cx} {P P0 : Nat → Prop} {s s1 s2 : Sx} {b n q q5 lo hi rc' D t arr L0 : Nat} {V : List Nat} {l : List Tr}
theorem tup_10 (hE : ExI G c n) (k : XS G c P s) (hhi : hi ≤ c.ts.length) (hWq : c.W q) (hk : hK s.h q = 38) (eA' : ArF c.W s.h q 333 arr) (hla : hL s.h arr = l.length) (hl6 : 2 ≤ l.length ∧ l.length ≤ 6) (hq5 : hK s.h q5 = 0) (tg : TG (XA c.ts c.W c.O c.Z c.D s.h) c.W s.h (aR s.h arr) l) (hTl : ∀ y, y ∈ l → TR lo hi y) (hV : ∀ t, t ∈ V → ∃ σ, (t, σ) ∈ s.E) (hD : ∀ y, y ∈ l → fw y + 600 ≤ D) (hD2 : 600 ≤ D) : ∀ (l2 l1 : List Tr) (b : Nat) (s1 : Sx) (us L : List Nat) (S : En → List Tr → Prop) (A1 : En → Prop) (w : List (Nat × Nat)), l = l1 ++ l2 → Rn G c (fun a => P a ∨ a = q5) s (fun t => t ∈ L) s1 us b S → us.length = l1.length → (hL s1.h q5 = l.length ∧ ∀ (j p : Nat), us[j]? = some p → aI s1.h q5 j = nI p) → (∀ γ, A1 γ ↔ ∃ u, S γ u) → sLn (fun rc e rc' => sEx c.ts c.O c.N c.Ct c.Dt n 0 V rc e rc') l2 s1.rc rc' → BdX c s (b + 2 * nw (ls l2) + 1) → Frs s.h c.Z c.D s.E (L ++ bT (ls l2)) → s1.ws = wAll s.ws w →
    X G mX41_infer (D + 1) none [] 10 [(0, .ref q), (1, .ref (gW G 6)), (2, .ref q5), (3, .int (nI l1.length))] [] s1.h (ExQ G c P s (fun x => x ∈ L ++ bT (ls l2)) (b + 2 * nw (ls l2) + 1 - l2.length) (bE (tEs (tW c.N c.Ct c.Dt (Vl c.ts) c.kn n) l2 A1) fun Q => .ok fun γ τ => γ = γ ∧ ∃ τs1 τs2, τ = gt l.length (τs1 ++ τs2) ∧ S γ τs1 ∧ Q γ τs2) (w ++ (l2.map (wW c.Ct c.Dt (Pl c.ts) n 0)).flatten) rc') := by
  have nty : ∀ i, i ∈ TyC → q5 ≠ gW G i := fun i hi e => (tyc_k2 k.sA i hi).1 (by rw [← e]; exact hq5)
  intro l2
  induction l2 with
  | nil =>
    intro l1 b s1 us L S A1 w he r hul hy hA hs hb hf hw
    rw [List.append_nil] at he
    subst he
    have ux := r.uf k hWq
    have ua := r.uf k eA'.2.2
    have x1 := r.xs
    obtain ⟨u1, u2, u3, u4, u5⟩ := hb
    obtain ⟨⟨c1, c2, c3⟩, c4, c5⟩ := r.cnt
    obtain ⟨pv1, pv2, pv3⟩ := x1.2.2.2.2.2.2.1 q5 (Or.inr rfl)
    refine bX41_infer_10 G D s1.h _ _ _ _ (x1.sA.at (by decide)) (x1.sA.at (by decide)) ⟨ux.1.trans hk, arr, (ux.2.2.2.2.2 333).2.2.trans eA'.1, ua.1.trans eA'.2.1, ?_⟩
    rw [ua.2.1, hla, show Int32.ofNat l.length = nI l.length from rfl, nI_leI (by omega) (by omega)]
    refine ⟨fun _ => ⟨arr, (ux.2.2.2.2.2 333).2.2.trans eA'.1, ua.1.trans eA'.2.1, pv2, ?_⟩, fun z => absurd (Nat.le_refl _) z⟩
    rw [ua.2.1, hla, hy.1, show Int32.ofNat l.length = nI l.length from rfl]
    have nmL : NmT G s1.h (nI l.length).toInt us.length := by
      rw [nI_toInt (by omega), hul]
      exact x1.1.1.2.1.2.1 l.length hl6.1 hl6.2
    have ob := o_b2 (d := 0) (f := 0) (ps := us) (arr := q5) k.hD x1.tt (by omega) (by omega) pv2 (by rw [hy.1]; omega) (by rw [hy.1]; omega) nty (fun j p hp => ⟨by rw [Nat.zero_add]; exact hy.2 j p hp, r.2.1.2.2.1 p (List.mem_of_getElem? hp)⟩) nmL
    rw [hul] at ob
    refine C.use (ob.up (show 1 ≤ D by omega)) (by decide) ?_
    rintro _ h6 ⟨rfl, τ3, g, hN, hPp⟩ l6 -
    have r3 := r.nd k (l6.weak (by decide +kernel)) g hN hPp (by rw [nI_toInt (by omega)]; omega) (by omega) (fun w => w) (fun ρ _ => rfl)
    show KI (ExQ G c P s _ _ (.ok fun γ τ => γ = γ ∧ ∃ τs1 τs2, τ = gt l.length (τs1 ++ τs2) ∧ S γ τs1 ∧ (A1 γ ∧ τs2 = [])) _ _) _ _ _
    refine KI.i (Rn.fin (i := us.length) ((r3.pm fun a ha => Or.inl ha).wk (Nat.le_refl _) fun t ht => List.mem_append_left _ ht) ?_ (by show b + 1 ≤ b + 2 * 0 + 1 - 0; omega) (fun γ v => ⟨?_, ?_⟩) (by show s1.ws = wAll s.ws (w ++ []); rw [hw, List.append_nil]) hs.symm)
    · rw [List.getElem?_append_right (Nat.le_refl _), Nat.sub_self]
      rfl
    · rintro ⟨-, τs1, τs2, rfl, h1, h2, rfl⟩
      refine ⟨_, ⟨τs1, rfl, h1⟩, ?_⟩
      rw [List.append_nil, ← r.len h1, List.getElem?_append_right (Nat.le_refl _), Nat.sub_self, nI_toInt (by omega)]
      rfl
    · rintro ⟨u, ⟨τs1, rfl, h1⟩, h2⟩
      rw [← r.len h1, List.getElem?_append_right (Nat.le_refl _), Nat.sub_self, nI_toInt (by omega)] at h2
      cases h2
      exact ⟨rfl, τs1, [], by rw [List.append_nil], h1, (hA γ).mpr ⟨_, h1⟩, rfl⟩
  | cons x l2 IH =>
    intro l1 b s1 us L S A1 w he r hul hy hA hs hb hf hw
    have hj : l[l1.length]? = some x := by rw [he, List.getElem?_append_right (Nat.le_refl _), Nat.sub_self]; rfl
    have hjl := (List.getElem?_eq_some_iff.mp hj).1
    have hx := List.mem_of_getElem? hj
    obtain ⟨p, fp, op⟩ := tg _ x hj
    obtain ⟨r1, hs1, hs2⟩ := hs
    have ux := r.uf k hWq
    have ua := r.uf k eA'.2.2
    have x1 := r.xs
    have ew : nw (ls (x :: l2)) = nw x + nw (ls l2) := rfl
    have hn := sEx_nw hs1 op
    rw [ew] at hb ⊢
    have ebt : bT (ls (x :: l2)) = bT x ++ bT (ls l2) := rfl
    rw [ebt, ← List.append_assoc] at hf ⊢
    rw [List.length_cons]
    refine bX41_infer_10 G D s1.h _ _ _ _ (x1.sA.at (by decide)) (x1.sA.at (by decide)) ⟨ux.1.trans hk, arr, (ux.2.2.2.2.2 333).2.2.trans eA'.1, ua.1.trans eA'.2.1, ?_⟩
    rw [ua.2.1, hla, show Int32.ofNat l.length = nI l.length from rfl, nI_leI (by omega) (by omega)]
    obtain ⟨k2, ν2, v1, v2, v3⟩ := r.expP (D := D) (A1 := A1) hE k hs1 (hTl x hx) hhi op (hb.le (by omega)) hf.l hV (hD x hx) hA
    refine ⟨fun z => by omega, fun _ => ⟨arr, (ux.2.2.2.2.2 333).2.2.trans eA'.1, ua.1.trans eA'.2.1, by rw [ua.2.1, hla]; exact vp_i hjl (by omega), p, by rw [nI_cn (by omega), ua.2.2.2.2.1]; exact fp, k2, ν2, v1, v2, C.mono v3 ?_⟩⟩
    intro o h19 z
    have law : bE (tEs (tW c.N c.Ct c.Dt (Vl c.ts) c.kn n) (x :: l2) A1) (fun Q => .ok fun γ τ => γ = γ ∧ ∃ τs1 τs2, τ = gt l.length (τs1 ++ τs2) ∧ S γ τs1 ∧ Q γ τs2) = bE (eX (tW c.N c.Ct c.Dt (Vl c.ts) c.kn n) x A1) fun R => bE (tEs (tW c.N c.Ct c.Dt (Vl c.ts) c.kn n) l2 fun γ => ∃ τ, R γ τ) fun Q => .ok fun γ τ => γ = γ ∧ ∃ τs1 τs2, τ = gt l.length (τs1 ++ τs2) ∧ S γ τs1 ∧ (A1 γ ∧ ∃ τ τs', τs2 = τ :: τs' ∧ R γ τ ∧ Q γ τs') := by
      refine bE_as.trans ?_
      congr 1
      funext R
      exact bE_as
    rw [law]
    cases hr : eX (tW c.N c.Ct c.Dt (Vl c.ts) c.kn n) x A1 with
    | error f =>
      rw [hr] at z
      obtain ⟨z1, y, rfl, z3, z4⟩ := z
      rw [bE_er]
      exact KI.t ⟨z1.wk fun t ht => List.mem_append_left _ ht, y, rfl, z3, by have := nw_len l _ tg; have : l2.length ≤ nw (ls l2) := nw_len l2 (fun j => aR s.h arr (l1.length + 1 + j)) (fun j y hy' => tg (l1.length + 1 + j) y (by rw [he, List.getElem?_append_right (by omega), show l1.length + 1 + j - l1.length = j + 1 by omega, List.getElem?_cons_succ]; exact hy')); omega⟩
    | ok R =>
      rw [hr] at z
      obtain ⟨t2, s2, rfl, rfl, w2, e2, q2, hQA, hPh⟩ := z
      rw [bE_ok]
      have x2 := q2.xs
      obtain ⟨pv1, pv2, pv3⟩ := x2.2.2.2.2.2.2.1 q5 (Or.inr rfl)
      have u5 := hPh q5 (Or.inr rfl)
      refine KI.i ⟨pv2, pv3, by rw [u5.2.1, hy.1]; exact vp_i (by omega) (by omega), ?_⟩
      rintro h24 e24 _ rfl
      rw [nI_1]
      rw [nI_cn (by omega)] at e24
      have q3 := q2.wr (i := l1.length) (v := nI t2) k (Or.inr rfl) hq5
      rw [← e24] at q3
      have ih := IH (l1 ++ [x]) (b + (2 * nw x - 1)) _ (us ++ [t2]) (L ++ bT x) _ (fun γ => ∃ τ, R γ τ) (w ++ wW c.Ct c.Dt (Pl c.ts) n 0 x) (by rw [he, List.append_assoc]; rfl) q3 (by rw [List.length_append, List.length_append, hul]; rfl) ⟨by show hL h24 q5 = _; rw [e24, hL_sI, u5.2.1]; exact hy.1, fun j p' hj' => ?_⟩ (fun γ => ⟨fun ⟨τ, h⟩ => ?_, fun ⟨_, _, τ, _, _, h⟩ => ⟨τ, h⟩⟩) (by show sLn _ l2 s2.rc rc'; rw [e2]; exact hs2) (hb.le (by omega)) hf (by show s2.ws = _; rw [w2, hw, ← wAll_ap])
      · rw [List.length_append, List.append_assoc w] at ih
        refine X.mono ih fun o h' z => ?_
        refine ExQ.wk (b := b + (2 * nw x - 1) + 2 * nw (ls l2) + 1 - l2.length) ?_ (by omega) fun _ h => h
        unfold ExQ at z ⊢
        cases hr3 : tEs (tW c.N c.Ct c.Dt (Vl c.ts) c.kn n) l2 (fun γ => ∃ τ, R γ τ) with
        | error f =>
          rw [hr3] at z
          exact z
        | ok Q =>
          rw [hr3] at z
          obtain ⟨t', s', z1, z2, z3, z4, z5⟩ := z
          refine ⟨t', s', z1, z2, z3, z4, z5.imp fun γ u => ⟨?_, ?_⟩⟩
          · rintro ⟨v, rfl, -, τs1, τs2, rfl, ⟨u1, v', rfl, h1, h2⟩, h3⟩
            exact ⟨_, rfl, rfl, u1, v' :: τs2, by rw [List.append_assoc]; rfl, h1, (hA γ).mpr ⟨_, h1⟩, v', τs2, rfl, h2, h3⟩
          · rintro ⟨v, rfl, -, τs1, τs2, rfl, h1, -, τ, τs', rfl, h2, h3⟩
            exact ⟨_, rfl, rfl, τs1 ++ [τ], τs', by rw [List.append_assoc]; rfl, ⟨τs1, τ, rfl, h1, h2⟩, h3⟩
      · show aI h24 q5 j = nI p'
        rw [e24, aI_sI]
        by_cases cj : j < us.length
        · rw [if_neg fun z => by omega, u5.2.2.1]
          rw [List.getElem?_append_left cj] at hj'
          exact hy.2 j p' hj'
        · have hi := (List.getElem?_eq_some_iff.mp hj').1
          rw [List.length_append, List.length_singleton] at hi
          have ei : j = us.length := by omega
          rw [if_pos ⟨rfl, by omega⟩]
          rw [ei, List.getElem?_append_right (Nat.le_refl _), Nat.sub_self] at hj'
          cases hj'
          rfl
      · obtain ⟨u, hu⟩ := (hA γ).mp (hQA γ τ h)
        exact ⟨_, u, τ, rfl, hu, h⟩
/-- a tuple -/
theorem ex_tup (hE : ExI G c n) (hl6 : 2 ≤ l.length ∧ l.length ≤ 6) (hs : sLn (fun rc e rc' => sEx c.ts c.O c.N c.Ct c.Dt n 0 V rc e rc') l s.rc rc') (hT : TR lo hi (n1 8 t (ls l))) (hhi : hi ≤ c.ts.length) (ot : OTG (XA c.ts c.W c.O c.Z c.D s.h) c.W s.h (n1 8 t (ls l)) 0 0 q) (k : XS G c P s) (hb : BdX c s (2 * nw (n1 8 t (ls l)))) (hf : Frs s.h c.Z c.D s.E (bT (n1 8 t (ls l)))) (hV : ∀ t, t ∈ V → ∃ σ, (t, σ) ∈ s.E) (hD : fw (n1 8 t (ls l)) + 600 ≤ D + 1) : C G mX41_infer (D + 1) [.ref q, .ref (gW G 6)] s.h (ExQ G c P s (fun x => x ∈ bT (n1 8 t (ls l))) (2 * nw (n1 8 t (ls l)) - 1) (eX (tW c.N c.Ct c.Dt (Vl c.ts) c.kn (n + 1)) (n1 8 t (ls l)) (eA s.M s.t s.E)) (wW c.Ct c.Dt (Pl c.ts) (n + 1) 0 (n1 8 t (ls l))) rc') ∧ hK s.h q = 38 := by
  obtain ⟨hWq, hkq, -, oy⟩ := (OTG_nd (k := 8) (by decide)).mp ot
  have hk : hK s.h q = 38 := by simpa [kc] using hkq
  obtain ⟨arr, eA', hla, tg⟩ := OTG_arr.mp ((OTG_ef (m' := 21) (i' := 333) (by decide) (by decide)).mp oy)
  refine ⟨?_, hk⟩
  have hll := nw_len l _ tg
  have ew : nw (n1 8 t (ls l)) = nw (ls l) + 4 := by show 0 + nw (ls l) + 4 = _; omega
  have efw : fw (n1 8 t (ls l)) = max 0 (fw (ls l)) + 1 := rfl
  have ebt : bT (n1 8 t (ls l)) = bT (ls l) := rfl
  have eww : wW c.Ct c.Dt (Pl c.ts) (n + 1) 0 (n1 8 t (ls l)) = (l.map (wW c.Ct c.Dt (Pl c.ts) n 0)).flatten := by
    have : wW c.Ct c.Dt (Pl c.ts) (n + 1) 0 (n1 8 t (ls l)) = ((unl (ls l)).map (wW c.Ct c.Dt (Pl c.ts) n 0)).flatten := rfl
    rw [this, unl_ls]
  have law : eX (tW c.N c.Ct c.Dt (Vl c.ts) c.kn (n + 1)) (n1 8 t (ls l)) (eA s.M s.t s.E) = bE (tEs (tW c.N c.Ct c.Dt (Vl c.ts) c.kn n) l (eA s.M s.t s.E)) fun Q => .ok fun γ τ => γ = γ ∧ ∃ τs, τ = gt l.length τs ∧ Q γ τs := by
    have : eX (tW c.N c.Ct c.Dt (Vl c.ts) c.kn (n + 1)) (n1 8 t (ls l)) (eA s.M s.t s.E) = bE (bE (tEs (tW c.N c.Ct c.Dt (Vl c.ts) c.kn n) (unl (ls l)) (eA s.M s.t s.E)) fun Q => .ok fun γ γ' τ => γ' = γ ∧ ∃ τs, τ = gt (unl (ls l)).length τs ∧ Q γ τs) fun R => .ok fun γ τ => R γ γ τ := rfl
    rw [this, unl_ls, bE_as]
    rfl
  rw [law, eww, ebt, ew]
  rw [ew] at hb
  rw [efw] at hD
  rw [ebt] at hf
  obtain ⟨u1, u2, u3, u4, u5⟩ := id hb
  have hun : un s.h ≤ pot s.h s.cap := by unfold pot; omega
  refine bX41_infer G D s.h _ _ ⟨hk, arr, eA'.1, eA'.2.1, ?_⟩
  rw [hla, show Int32.ofNat l.length = nI l.length from rfl, nI_cn (by omega)]
  obtain ⟨m1, m2⟩ := un_rm (h := s.h) (n := l.length) (by omega)
  refine ⟨nI_pos (by omega), m1, m2, fun q5 hq5 h7 e7 => ?_⟩
  have r0 := (Rn.rf (B := fun t => t ∈ ([] : List Nat)) k).nA (n := l.length) (m := 3) k hq5 (by omega)
  rw [← e7] at r0
  have := tup_10 (D := D) (rc' := rc') hE k hhi hWq hk eA' hla hl6 hq5 tg (fun y hy => TR.ls_at hT.2.2.2 y hy) hV (fun y hy => by have := fw_mem l y hy; omega) (by omega) l [] _ _ [] [] _ (eA s.M s.t s.E) [] rfl r0 rfl ⟨by show hL h7 q5 = _; rw [e7, hL_nA, if_pos rfl], fun j p hj => (by cases hj)⟩ (fun γ => ⟨fun h => ⟨_, h, rfl⟩, fun ⟨_, h, _⟩ => h⟩) hs (hb.le (by omega)) hf rfl
  refine X.mono this fun o h' z => ?_
  refine ExQ.wk (b := 0 + 3 + 2 * nw (ls l) + 1 - l.length) ?_ (by omega) fun _ h => h
  unfold ExQ at z ⊢
  cases hr3 : tEs (tW c.N c.Ct c.Dt (Vl c.ts) c.kn n) l (eA s.M s.t s.E) with
  | error f =>
    rw [hr3] at z
    exact z
  | ok Q =>
    rw [hr3] at z
    obtain ⟨t', s', z1, z2, z3, z4, z5⟩ := z
    refine ⟨t', s', z1, z2, z3, z4, z5.imp fun γ u => ⟨?_, ?_⟩⟩
    · rintro ⟨v, rfl, -, τs1, τs2, rfl, ⟨h1, rfl⟩, h3⟩
      exact ⟨_, rfl, rfl, τs2, rfl, h3⟩
    · rintro ⟨v, rfl, -, τs, rfl, h3⟩
      have hA : eA s.M s.t s.E γ := by
        cases l with
        | nil =>
          cases hr3
          exact h3.1
        | cons x l =>
          have e : tEs (tW c.N c.Ct c.Dt (Vl c.ts) c.kn n) (x :: l) (eA s.M s.t s.E) = bE (eX (tW c.N c.Ct c.Dt (Vl c.ts) c.kn n) x (eA s.M s.t s.E)) fun R => bE (tEs (tW c.N c.Ct c.Dt (Vl c.ts) c.kn n) l fun γ => ∃ τ, R γ τ) fun Q => .ok fun γ τs => eA s.M s.t s.E γ ∧ ∃ τ τs', τs = τ :: τs' ∧ R γ τ ∧ Q γ τs' := rfl
          rw [e] at hr3
          cases h1 : eX (tW c.N c.Ct c.Dt (Vl c.ts) c.kn n) x (eA s.M s.t s.E) with
          | error f => rw [h1] at hr3; cases hr3
          | ok R =>
            rw [h1, bE_ok] at hr3
            cases h2 : tEs (tW c.N c.Ct c.Dt (Vl c.ts) c.kn n) l (fun γ => ∃ τ, R γ τ) with
            | error f => rw [h2] at hr3; cases hr3
            | ok Q' =>
              rw [h2, bE_ok] at hr3
              cases hr3
              exact h3.1
      exact ⟨_, rfl, rfl, [], τs, rfl, ⟨hA, rfl⟩, h3⟩
end
