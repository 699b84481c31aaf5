/-! THE COMPONENT'S TYPER: sequences, lists -/
theorem bE_as {α β γ : Type} {x : Except Fa α} {f : α → Except Fa β} {g : β → Except Fa γ} : bE (bE x f) g = bE x fun a => bE (f a) g := by cases x <;> rfl
section
variable {G : Gh} {c : Cx} {P P0 : Nat → Prop} {s s1 s2 : Sx} {B B' : Nat → Prop} {us us' L : List Nat} {b b' b2 d n q lo hi rc' D t r1 r2 arr : Nat} {S S' : En → List Tr → Prop} {h h' : AH} {V : List Nat} {e x y a a2 a3 : Tr} {A1 : En → Prop} {l : List Tr} {R : En → Tr → Prop}
theorem ExQ.wk {r : Except Fa (En → Tr → Prop)} {w : List (Nat × Nat)} {o : Outcome} (z : ExQ G c P s B b r w rc' o h') (hb : b ≤ b') (hB : ∀ t, B t → B' t) : ExQ G c P s B' b' r w rc' o h' := by
  unfold ExQ at z ⊢
  cases r with
  | error f => exact z.wk hb hB
  | ok R =>
    obtain ⟨t', s', z1, z2, z3, z4, z5⟩ := z
    exact ⟨t', s', z1, z2, z3, z4, z5.wk hb hB⟩
theorem Rn.len (r : Rn G c P s B s1 us b S) {γ : En} {u : List Tr} (h : S γ u) : u.length = us.length := by
  obtain ⟨r1, r2, r3, r4, r5, r6, r7⟩ := r
  obtain ⟨ρ, h1, rfl⟩ := r7 γ u h
  obtain ⟨ρ', -, -, h2⟩ := r2.2.2.2.2.2 ρ h1 u h
  rw [← h2, List.length_map]
/-- the last node alone -/
theorem Rn.last {Q : En → Tr → Prop} (r : Rn G c P s B s1 (us ++ [t]) b (fun γ u => ∃ u1 v, u = u1 ++ [v] ∧ S γ u1 ∧ Q γ v)) (hQ : ∀ γ v, Q γ v → ∃ u, S γ u) : Rn G c P s B s1 [t] b (fun γ u => ∃ v, u = [v] ∧ Q γ v) := by
  refine (r.prj (us' := [t]) (fun u => u.drop us.length) (fun x hx => Or.inl (List.mem_append_right _ hx)) (fun ρ _ => ?_)).imp fun γ u => ⟨?_, ?_⟩
  · rw [List.map_append, List.drop_append_of_le_length (by rw [List.length_map]; exact Nat.le_refl _), List.drop_of_length_le (by rw [List.length_map]; exact Nat.le_refl _)]
    rfl
  · rintro ⟨w, ⟨u1, v, rfl, h1, h2⟩, rfl⟩
    have := r.len (γ := γ) (u := u1 ++ [v]) ⟨u1, v, rfl, h1, h2⟩
    rw [List.length_append, List.length_append] at this
    have e : u1.length = us.length := by
      have e1 : [v].length = 1 := rfl
      have e2 : [t].length = 1 := rfl
      omega
    refine ⟨v, ?_, h2⟩
    show (u1 ++ [v]).drop us.length = _
    rw [← e, List.drop_append_of_le_length (Nat.le_refl _), List.drop_of_length_le (Nat.le_refl _)]
    rfl
  · rintro ⟨v, rfl, h2⟩
    obtain ⟨u1, h1⟩ := hQ γ v h2
    have hw : (fun γ u => ∃ u1 v, u = u1 ++ [v] ∧ S γ u1 ∧ Q γ v) γ (u1 ++ [v]) := ⟨u1, v, rfl, h1, h2⟩
    have := r.len hw
    rw [List.length_append, List.length_append] at this
    have e : u1.length = us.length := by
      have e1 : [v].length = 1 := rfl
      have e2 : [t].length = 1 := rfl
      omega
    refine ⟨u1 ++ [v], hw, ?_⟩
    show (u1 ++ [v]).drop us.length = _
    rw [← e, List.drop_append_of_le_length (Nat.le_refl _), List.drop_of_length_le (Nat.le_refl _)]
    rfl
theorem nw_len {W : Nat → Prop} {X : Nat → Nat → Tr → Prop} : ∀ (l : List Tr) (f : Nat → Option Nat), TG X W h f l → l.length ≤ nw (ls l) := by
  intro l
  induction l with
  | nil => intro f _; exact Nat.le_refl _
  | cons x l ih =>
    intro f tg
    obtain ⟨⟨p, -, o⟩, t2⟩ := TG_cons.mp tg
    have h2 := ih _ t2
    obtain ⟨kk, z, rfl⟩ := OTG_0 o
    have h1 : 1 ≤ nw (.mulL kk z) := by
      show 1 ≤ nw z + _
      repeat' split
      all_goals omega
    show l.length + 1 ≤ nw _ + nw (ls l)
    omega
theorem bT_ls : ∀ l : List Tr, bT (ls l) = (l.map bT).flatten := by
  intro l
  induction l with
  | nil => rfl
  | cons x l ih =>
    show bT x ++ bT (ls l) = _
    rw [ih]
    rfl
theorem fw_mem : ∀ (l : List Tr) (x : Tr), x ∈ l → fw x ≤ fw (ls l) := by
  intro l
  induction l with
  | nil => intro x h; cases h
  | cons y l ih =>
    intro x h
    show fw x ≤ max (fw y) (fw (ls l))
    rcases List.mem_cons.mp h with e | e
    · rw [e]; exact Nat.le_max_left ..
    · exact Nat.le_trans (ih x e) (Nat.le_max_right ..)
/-- parts one behind another, the last one's type -/
theorem sq_4 (hE : ExI G c n) (k : XS G c P s) (hhi : hi ≤ c.ts.length) (hWq : c.W q) (hk : hK s.h q = 39) (eA' : ArF c.W s.h q 333 arr) (hla : hL s.h arr = l.length) (hll : l.length < 100000) (tg : TG (XA c.ts c.W c.O c.Z c.D s.h) c.W s.h (aR s.h arr) l) (hTl : ∀ y, y ∈ l → TR lo hi y) (hV : ∀ t, t ∈ V → ∃ σ, (t, σ) ∈ s.E) (hD : ∀ y, y ∈ l → fw y + 600 ≤ D) : ∀ (l2 l1 : List Tr) (t1 b : Nat) (s1 : Sx) (us L : List Nat) (S : En → List Tr → Prop) (R : En → Tr → Prop) (w : List (Nat × Nat)), l = l1 ++ l2 → Rn G c P s (fun t => t ∈ L) s1 us b S → sLn (fun rc e rc' => sEx c.ts c.O c.N c.Ct c.Dt n 0 V rc e rc') l2 s1.rc rc' → (∀ γ, (∃ τ, R γ τ) ↔ ∃ u, S γ u) → (l2 = [] → us = [t1] ∧ ∀ γ u, S γ u ↔ ∃ v, u = [v] ∧ R γ v) → BdX c s (b + 2 * nw (ls l2)) → Frs s.h c.Z c.D s.E (L ++ bT (ls l2)) → s1.ws = wAll s.ws w →
    X G mX42_infer (D + 1) none [] 4 [(0, .ref q), (1, .ref (gW G 6)), (2, .int (nI t1)), (3, .int (nI l1.length))] [] s1.h (ExQ G c P s (fun x => x ∈ L ++ bT (ls l2)) (b + 2 * nw (ls l2)) (bE (tSq (tW c.N c.Ct c.Dt (Vl c.ts) c.kn n) l2 R) fun R => .ok fun γ τ => γ = γ ∧ R γ τ) (w ++ (l2.map (wW c.Ct c.Dt (Pl c.ts) n 0)).flatten) rc') := by
  intro l2
  induction l2 with
  | nil =>
    intro l1 t1 b s1 us L S R w he r hs hA hend hb hf hw
    obtain ⟨eu, hSR⟩ := hend rfl
    rw [List.append_nil] at he
    have ux := r.uf k hWq
    have ua := r.uf k eA'.2.2
    refine bX42_infer_4 G D s1.h _ _ _ _ ⟨ux.1.trans hk, arr, (ux.2.2.2.2.2 333).2.2.trans eA'.1, ua.1.trans eA'.2.1, ?_⟩
    rw [ua.2.1, hla, show Int32.ofNat l.length = nI l.length from rfl, nI_leI (by omega) (by rw [← he]; omega)]
    refine ⟨fun _ => ?_, fun z => absurd (by rw [← he]; exact Nat.le_refl _) z⟩
    show ExQ G c P s _ _ (.ok fun γ τ => γ = γ ∧ R γ τ) _ _ _ _
    rw [eu] at r
    refine Rn.fin (i := 0) (r.wk (Nat.le_refl _) fun t ht => List.mem_append_left _ ht) rfl (Nat.le_add_right ..) (fun γ v => ⟨?_, ?_⟩) (by rw [hw]; show _ = wAll s.ws (w ++ []); rw [List.append_nil]) hs.symm
    · rintro ⟨-, h1⟩
      exact ⟨[v], (hSR γ _).mpr ⟨v, rfl, h1⟩, rfl⟩
    · rintro ⟨u, h1, h2⟩
      obtain ⟨v', rfl, h3⟩ := (hSR γ u).mp h1
      cases h2
      exact ⟨rfl, h3⟩
  | cons x l2 IH =>
    intro l1 t1 b s1 us L S R w he r hs hA hend hb hf hw
    have hj : l[l1.length]? = some x := by rw [he, List.getElem?_append_right (Nat.le_refl _), Nat.sub_self]; rfl
    have hjl := (List.getElem?_eq_some_iff.mp hj).1
    have hx := List.mem_of_getElem? hj
    obtain ⟨p, fp, op⟩ := tg _ x hj
    obtain ⟨r1, hs1, hs2⟩ := hs
    have ux := r.uf k hWq
    have ua := r.uf k eA'.2.2
    have ew : nw (ls (x :: l2)) = nw x + nw (ls l2) := rfl
    have hn := sEx_nw hs1 op
    rw [ew] at hb ⊢
    have ebt : bT (ls (x :: l2)) = bT x ++ bT (ls l2) := rfl
    rw [ebt, ← List.append_assoc] at hf ⊢
    refine bX42_infer_4 G D s1.h _ _ _ _ ⟨ux.1.trans hk, arr, (ux.2.2.2.2.2 333).2.2.trans eA'.1, ua.1.trans eA'.2.1, ?_⟩
    rw [ua.2.1, hla, show Int32.ofNat l.length = nI l.length from rfl, nI_leI (by omega) (by omega)]
    obtain ⟨k2, ν2, v1, v2, v3⟩ := r.exp (D := D) (A1 := fun γ => ∃ τ, R γ τ) hE k hs1 (hTl x hx) hhi op (hb.le (by omega)) hf.l hV (hD x hx) hA
    refine ⟨fun z => by omega, fun _ => ⟨arr, (ux.2.2.2.2.2 333).2.2.trans eA'.1, ua.1.trans eA'.2.1, by rw [ua.2.1, hla]; exact vp_i hjl (by omega), p, by rw [nI_cn (by omega), ua.2.2.2.2.1]; exact fp, k2, ν2, v1, v2, C.mono v3 ?_⟩⟩
    intro o h12 z
    have law : bE (tSq (tW c.N c.Ct c.Dt (Vl c.ts) c.kn n) (x :: l2) R) (fun R => .ok fun γ τ => γ = γ ∧ R γ τ) = bE (eX (tW c.N c.Ct c.Dt (Vl c.ts) c.kn n) x fun γ => ∃ τ, R γ τ) fun Q => bE (tSq (tW c.N c.Ct c.Dt (Vl c.ts) c.kn n) l2 Q) fun R => .ok fun γ τ => γ = γ ∧ R γ τ := bE_as
    rw [law]
    cases hr : eX (tW c.N c.Ct c.Dt (Vl c.ts) c.kn n) x (fun γ => ∃ τ, R γ τ) with
    | error f =>
      rw [hr] at z
      obtain ⟨z1, y, rfl, z3, z4⟩ := z
      rw [bE_er]
      exact KI.t ⟨z1.wk fun t ht => List.mem_append_left _ ht, y, rfl, z3, by omega⟩
    | ok Q =>
      rw [hr] at z
      obtain ⟨t2, s2, rfl, rfl, w2, e2, q2, hQA⟩ := z
      rw [bE_ok]
      refine KI.i ?_
      rintro _ rfl
      rw [nI_1]
      have q3 := q2.last fun γ v h => (hA γ).mp (hQA γ v h)
      have ih := IH (l1 ++ [x]) t2 (b + (2 * nw x - 1)) s2 [t2] (L ++ bT x) _ Q (w ++ wW c.Ct c.Dt (Pl c.ts) n 0 x) (by rw [he, List.append_assoc]; rfl) q3 (by rw [e2]; exact hs2) (fun γ => ⟨fun ⟨τ, h⟩ => ⟨_, τ, rfl, h⟩, fun ⟨_, τ, _, h⟩ => ⟨τ, h⟩⟩) (fun _ => ⟨rfl, fun γ u => Iff.rfl⟩) (hb.le (by omega)) hf (by rw [w2, hw, ← wAll_ap])
      rw [List.length_append, List.append_assoc w] at ih
      exact X.mono ih fun o h' z => z.wk (by omega) fun _ h => h
/-- a sequence -/
theorem ex_seq (hE : ExI G c n) (hl1 : 1 ≤ l.length) (hs : sLn (fun rc e rc' => sEx c.ts c.O c.N c.Ct c.Dt n 0 V rc e rc') l s.rc rc') (hT : TR lo hi (n1 9 t (ls l))) (hhi : hi ≤ c.ts.length) (ot : OTG (XA c.ts c.W c.O c.Z c.D s.h) c.W s.h (n1 9 t (ls l)) 0 0 q) (k : XS G c P s) (hb : BdX c s (2 * nw (n1 9 t (ls l)))) (hf : Frs s.h c.Z c.D s.E (bT (n1 9 t (ls l)))) (hV : ∀ t, t ∈ V → ∃ σ, (t, σ) ∈ s.E) (hD : fw (n1 9 t (ls l)) + 600 ≤ D + 1) : C G mX42_infer (D + 1) [.ref q, .ref (gW G 6)] s.h (ExQ G c P s (fun x => x ∈ bT (n1 9 t (ls l))) (2 * nw (n1 9 t (ls l)) - 1) (eX (tW c.N c.Ct c.Dt (Vl c.ts) c.kn (n + 1)) (n1 9 t (ls l)) (eA s.M s.t s.E)) (wW c.Ct c.Dt (Pl c.ts) (n + 1) 0 (n1 9 t (ls l))) rc') ∧ hK s.h q = 39 := by
  obtain ⟨hWq, hkq, -, oy⟩ := (OTG_nd (k := 9) (by decide)).mp ot
  have hk : hK s.h q = 39 := by simpa [kc] using hkq
  obtain ⟨arr, eA', hla, tg⟩ := OTG_arr.mp ((OTG_ef (m' := 21) (i' := 333) (by decide) (by decide)).mp oy)
  refine ⟨?_, hk⟩
  have hll := nw_len l _ tg
  have ew : nw (n1 9 t (ls l)) = nw (ls l) + 1 := by show 0 + nw (ls l) + 1 = _; omega
  have efw : fw (n1 9 t (ls l)) = max 0 (fw (ls l)) + 1 := rfl
  have ebt : bT (n1 9 t (ls l)) = bT (ls l) := rfl
  have eww : wW c.Ct c.Dt (Pl c.ts) (n + 1) 0 (n1 9 t (ls l)) = (l.map (wW c.Ct c.Dt (Pl c.ts) n 0)).flatten := by
    have : wW c.Ct c.Dt (Pl c.ts) (n + 1) 0 (n1 9 t (ls l)) = ((unl (ls l)).map (wW c.Ct c.Dt (Pl c.ts) n 0)).flatten := rfl
    rw [this, unl_ls]
  have law : eX (tW c.N c.Ct c.Dt (Vl c.ts) c.kn (n + 1)) (n1 9 t (ls l)) (eA s.M s.t s.E) = bE (tSq (tW c.N c.Ct c.Dt (Vl c.ts) c.kn n) l fun γ τ => eA s.M s.t s.E γ ∧ τ = tUnit) fun R => .ok fun γ τ => γ = γ ∧ R γ τ := by
    have : eX (tW c.N c.Ct c.Dt (Vl c.ts) c.kn (n + 1)) (n1 9 t (ls l)) (eA s.M s.t s.E) = bE (bE (tSq (tW c.N c.Ct c.Dt (Vl c.ts) c.kn n) (unl (ls l)) fun γ τ => eA s.M s.t s.E γ ∧ τ = tUnit) fun R => .ok fun γ γ' τ => γ' = γ ∧ R γ τ) fun R => .ok fun γ τ => R γ γ τ := rfl
    rw [this, unl_ls, bE_as]
    rfl
  rw [law, eww, ebt, ew]
  rw [ew] at hb
  rw [efw] at hD
  rw [ebt] at hf
  have hu := hb.1
  have := sq_4 (D := D) (rc' := rc') hE k hhi hWq hk eA' hla (by omega) tg (fun y hy => TR.ls_at hT.2.2.2 y hy) hV (fun y hy => by have := fw_mem l y hy; omega) l [] 0 0 s [] [] _ (fun γ τ => eA s.M s.t s.E γ ∧ τ = tUnit) [] rfl (Rn.rf k) hs (fun γ => ⟨fun ⟨_, h, _⟩ => ⟨_, h, rfl⟩, fun ⟨_, h, _⟩ => ⟨_, h, rfl⟩⟩) (fun e => (by rw [e] at hl1; cases hl1)) (hb.le (by omega)) hf rfl
  exact bX42_infer G D s.h _ _ (X.mono this fun o h' z => z.wk (by omega) fun _ h => h)
end
