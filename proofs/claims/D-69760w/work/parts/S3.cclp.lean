/-! THE COMPONENT'S TYPER: clauses; names that come in sight -/
/-- from s on, with names pd (nodes vs) in sight besides -/
def Rpn (G : Gh) (c : Cx) (P : Nat → Prop) (s : Sx) (B : Nat → Prop) (s1 : Sx) (us vs pd : List Nat) (b : Nat) (Z : En → List Tr → Nu → Prop) : Prop := FIn G c.Z B s.rc c.Ct.length s.h s1.h ∧ RsV G s.h s.M s.Pn s.t s.m s1.h s1.M s1.Pn s1.t s1.m (us ++ vs) b (fun ρ u => ∃ u1 ν, u = u1 ++ ν.map (·.2) ∧ Z (gE s.E ρ) u1 ν) ∧ XS G c P s1 ∧ (s1.E = s.E ++ pd.zip (vs.map fun x => Int.Internal.Linear.Expr.var x) ∧ vs.length = pd.length) ∧ s.rc ≤ s1.rc ∧ (pot s1.h s1.cap ≤ pot s.h s.cap + 8 * b ∧ s1.ws.length ≤ s.ws.length + b) ∧ ∀ γ u ν, Z γ u ν → eA s.M s.t s.E γ ∧ u.length = us.length ∧ ν.map (·.1) = pd
section
variable {G : Gh} {c : Cx} {P P0 : Nat → Prop} {s s1 s2 : Sx} {B B' : Nat → Prop} {us vs pd L : List Nat} {b b' d n q lo hi rc' D t i j : Nat} {S : En → List Tr → Prop} {Z Z' : En → List Tr → Nu → Prop} {h h' : AH} {V : List Nat} {e p : Tr} {N rc : Nat} {Ct : Ctb} {Dt : Dtb}
theorem bT_p : ∀ k p, sPt N Ct rc k p → bT p = pNm k p := by
  intro k
  induction k with
  | zero => intro p hs; exact hs.elim
  | succ k ih =>
    intro p hs
    have hl' : ∀ l : List Tr, (∀ y, y ∈ l → sPt N Ct rc k y) → bT (ls l) = (l.map (pNm k)).flatten := fun l hl => by
      rw [bT_ls, List.map_congr_left fun y hy => ih y (hl y hy)]
    rcases hs with ⟨t, rfl⟩ | ⟨t, rfl⟩ | ⟨t, v, rfl⟩ | ⟨t, v, rfl⟩ | ⟨t, v, rfl⟩ | ⟨t, c, y, rfl, hc, hy⟩ | ⟨t, l, rfl, hl6, hl⟩ | ⟨t, l, rfl, hl⟩ | ⟨t, a, b, rfl, ha, hb'⟩ | ⟨t, y, rfl, hy⟩
    · rfl
    · rfl
    · rfl
    · rfl
    · rfl
    · rcases hy with ⟨rfl, -⟩ | ⟨-, hy⟩
      · rfl
      · have e1 : pNm (k + 1) (n2 33 t (.num c) y) = if isN y = true then [] else pNm k y := rfl
        rw [e1, if_neg]
        · exact ih y hy
        · cases k with
          | zero => exact hy.elim
          | succ k => rcases hy with ⟨t, rfl⟩ | ⟨t, rfl⟩ | ⟨t, v, rfl⟩ | ⟨t, v, rfl⟩ | ⟨t, v, rfl⟩ | ⟨t, v, y, rfl, -⟩ | ⟨t, l, rfl, -⟩ | ⟨t, l, rfl, -⟩ | ⟨t, a, b, rfl, -⟩ | ⟨t, y, rfl, hy⟩ <;> exact Bool.false_ne_true
    · show bT (ls l) = ((unl (ls l)).map (pNm k)).flatten
      rw [unl_ls]
      exact hl' l hl
    · show bT (ls l) = ((unl (ls l)).map (pNm k)).flatten
      rw [unl_ls]
      exact hl' l hl
    · show bT a ++ bT b = pNm k a ++ pNm k b
      rw [ih a ha, ih b hb']
    · exact ih y hy
/-- no names yet -/
theorem Rn.rp (r : Rn G c P s B s1 us b S) : Rpn G c P s B s1 us [] [] b (fun γ u ν => S γ u ∧ ν = []) := by
  have hl := fun γ u (h : S γ u) => r.len h
  obtain ⟨r1, r2, r3, r4, r5, r6, r7⟩ := r
  rw [← List.append_nil us] at r2
  refine ⟨r1, r2.imp fun ρ hρ u => ⟨fun h => ?_, ?_⟩, r3, ⟨by rw [List.zip_nil_left, List.append_nil]; exact r4, rfl⟩, r5, r6, fun γ u ν h => ⟨r7 γ u h.1, hl γ u h.1, by rw [h.2]; rfl⟩⟩
  · exact ⟨u, [], (List.append_nil _).symm, h, rfl⟩
  · rintro ⟨u1, ν, rfl, h2, rfl⟩
    rw [List.map_nil, List.append_nil]
    exact h2
theorem Rpn.imp (r : Rpn G c P s B s1 us vs pd b Z) (e : ∀ γ u ν, Z γ u ν ↔ Z' γ u ν) : Rpn G c P s B s1 us vs pd b Z' := by
  have : Z = Z' := by
    funext γ u ν
    exact propext (e γ u ν)
  rw [← this]
  exact r
theorem Rpn.wk (r : Rpn G c P s B s1 us vs pd b Z) (hb : b ≤ b') (hB : ∀ t, B t → B' t) : Rpn G c P s B' s1 us vs pd b' Z := by
  obtain ⟨r1, r2, r3, r4, r5, r6, r7⟩ := r
  exact ⟨r1.wk hB, r2.wk hb, r3, r4, r5, ⟨by omega, by omega⟩, r7⟩
theorem Rpn.xs (r : Rpn G c P s B s1 us vs pd b Z) : XS G c P s1 := r.2.2.1
theorem Rpn.cnt (r : Rpn G c P s B s1 us vs pd b Z) : (s1.M ≤ s.M + 8 * b ∧ s1.Pn ≤ s.Pn + 8 * b ∧ s1.m ≤ s.m + 10 * b) ∧ pot s1.h s1.cap ≤ pot s.h s.cap + 8 * b ∧ s1.ws.length ≤ s.ws.length + b := ⟨r.2.1.2.2.2.1, r.2.2.2.2.2.1⟩
theorem Rpn.uf (k : XS G c P0 s) (r : Rpn G c P s B s1 us vs pd b Z) {a : Nat} (ha : c.W a) : Uf s.h s1.h a := r.1.2.1 a (k.fix a ha)
theorem BdX.nxp {b2 : Nat} (hb : BdX c s (b + b2)) (r : Rpn G c P s B s1 us vs pd b Z) : BdX c s1 b2 := by
  obtain ⟨u1, u2, u3, u4, u5⟩ := hb
  obtain ⟨-, ⟨-, -, -, ⟨q1, q2, q3⟩, -⟩, -, -, -, r6, -⟩ := r
  exact ⟨by omega, by omega, by omega, by omega, by omega⟩
/-- the warnings' masks of patterns -/
theorem VMPat_ms : VMPat_infer.testBit 106 = false ∧ VMPat_infer.testBit 604 = false ∧ VMPat_infer.testBit 605 = false := by decide +kernel
/-- a pattern behind what was done: its type comes behind the nodes, its names behind the names -/
theorem Rpn.pat (k : XS G c P0 s) (r : Rpn G c P s (fun t => t ∈ L) s1 us vs pd b Z) (hp : sPt c.N c.Ct s1.rc 30 p) (hT : TR lo hi p) (hhi : hi ≤ c.ts.length) (ot : OTG (XA c.ts c.W c.O c.Z c.D s.h) c.W s.h p 0 0 q) (hb : BdX c s (b + 2 * nw p)) (hf : Frs s1.h c.Z c.D s1.E (pNm 30 p)) (hD : 110 ≤ D) :
    ∃ (k : Nat) (ν : Mu), VT ⟨"LetMill$Pat", "infer", "(LLetMill$Typer;)I"⟩ VMPat_infer k ν ∧ hK s1.h q = k + 1 ∧ C G ν D [.ref q, .ref (gW G 6)] s1.h (fun o h' => match tPa c.N c.Ct c.Dt 30 p with
      | .error f => Ft G c s (fun t => t ∈ L ++ pNm 30 p) (b + (2 * nw p - 1)) f o h'
      | .ok Pp => ∃ t vs2 s2, o = .returned (some (.int (nI t))) ∧ Sx.h s2 = h' ∧ Sx.ws s2 = s1.ws ∧ Sx.rc s2 = s1.rc ∧ Rpn G c P s (fun t => t ∈ L ++ pNm 30 p) s2 (us ++ [t]) (vs ++ vs2) (pd ++ pNm 30 p) (b + (2 * nw p - 1)) (fun γ u ν => ∃ u1 v ν1 ν2, u = u1 ++ [v] ∧ ν = ν1 ++ ν2 ∧ Z γ u1 ν1 ∧ Pp v ν2) ∧ (∀ a, P a → Uf s1.h (Sx.h s2) a) ∧ FIn G c.Z (fun t => t ∈ pNm 30 p) s1.rc c.Ct.length s1.h (Sx.h s2) ∧ pot (Sx.h s2) (Sx.cap s2) ≤ pot s1.h s1.cap + 4 * (2 * nw p - 1)) := by
  have hn := sPt_nw 30 p hp
  obtain ⟨r1, r2, r3, ⟨r4, r4'⟩, r5, r6, r7⟩ := id r
  obtain ⟨k2, ν2, v1, v2, v3⟩ := pt_all1 30 D (by omega) p q lo hi s1.h s1.M s1.Pn s1.t s1.m s1.E s1.cap hp hT hhi (k.1.ot r1 hT ot) r3.1 (hb.nxp r).bud hf
  refine ⟨k2, ν2, v1, v2, C.use v3 v1.2.2.2.2.2.2.1 ?_⟩
  intro o h' z l _
  obtain ⟨F, z⟩ := z
  have F0 : FIn G c.Z (fun t => t ∈ L ++ pNm 30 p) s.rc c.Ct.length s.h h' := (r1.wk fun t ht => List.mem_append_left _ ht).tr k.sA ((F.wk fun t ht => List.mem_append_right _ ht).rc_le r5)
  cases hr : tPa c.N c.Ct c.Dt 30 p with
  | error f =>
    rw [hr] at z
    obtain ⟨x, rfl, z2, z3⟩ := z
    exact ⟨F0, x, rfl, z2, by omega⟩
  | ok Pp =>
    rw [hr] at z
    obtain ⟨t, vs2, M2, Pn2, τ2, m2, cap2, rfl, hl2, rv, is2, p2⟩ := z
    obtain ⟨a1, a2, ⟨pa, a3⟩, a4, a5, a6, a7⟩ := id r3
    have lm := l.weak v1.2.2.2.2.2.2.2
    obtain ⟨bm1, bm2, bm3⟩ := VMPat_ms
    have x2 : XS G c P (h', M2, Pn2, τ2, m2, s1.E ++ (pNm 30 p).zip (vs2.map fun x => Int.Internal.Linear.Expr.var x), cap2, s1.rc, s1.ws) := ⟨is2, a2.ml F.1, ⟨pa, a3.ml F.1⟩, a4.ml lm r3.sA k.hD bm1 bm2 bm3, a5, a6, a7.mv (s1 := (h', M2, Pn2, τ2, m2, s1.E ++ (pNm 30 p).zip (vs2.map fun x => Int.Internal.Linear.Expr.var x), cap2, s1.rc, s1.ws)) a1.1 F rfl⟩
    refine ⟨t, vs2, (h', M2, Pn2, τ2, m2, s1.E ++ (pNm 30 p).zip (vs2.map fun x => Int.Internal.Linear.Expr.var x), cap2, s1.rc, s1.ws), rfl, rfl, rfl, rfl, ⟨F0, ?_, x2, ⟨?_, by rw [List.length_append, List.length_append, r4', hl2]⟩, r5, ⟨by show pot h' cap2 ≤ _; omega, by show s1.ws.length ≤ _; omega⟩, ?_⟩, fun a ha => F.2.1 a (r3.2.2.2.2.2.2.1 a ha).1, F, p2⟩
    · -- nodes in another order
      have rr := r2.seq rv
      have prE : ∀ (l1 v1 l2 : List Tr) (x : Tr), l1.length = us.length → v1.length = vs.length → (fun u : List Tr => u.take us.length ++ ((u.drop (us.length + vs.length)).take 1) ++ ((u.drop us.length).take vs.length ++ u.drop (us.length + vs.length + 1))) (l1 ++ v1 ++ x :: l2) = (l1 ++ [x]) ++ (v1 ++ l2) := fun l1 v1 l2 x e1 e2 => by
        have a1 : (l1 ++ v1 ++ x :: l2).take us.length = l1 := by rw [List.append_assoc, ← e1, List.take_append_of_le_length (Nat.le_refl _), List.take_of_length_le (Nat.le_refl _)]
        have a2 : (l1 ++ v1 ++ x :: l2).drop (us.length + vs.length) = x :: l2 := by rw [← e1, ← e2, ← List.length_append, List.drop_append_of_le_length (Nat.le_refl _), List.drop_of_length_le (Nat.le_refl _)]; rfl
        have a3 : (l1 ++ v1 ++ x :: l2).drop us.length = v1 ++ x :: l2 := by rw [List.append_assoc, ← e1, List.drop_append_of_le_length (Nat.le_refl _), List.drop_of_length_le (Nat.le_refl _)]; rfl
        have a4 : (l1 ++ v1 ++ x :: l2).drop (us.length + vs.length + 1) = l2 := by rw [← List.drop_drop, a2]; rfl
        show (l1 ++ v1 ++ x :: l2).take us.length ++ (((l1 ++ v1 ++ x :: l2).drop (us.length + vs.length)).take 1) ++ (((l1 ++ v1 ++ x :: l2).drop us.length).take vs.length ++ (l1 ++ v1 ++ x :: l2).drop (us.length + vs.length + 1)) = _
        rw [a1, a2, a3, a4, ← e2, List.take_append_of_le_length (Nat.le_refl _), List.take_of_length_le (Nat.le_refl _)]
        rfl
      have rq := rr.prj (ts' := (us ++ [t]) ++ (vs ++ vs2)) (fun u => u.take us.length ++ ((u.drop (us.length + vs.length)).take 1) ++ ((u.drop us.length).take vs.length ++ u.drop (us.length + vs.length + 1))) (fun x hx => rr.2.2.1 x (by
        simp only [List.mem_cons, List.mem_append, List.not_mem_nil, or_false] at hx ⊢
        rcases hx with (e | e) | e | e
        · exact Or.inl (Or.inl e)
        · exact Or.inr (Or.inl e)
        · exact Or.inl (Or.inr e)
        · exact Or.inr (Or.inr e))) (fun ρ _ => by
        have := prE (us.map ρ) (vs.map ρ) (vs2.map ρ) (ρ t) (by rw [List.length_map]) (by rw [List.length_map])
        rw [show (us ++ vs ++ t :: vs2).map ρ = us.map ρ ++ vs.map ρ ++ ρ t :: vs2.map ρ by rw [List.map_append, List.map_append, List.map_cons]]
        refine Eq.trans ?_ this.symm
        rw [List.map_append, List.map_append, List.map_append]
        rfl)
      have ln : ∀ (ν : Nu), ν.map (·.1) = pd → (ν.map (·.2)).length = vs.length := fun ν hν => by
        rw [List.length_map, r4', ← hν, List.length_map]
      refine rq.imp fun ρ hρ u => ⟨?_, ?_⟩
      · rintro ⟨w, ⟨u2, ρ1, e1, e2, rfl, v, ν2', rfl, g3, g4⟩, rfl⟩
        obtain ⟨u1, ν1, f1, f4⟩ := r2.2.2.2.2.1 ρ1 e1
        rw [k.ge e2] at f4
        obtain ⟨-, f2, f3⟩ := r7 _ _ _ f4
        refine ⟨u1 ++ [v], ν1 ++ ν2', ?_, u1, v, ν1, ν2', rfl, rfl, f4, g4⟩
        rw [f1, List.map_append]
        exact prE u1 (ν1.map (·.2)) _ v f2 (ln ν1 f3)
      · rintro ⟨u0, ν0, rfl, u1, v, ν1, ν2', rfl, rfl, f4, g4⟩
        obtain ⟨-, f2, f3⟩ := r7 _ _ _ f4
        obtain ⟨ρ1, e1, e2, e3⟩ := r2.2.2.2.2.2 ρ hρ (u1 ++ ν1.map (·.2)) ⟨u1, ν1, rfl, f4⟩
        refine ⟨_, ⟨_, ρ1, e1, e2, by rw [e3], v, ν2', rfl, tPa_nm 30 p hp Pp hr _ _ g4, g4⟩, ?_⟩
        rw [List.map_append]
        exact prE u1 (ν1.map (·.2)) _ v f2 (ln ν1 f3)
    · show s1.E ++ _ = _
      rw [r4, List.map_append, List.zip_append (by rw [List.length_map, r4']), List.append_assoc]
    · rintro γ u ν ⟨u1, v, ν1, ν2', rfl, rfl, h2, h3⟩
      obtain ⟨f1, f2, f3⟩ := r7 _ _ _ h2
      exact ⟨f1, by rw [List.length_append, List.length_append, f2]; rfl, by rw [List.map_append, f3, tPa_nm 30 p hp Pp hr _ _ h3]⟩
end
