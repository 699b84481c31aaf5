/-! THE COMPONENT'S TYPER: names that leave sight -/
section
variable {G : Gh} {c : Cx} {P P0 : Nat → Prop} {s s1 s2 : Sx} {B B' : Nat → Prop} {us vs pd L : List Nat} {b b' d n q lo hi rc' D t i j a e : Nat} {S : En → List Tr → Prop} {Z Z' : En → List Tr → Nu → Prop} {h h' : AH} {V : List Nat} {x p : Tr} {E0 E1 : List (Nat × Tr)} {A1 : En → Prop}
/-- the latest names leave sight -/
theorem XS.pop (k : XS G c P s) (hE : s.E = E0 ++ E1) : XS G c P (pI s.h (gW G 6) 112 (nI E0.length), s.M, s.Pn, s.t, s.m, E0, s.cap, s.rc, s.ws) ∧ Ev G s.h s.M s.t (pI s.h (gW G 6) 112 (nI E0.length)) s.M s.t ∧ FIn G c.Z B s.rc c.Ct.length s.h (pI s.h (gW G 6) 112 (nI E0.length)) := by
  have sA := k.sA
  have k6 : hK s.h (gW G 6) = 10 := (sA.at (i := 6) (by decide)).1
  have s5 := sA.at (i := 5) (by decide)
  have fI' : ∀ x g, (x ≠ gW G 6 ∨ g ≠ 112) → fI (pI s.h (gW G 6) 112 (nI E0.length)) x g = fI s.h x g := fun x g hx => by
    rw [fI_pI, if_neg fun z => hx.elim (fun w => w z.1) fun w => w z.2]
  have U : ∀ x, x ≠ gW G 6 → Uf s.h (pI s.h (gW G 6) 112 (nI E0.length)) x := fun x hx => ⟨rfl, rfl, rfl, rfl, rfl, fun g => ⟨fI' x g (Or.inl hx), rfl, rfl⟩⟩
  have ne : ∀ x, hK s.h x ≠ 10 → x ≠ gW G 6 := fun x hx e => hx (by rw [e]; exact k6)
  have lm : Lm (gW G) MI s.h (pI s.h (gW G 6) 112 (nI E0.length)) none := pI_lm (Or.inl (by decide)) (Or.inl (by decide +kernel))
  have F : ∀ {B : Nat → Prop}, FIn G c.Z B s.rc c.Ct.length s.h (pI s.h (gW G 6) 112 (nI E0.length)) := fun {B} => by
    refine ⟨lm, fun x hx => U x (ne x fun w => hx.2.1 (by rw [w]; decide)), fun x _ _ _ => rfl, fun x _ _ => ⟨fI' x 127 (Or.inr (by decide)), fI' x 128 (Or.inr (by decide))⟩, fun x _ _ => ⟨rfl, rfl⟩, Or.inl rfl⟩
  obtain ⟨t1, ev⟩ := k.tt.unt (h' := pI s.h (gW G 6) 112 (nI E0.length)) ⟨fun x _ h10 _ _ => U x (ne x h10), pI_le (Or.inl (by decide))⟩
  obtain ⟨⟨w0, tt, ⟨ba, g1, g2, g5, g8, g9⟩, fx, bd, gd, pi, nd⟩, a2, ⟨pa, a3⟩, a4, a5, a6, a7⟩ := id k
  rw [hE] at g5 g9 gd nd
  refine ⟨⟨⟨w0.mv (F (B := fun _ => False)), t1, ⟨ba, g1, g2, ⟨g5.1, g5.2.1, by have := g5.2.2; rw [List.length_append] at this; exact Nat.le_trans (Nat.le_add_right ..) this⟩, ?_, fun i x hx => ?_⟩, fun x hx => (fx x hx).mv sA lm, bd.mv lm, fun x hx => gd x (List.mem_append_left _ hx), pi.mv sA lm, ?_⟩, a2.ml lm, ⟨pa, a3.ml lm⟩, ?_, a5, a6, a7.mv (s1 := (pI s.h (gW G 6) 112 (nI E0.length), s.M, s.Pn, s.t, s.m, E0, s.cap, s.rc, s.ws)) w0 (F (B := fun _ => False)) rfl⟩, ev, F⟩
  · rw [fI_pI, if_pos ⟨rfl, rfl⟩]
  · obtain ⟨y1, y2⟩ := g9 i x (by rw [List.getElem?_append_left (List.getElem?_eq_some_iff.mp hx).1]; exact hx)
    refine ⟨y1, ?_⟩
    obtain ⟨e1, e2, z, e3, e4, e5⟩ := y2
    refine ⟨e1, by rw [fI' _ 129 (Or.inr (by decide))]; exact e2, z, (fI' _ 127 (Or.inr (by decide))).trans e3, e4, ?_⟩
    rw [fI' _ 128 (Or.inr (by decide))]
    rcases e5 with ⟨q1, q2, q3⟩ | ⟨q1, q2, q3, q4⟩
    · exact Or.inl ⟨q1, q2, q3⟩
    · obtain ⟨r1, r2⟩ := ev.2.2.2 z _ q2 q3
      exact Or.inr ⟨q1, r1, r2, q4⟩
  · rw [List.map_append] at nd
    exact (List.nodup_append.mp nd).1
  · obtain ⟨k1, k2, k3, k4⟩ := a4
    exact ⟨by rw [fI' _ 106 (Or.inr (by decide))]; exact k1, k2, k3, k4⟩
theorem Frs.nx2 {Γ : List (Nat × Tr)} {w : List Tr} {rc nC : Nat} {Zz : Zt} {Dd : Dm} {l2 : List Nat} (f : Frs h Zz Dd Γ (L ++ l2)) (F : FIn G Zz (fun t => t ∈ L) rc nC h h') (bd : BdI h Zz Dd) (hp : ∀ t, t ∈ pd → t ∈ L) : Frs h' Zz Dd (Γ ++ pd.zip w) l2 := by
  obtain ⟨f1, f2⟩ := f.nx (us := []) F bd
  refine ⟨f1, fun t ht => ?_⟩
  obtain ⟨g1, g2, g3⟩ := f2 t ht
  refine ⟨g1, g2, fun x hx => ?_⟩
  rcases List.mem_append.mp hx with w | w
  · exact g3 x (List.mem_append_left _ w)
  · have h1 := (List.of_mem_zip (show (x.1, x.2) ∈ _ from w)).1
    exact (List.nodup_append.mp f.1).2.2 x.1 (hp _ h1) t ht
theorem nu_zip : ∀ (ν : Nu) (l : List Nat) (w : List Tr), ν.map (·.1) = l → ν.map (·.2) = w → ν = l.zip w := by
  rintro ν _ _ rfl rfl
  induction ν with
  | nil => rfl
  | cons y ν ih =>
    show _ = (y.1, y.2) :: (ν.map (·.1)).zip (ν.map (·.2))
    rw [← ih]
theorem app_inj {u1 u2 v1 v2 : List Tr} (h : u1 ++ v1 = u2 ++ v2) (hl : u1.length = u2.length) : u1 = u2 ∧ v1 = v2 := List.append_inj h hl
/-- the environments with names of a pattern -/
theorem Rpn.ge (r : Rpn G c P s B s1 us vs pd b Z) (ρ : Nat → Tr) : gE s1.E ρ = updL (gE s.E ρ) (pd.zip (vs.map ρ)) := by
  obtain ⟨r1, r2, r3, ⟨r4, r4'⟩, r5, r6, r7⟩ := r
  have nd := r3.1.2.2.2.2.2.2.2
  rw [r4] at nd ⊢
  rw [List.map_append, List.nodup_append] at nd
  have ez : (pd.zip (vs.map fun x => Int.Internal.Linear.Expr.var x)).map (·.1) = pd := List.map_fst_zip (by rw [List.length_map, r4']; exact Nat.le_refl _)
  rw [ez] at nd
  exact gE_ap pd vs s.E nd.2.1 (fun t ht y hy e => nd.2.2 y.1 (List.mem_map_of_mem hy) t ht e) r4'
/-- what a solution says -/
theorem Rpn.sol (r : Rpn G c P s B s1 us vs pd b Z) {ρ : Nat → Tr} (hρ : Sl s1.M s1.t ρ) : Z (gE s.E ρ) (us.map ρ) (pd.zip (vs.map ρ)) := by
  obtain ⟨r1, r2, r3, ⟨r4, r4'⟩, r5, r6, r7⟩ := r
  obtain ⟨u1, ν, h1, h2⟩ := r2.2.2.2.2.1 ρ hρ
  obtain ⟨-, f2, f3⟩ := r7 _ _ _ h2
  rw [List.map_append] at h1
  obtain ⟨e1, e2⟩ := app_inj h1 (by rw [List.length_map, f2])
  rw [e1, e2, ← nu_zip ν _ _ f3 rfl]
  exact h2
theorem Rpn.ea (k : XS G c P0 s) (r : Rpn G c P s B s1 us vs pd b Z) : eA s1.M s1.t s1.E = fun γ' => ∃ γ u ν, Z γ u ν ∧ γ' = updL γ ν := by
  funext γ'
  refine propext ⟨?_, ?_⟩
  · rintro ⟨ρ, h1, rfl⟩
    exact ⟨_, _, _, r.sol h1, r.ge ρ⟩
  · rintro ⟨γ, u, ν, h1, rfl⟩
    obtain ⟨⟨ρ, h2, rfl⟩, f2, f3⟩ := r.2.2.2.2.2.2 γ u ν h1
    obtain ⟨ρ', h3, h4, h5⟩ := r.2.1.2.2.2.2.2 ρ h2 _ ⟨u, ν, rfl, h1⟩
    refine ⟨ρ', h3, ?_⟩
    rw [r.ge ρ', k.ge h4]
    rw [List.map_append] at h5
    obtain ⟨e1, e2⟩ := app_inj h5 (by rw [List.length_map, f2])
    rw [e2, ← nu_zip ν _ _ f3 rfl]
/-- an equation -/
theorem Rpn.same (k : XS G c P0 s) (r : Rpn G c P s B s1 us vs pd b Z) (hi : us[i]? = some a) (hj : us[j]? = some e) (ht : t < c.ts.length) (hb : BdX c s (b + 1)) : C G mX11_same (d + 6) [.ref (gW G 6), .int (nI a), .int (nI e), .int (nI t)] s1.h (fun o h' => ((∃ γ u ν, Z γ u ν ∧ u[i]? = u[j]?) ∧ o = .returned none ∧ ∃ τ', un h' = un s1.h ∧ Rpn G c P s B (h', s1.M, s1.Pn, τ', s1.m + 2, s1.E, s1.cap, s1.rc, s1.ws) us vs pd (b + 1) (fun γ u ν => Z γ u ν ∧ u[i]? = u[j]?) ∧ ∀ x, P x → Uf s1.h h' x) ∨ ((¬ ∃ γ u ν, Z γ u ν ∧ u[i]? = u[j]?) ∧ Ft G c s B b (5, t) o h')) := by
  obtain ⟨r1, r2, r3, r4, r5, r6, r7⟩ := id r
  obtain ⟨-, -, -, ⟨q1, q2, q3⟩, -⟩ := id r2
  obtain ⟨u1, u2, u3, u4, u5⟩ := hb
  have ca : cln s1.M s1.t a := r2.2.2.1 a (List.mem_append_left _ (List.mem_of_getElem? hi))
  have ce : cln s1.M s1.t e := r2.2.2.1 e (List.mem_append_left _ (List.mem_of_getElem? hj))
  have hun : un s1.h ≤ pot s1.h s1.cap := by unfold pot; omega
  have li := (List.getElem?_eq_some_iff.mp hi).1
  have lj := (List.getElem?_eq_some_iff.mp hj).1
  refine C.mono (c_ysm (d := d) (nC := c.Ct.length) (Z := c.Z) r3.1.1 r3.tt (by omega) (by omega) ca ce ht (by omega)) ?_
  have hE : ∀ ρ : Nat → Tr, Sl s1.M s1.t ρ → (ρ a = ρ e ↔ (fun u : List Tr => u[i]? = u[j]?) ((us ++ vs).map ρ)) := fun ρ _ => by
    show _ ↔ ((us ++ vs).map ρ)[i]? = ((us ++ vs).map ρ)[j]?
    rw [List.getElem?_map, List.getElem?_map, List.getElem?_append_left li, List.getElem?_append_left lj, hi, hj]
    exact ⟨fun e => by rw [Option.map_some, Option.map_some, e], fun e => Option.some.inj e⟩
  have can := r2.can (a := a) (c := e) (E := fun u => u[i]? = u[j]?) hE
  have idx : ∀ γ u ν, Z γ u ν → ((u ++ ν.map (·.2))[i]? = (u ++ ν.map (·.2))[j]? ↔ u[i]? = u[j]?) := fun γ u ν h => by
    obtain ⟨-, f2, -⟩ := r7 _ _ _ h
    rw [List.getElem?_append_left (by omega), List.getElem?_append_left (by omega)]
  have law : (∃ ρ, Sl s1.M s1.t ρ ∧ ρ a = ρ e) ↔ ∃ γ u ν, Z γ u ν ∧ u[i]? = u[j]? := by
    rw [can]
    constructor
    · rintro ⟨ρ, _, h1, ⟨u, ν, rfl, h2⟩, h3⟩
      exact ⟨_, u, ν, h2, (idx _ _ _ h2).mp h3⟩
    · rintro ⟨γ, u, ν, h2, h3⟩
      obtain ⟨⟨ρ, h1, rfl⟩, -⟩ := r7 γ u ν h2
      exact ⟨ρ, _, h1, ⟨u, ν, rfl, h2⟩, (idx _ _ _ h2).mpr h3⟩
  rintro o h' ⟨F, q⟩
  rcases q with ⟨ex, rfl, T, τ', k4, ev4, hs4⟩ | ⟨no, x, rfl, ft, hu⟩
  · refine Or.inl ⟨law.mp ex, rfl, τ', T.2.1, ⟨r1.tr k.sA ((F.wk fun _ w => w.elim).rc_le r5), ?_, r3.mt T F.1 k4 ev4, r4, r5, ?_, fun γ u ν h => r7 γ u ν h.1⟩, fun x hx => F.2.1 x (r3.2.2.2.2.2.2.1 x hx).1⟩
    · refine (r2.eqn k4 ev4 hs4 (E := fun u => u[i]? = u[j]?) hE).imp fun ρ hρ u => ⟨?_, ?_⟩
      · rintro ⟨⟨u, ν, rfl, h2⟩, h3⟩
        exact ⟨u, ν, rfl, h2, (idx _ _ _ h2).mp h3⟩
      · rintro ⟨u, ν, rfl, h2, h3⟩
        exact ⟨⟨u, ν, rfl, h2⟩, (idx _ _ _ h2).mpr h3⟩
    · have : pot h' s1.cap = pot s1.h s1.cap := by unfold pot; rw [T.2.1]
      exact ⟨by show pot h' s1.cap ≤ _; omega, by show s1.ws.length ≤ _; omega⟩
  · exact Or.inr ⟨fun w => (law.mpr w).elim fun ρ hρ => no ρ hρ.1 hρ.2, r1.tr k.sA ((F.wk fun _ w => w.elim).rc_le r5), x, rfl, ft, by omega⟩
/-- the last node is let go -/
theorem Rpn.dl (r : Rpn G c P s B s1 (us ++ [t]) vs pd b Z) : Rpn G c P s B s1 us vs pd b (fun γ u ν => ∃ v, Z γ (u ++ [v]) ν) := by
  obtain ⟨r1, r2, r3, r4, r5, r6, r7⟩ := r
  have pr : ∀ (u1 : List Tr) (v : Tr) (w : List Tr), u1.length = us.length → (fun u : List Tr => u.take us.length ++ u.drop (us.length + 1)) ((u1 ++ [v]) ++ w) = u1 ++ w := fun u1 v w hl => by
    show ((u1 ++ [v]) ++ w).take us.length ++ ((u1 ++ [v]) ++ w).drop (us.length + 1) = _
    have e1 : ((u1 ++ [v]) ++ w).take us.length = u1 := by rw [List.append_assoc, ← hl, List.take_append_of_le_length (Nat.le_refl _), List.take_of_length_le (Nat.le_refl _)]
    have e2 : ((u1 ++ [v]) ++ w).drop (us.length + 1) = w := by
      rw [List.drop_append_of_le_length (by rw [List.length_append, hl]; exact Nat.le_refl _), List.drop_of_length_le (by rw [List.length_append, hl]; exact Nat.le_refl _)]
      rfl
    rw [e1, e2]
  have sp : ∀ γ u ν, Z γ u ν → ∃ u1 v, u = u1 ++ [v] ∧ u1.length = us.length := fun γ u ν h => by
    obtain ⟨-, f2, -⟩ := r7 _ _ _ h
    rw [List.length_append, List.length_singleton] at f2
    refine ⟨u.take us.length, u.getD us.length (.num 0), ?_, by rw [List.length_take]; omega⟩
    have e1 : u.drop us.length = [u.getD us.length (.num 0)] := by
      rw [List.drop_eq_getElem_cons (by omega), List.drop_of_length_le (by omega), List.getD, List.getElem?_eq_getElem (by omega)]
      rfl
    rw [← e1, List.take_append_drop]
  refine ⟨r1, ?_, r3, r4, r5, r6, fun γ u ν ⟨v, h⟩ => ?_⟩
  · refine (r2.prj (ts' := us ++ vs) (fun u => u.take us.length ++ u.drop (us.length + 1)) (fun x hx => r2.2.2.1 x (by
      rcases List.mem_append.mp hx with w | w
      · exact List.mem_append_left _ (List.mem_append_left _ w)
      · exact List.mem_append_right _ w)) (fun ρ _ => ?_)).imp fun ρ hρ u => ⟨?_, ?_⟩
    · have := pr (us.map ρ) (ρ t) (vs.map ρ) (by rw [List.length_map])
      rw [List.map_append, List.map_append, List.map_append]
      exact this.symm
    · rintro ⟨_, ⟨u1, ν, rfl, h1⟩, rfl⟩
      obtain ⟨u2, v, rfl, hl⟩ := sp _ _ _ h1
      exact ⟨u2, ν, pr u2 v _ hl, v, h1⟩
    · rintro ⟨u1, ν, rfl, v, h1⟩
      obtain ⟨-, f2, -⟩ := r7 _ _ _ h1
      rw [List.length_append, List.length_append] at f2
      exact ⟨_, ⟨_, ν, rfl, h1⟩, pr u1 v _ (Nat.add_right_cancel f2)⟩
  · obtain ⟨f1, f2, f3⟩ := r7 _ _ _ h
    rw [List.length_append, List.length_append] at f2
    exact ⟨f1, Nat.add_right_cancel f2, f3⟩
/-- an array that is held is written -/
theorem Rpn.wr {v : Int32} (k : XS G c P0 s) (r : Rpn G c P s B s1 us vs pd b Z) (hP : P q) (hq : hK s.h q = 0) : Rpn G c P s B (sI s1.h q i v, s1.M, s1.Pn, s1.t, s1.m, s1.E, s1.cap, s1.rc, s1.ws) us vs pd b Z := by
  obtain ⟨r1, r2, r3, r4, r5, r6, r7⟩ := r
  obtain ⟨x1, ev⟩ := r3.wr (i := i) (v := v) hP
  exact ⟨FIn.sI0 r1 hq (k.sA.at (i := 6) (by decide)).1, r2.mv x1.tt ev, x1, r4, r5, r6, r7⟩
/-- room that isn't used -/
theorem Rpn.cut (r : Rpn G c P s B s1 us vs pd b Z) (hM : s1.M ≤ s.M + 8 * b') (hP : s1.Pn ≤ s.Pn + 8 * b') (hm : s1.m ≤ s.m + 10 * b') (hp : pot s1.h s1.cap ≤ pot s.h s.cap + 8 * b') (hw : s1.ws.length ≤ s.ws.length + b') : Rpn G c P s B s1 us vs pd b' Z := by
  obtain ⟨r1, r2, r3, r4, r5, r6, r7⟩ := r
  exact ⟨r1, r2.mb hM hP hm, r3, r4, r5, ⟨hp, hw⟩, r7⟩
end
