/-! THE COMPONENT'S TYPER: a clause's expression -/
/-- room that is left -/
def Slk (s s1 : Sx) (b u w : Nat) : Prop := pot s1.h s1.cap + u ≤ pot s.h s.cap + 8 * b ∧ s1.ws.length + w ≤ s.ws.length + b
section
variable {G : Gh} {c : Cx} {P P0 : Nat → Prop} {s s1 s2 : Sx} {us vs pd L : List Nat} {b n q lo hi rc' D : Nat} {Z : En → List Tr → Nu → Prop} {h h' : AH} {V : List Nat} {e : Tr} {A1 : En → Prop}
theorem Rpn.ot {x : Tr} {B : Nat → Prop} (k : XS G c P0 s) (r : Rpn G c P s B s1 us vs pd b Z) (hT : TR lo hi x) (o : OTG (XA c.ts c.W c.O c.Z c.D s.h) c.W s.h x 0 0 q) : OTG (XA c.ts c.W c.O c.Z c.D s1.h) c.W s1.h x 0 0 q := k.1.ot r.1 hT o
/-- an expression behind patterns; then their names leave sight -/
theorem Rpn.body (hE : ExI G c n) (k : XS G c P0 s) (r : Rpn G c P s (fun t => t ∈ L) s1 us vs pd b Z) (hs : sEx c.ts c.O c.N c.Ct c.Dt n 0 (V ++ pd) s1.rc e rc') (hT : TR lo hi e) (hhi : hi ≤ c.ts.length) (ot : OTG (XA c.ts c.W c.O c.Z c.D s.h) c.W s.h e 0 0 q) (hb : BdX c s (b + 2 * nw e)) (hf : Frs s.h c.Z c.D s.E (L ++ bT e)) (hpd : ∀ t, t ∈ pd → t ∈ L) (hV : ∀ t, t ∈ V → ∃ σ, (t, σ) ∈ s.E) (hD : fw e + 600 ≤ D) (hA : ∀ γ', A1 γ' ↔ ∃ γ u ν, Z γ u ν ∧ γ' = updL γ ν) :
    ∃ (k : Nat) (ν : Mu), VT ⟨"LetMill$Exp", "infer", "(LLetMill$Typer;)I"⟩ VMExp_infer k ν ∧ hK s1.h q = k + 1 ∧ C G ν D [.ref q, .ref (gW G 6)] s1.h (fun o h' => match eX (tW c.N c.Ct c.Dt (Vl c.ts) c.kn n) e A1 with
      | .error f => Ft G c s (fun t => t ∈ L ++ bT e) (b + (2 * nw e - 1)) f o h'
      | .ok R => ∃ t s2, o = .returned (some (.int (nI t))) ∧ Sx.h s2 = pI h' (gW G 6) 112 (nI s.E.length) ∧ Sx.ws s2 = wAll s1.ws (wW c.Ct c.Dt (Pl c.ts) n 0 e) ∧ Sx.rc s2 = rc' ∧ Rn G c P s (fun t => t ∈ L ++ bT e) s2 (us ++ [t]) (b + (2 * nw e - 1)) (fun γ u => ∃ u1 v ν, u = u1 ++ [v] ∧ Z γ u1 ν ∧ R (updL γ ν) v) ∧ (∀ a, P a → Uf s1.h (Sx.h s2) a) ∧ Slk s1 s2 (2 * nw e - 1) 0 0) := by
  obtain ⟨r1, r2, r3, ⟨r4, r4'⟩, r5, r6, r7⟩ := id r
  have eA1 : A1 = eA s1.M s1.t s1.E := by
    rw [r.ea k]
    funext γ
    exact propext (hA γ)
  have f1 : Frs s1.h c.Z c.D s1.E (bT e) := by
    rw [r4]
    exact hf.nx2 r1 k.bd hpd
  have hV1 : ∀ t, t ∈ V ++ pd → ∃ σ, (t, σ) ∈ s1.E := fun t ht => by
    rw [r4]
    rcases List.mem_append.mp ht with w | w
    · obtain ⟨σ, h1⟩ := hV t w
      exact ⟨σ, List.mem_append_left _ h1⟩
    · obtain ⟨i, hi⟩ := List.getElem?_of_mem w
      have hil := (List.getElem?_eq_some_iff.mp hi).1
      obtain ⟨y, hy⟩ : ∃ y, vs[i]? = some y := ⟨_, List.getElem?_eq_getElem (by omega)⟩
      refine ⟨.var y, List.mem_append_right _ (List.mem_of_getElem? (i := i) ?_)⟩
      rw [List.getElem?_zip_eq_some]
      exact ⟨hi, by rw [List.getElem?_map, hy]; rfl⟩
  obtain ⟨k2, ν2, v1, v2, v3⟩ := hE P e q lo hi rc' D (V ++ pd) s1 hs hT hhi (r.ot k hT ot) r3 (hb.nxp r) f1 hV1 hD
  refine ⟨k2, ν2, v1, v2, C.mono v3 ?_⟩
  intro o h' z
  rw [eA1]
  unfold ExQ at z
  cases hr : eX (tW c.N c.Ct c.Dt (Vl c.ts) c.kn n) e (eA s1.M s1.t s1.E) with
  | error f =>
    rw [hr] at z
    obtain ⟨q1, x, q2, q3, q4⟩ := z
    exact ⟨(r1.wk fun t ht => List.mem_append_left _ ht).tr k.sA ((q1.wk fun t ht => List.mem_append_right _ ht).rc_le r5), x, q2, q3, by omega⟩
  | ok R =>
    rw [hr] at z
    obtain ⟨t, s2, z1, rfl, z3, z4, q1, q2, q3, q4, q5, q6, q7⟩ := z
    obtain ⟨x3, ev, F3⟩ := q3.pop (B := fun t => t ∈ L ++ bT e) (q4.trans r4)
    have F2 : FIn G c.Z (fun t => t ∈ L ++ bT e) s.rc c.Ct.length s.h s2.h := (r1.wk fun t ht => List.mem_append_left _ ht).tr k.sA ((q1.wk fun t ht => List.mem_append_right _ ht).rc_le r5)
    refine ⟨t, (pI s2.h (gW G 6) 112 (nI s.E.length), s2.M, s2.Pn, s2.t, s2.m, s.E, s2.cap, s2.rc, s2.ws), z1, rfl, z3, z4, ⟨F2.tr k.sA (F3.rc_le (Nat.le_trans r5 q5)), ?_, x3, rfl, Nat.le_trans r5 q5, ⟨?_, ?_⟩, ?_⟩, fun a ha => (q1.2.1 a (r3.2.2.2.2.2.2.1 a ha).1).tr (F3.2.1 a (q3.2.2.2.2.2.2.1 a ha).1), ⟨?_, ?_⟩⟩
    · have rr := (r2.seq q2).mv x3.tt ev
      have pr : ∀ (u1 v1 w : List Tr), u1.length = us.length → v1.length = vs.length → (fun u : List Tr => u.take us.length ++ u.drop (us.length + vs.length)) ((u1 ++ v1) ++ w) = u1 ++ w := fun u1 v1 w h1 h2 => by
        show ((u1 ++ v1) ++ w).take us.length ++ ((u1 ++ v1) ++ w).drop (us.length + vs.length) = _
        have e1 : ((u1 ++ v1) ++ w).take us.length = u1 := by rw [List.append_assoc, ← h1, List.take_append_of_le_length (Nat.le_refl _), List.take_of_length_le (Nat.le_refl _)]
        have e2 : ((u1 ++ v1) ++ w).drop (us.length + vs.length) = w := by
          rw [← h1, ← h2, ← List.length_append, List.drop_append_of_le_length (Nat.le_refl _), List.drop_of_length_le (Nat.le_refl _)]
          rfl
        rw [e1, e2]
      refine (rr.prj (ts' := us ++ [t]) (fun u => u.take us.length ++ u.drop (us.length + vs.length)) (fun x hx => rr.2.2.1 x (by
        rcases List.mem_append.mp hx with w | w
        · exact List.mem_append_left _ (List.mem_append_left _ w)
        · exact List.mem_append_right _ w)) (fun ρ _ => ?_)).imp fun ρ hρ u => ⟨?_, ?_⟩
      · have := pr (us.map ρ) (vs.map ρ) [ρ t] (by rw [List.length_map]) (by rw [List.length_map])
        rw [List.map_append, List.map_append, List.map_append]
        exact this.symm
      · rintro ⟨w, ⟨u2, ρ1, e1, e2, rfl, v, rfl, h1⟩, rfl⟩
        have h2 := r.sol e1
        rw [r.ge ρ1] at h1
        rw [k.ge e2] at h1 h2
        refine ⟨us.map ρ1, v, _, ?_, h2, h1⟩
        rw [List.map_append]
        exact pr _ _ _ (by rw [List.length_map]) (by rw [List.length_map])
      · rintro ⟨u1, v, ν, rfl, h1, h2⟩
        obtain ⟨-, f2, f3⟩ := r7 _ _ _ h1
        obtain ⟨ρ1, e1, e2, e3⟩ := r2.2.2.2.2.2 ρ hρ _ ⟨u1, ν, rfl, h1⟩
        have e4 := e3
        rw [List.map_append] at e4
        obtain ⟨g1, g2⟩ := app_inj e4 (by rw [List.length_map, f2])
        refine ⟨_, ⟨[v], ρ1, e1, e2, rfl, v, rfl, ?_⟩, ?_⟩
        · rw [r.ge ρ1, k.ge e2, g2, ← nu_zip ν _ _ f3 rfl]
          exact h2
        · rw [List.map_append, g1]
          exact pr _ _ _ f2 (by rw [List.length_map])
    · have : pot (pI s2.h (gW G 6) 112 (nI s.E.length)) s2.cap = pot s2.h s2.cap := by unfold pot; rw [un_pI]
      show pot (pI s2.h (gW G 6) 112 (nI s.E.length)) s2.cap ≤ _
      omega
    · show s2.ws.length ≤ _
      omega
    · rintro γ u ⟨u1, v, ν, rfl, h1, h2⟩
      exact (r7 _ _ _ h1).1
    · have : pot (pI s2.h (gW G 6) 112 (nI s.E.length)) s2.cap = pot s2.h s2.cap := by unfold pot; rw [un_pI]
      show pot (pI s2.h (gW G 6) 112 (nI s.E.length)) s2.cap + 0 ≤ _
      omega
    · show s2.ws.length + 0 ≤ _
      omega
end
