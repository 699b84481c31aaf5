/-! THE COMPONENT'S TYPER: declarations one behind another; let -/
/-- from s to s1: environments go over to those that R says -/
def Dn (G : Gh) (c : Cx) (P : Nat → Prop) (s : Sx) (B : Nat → Prop) (s1 : Sx) (b : Nat) (R : En → En → Prop) : Prop := FIn G c.Z B s.rc c.Ct.length s.h s1.h ∧ (Ev G s.h s.M s.t s1.h s1.M s1.t ∧ s1.M ≤ s.M + 8 * b ∧ s1.Pn ≤ s.Pn + 8 * b ∧ s1.m ≤ s.m + 10 * b) ∧ XS G c P s1 ∧ (∃ Γ, s1.E = s.E ++ Γ ∧ ∀ x, x ∈ Γ → B x.1) ∧ s.rc ≤ s1.rc ∧ (pot s1.h s1.cap ≤ pot s.h s.cap + 8 * b ∧ s1.ws.length ≤ s.ws.length + b) ∧ (∀ γ γ', R γ γ' → eA s.M s.t s.E γ) ∧ (∀ ρ, Sl s1.M s1.t ρ → R (gE s.E ρ) (gE s1.E ρ)) ∧ ∀ ρ, Sl s.M s.t ρ → ∀ γ', R (gE s.E ρ) γ' → ∃ ρ', Sl s1.M s1.t ρ' ∧ (∀ x, x < s.M → ρ' x = ρ x) ∧ gE s1.E ρ' = γ'
/-- the end of a declaration -/
def DcQ (G : Gh) (c : Cx) (P : Nat → Prop) (s : Sx) (B : Nat → Prop) (b : Nat) (r : Except Fa Rl) (w : List (Nat × Nat)) (rc' : Nat) (nm : List Nat) : Outcome → AH → Prop := fun o h' => match r with
  | .error f => Ft G c s B b f o h'
  | .ok R => ∃ s1, o = .returned none ∧ Sx.h s1 = h' ∧ Sx.ws s1 = wAll s.ws w ∧ Sx.rc s1 = rc' ∧ Dn G c P s B s1 b (fun γ γ' => ∃ τ, R γ γ' τ) ∧ (∀ t, t ∈ nm → ∃ σ, (t, σ) ∈ Sx.E s1) ∧ ∀ a, P a → Uf s.h (Sx.h s1) a
/-- declarations of n levels are typed as the law says -/
def DcI (G : Gh) (c : Cx) (n : Nat) : Prop := ∀ (P : Nat → Prop) (e : Tr) (q lo hi rc' D : Nat) (V : List Nat) (s : Sx), sEx c.ts c.O c.N c.Ct c.Dt n 2 V s.rc e rc' → TR lo hi e → hi ≤ c.ts.length → OTG (XA c.ts c.W c.O c.Z c.D s.h) c.W s.h e 0 0 q → XS G c P s → BdX c s (2 * nw e) → Frs s.h c.Z c.D s.E (bT e) → (∀ t, t ∈ V → ∃ σ, (t, σ) ∈ s.E) → fw e + 600 ≤ D →
  ∃ (k : Nat) (ν : Mu), VT ⟨"LetMill$Dec", "infer", "(LLetMill$Typer;)V"⟩ VMDec_infer k ν ∧ hK s.h q = k + 1 ∧ C G ν D [.ref q, .ref (gW G 6)] s.h (DcQ G c P s (fun t => t ∈ bT e) (2 * nw e) (tW c.N c.Ct c.Dt (Vl c.ts) c.kn n 2 e (eA s.M s.t s.E)) (wW c.Ct c.Dt (Pl c.ts) n 2 e) rc' (dNm e))
section
variable {G : Gh} {c : Cx} {P P0 : Nat → Prop} {s s1 s2 : Sx} {B B' : Nat → Prop} {L : List Nat} {b b' b2 n lo hi q rc' D t r0 r1 : Nat} {ds : List Tr} {V V' : List Nat} {e x : Tr} {R R2 : En → En → Prop} {h h' : AH} {A1 : En → Prop}
theorem Dn.imp {R' : En → En → Prop} (r : Dn G c P s B s1 b R) (e : ∀ γ γ', R γ γ' ↔ R' γ γ') : Dn G c P s B s1 b R' := by
  have : R = R' := by
    funext γ γ'
    exact propext (e γ γ')
  rw [← this]
  exact r
theorem Dn.wk (r : Dn G c P s B s1 b R) (hb : b ≤ b') (hB : ∀ t, B t → B' t) : Dn G c P s B' s1 b' R := by
  obtain ⟨r1, ⟨r2, c1, c2, c3⟩, r3, ⟨Γ, e1, e2⟩, r5, r6, r7⟩ := r
  exact ⟨r1.wk hB, ⟨r2, by omega, by omega, by omega⟩, r3, ⟨Γ, e1, fun x hx => hB _ (e2 x hx)⟩, r5, ⟨by omega, by omega⟩, r7⟩
theorem Dn.rf (k : XS G c P s) : Dn G c P s B s 0 (fun γ γ' => eA s.M s.t s.E γ ∧ γ' = γ) := ⟨FIn.rf, ⟨Ev.rf, by omega, by omega, by omega⟩, k, ⟨[], (List.append_nil _).symm, fun x hx => (by cases hx)⟩, Nat.le_refl _, ⟨by omega, by omega⟩, fun γ γ' h => h.1, fun ρ hρ => ⟨⟨ρ, hρ, rfl⟩, rfl⟩, fun ρ hρ γ' h => ⟨ρ, hρ, fun _ _ => rfl, h.2.symm⟩⟩
theorem Dn.tr (k : XS G c P0 s) (r : Dn G c P s B s1 b R) (q : Dn G c P s1 B s2 b2 R2) : Dn G c P s B s2 (b + b2) (fun γ γ'' => ∃ γ', R γ γ' ∧ R2 γ' γ'') := by
  obtain ⟨r1, ⟨r2, c1, c2, c3⟩, r3, ⟨Γ, e1, e2⟩, r5, r6, r7, r8, r9⟩ := r
  obtain ⟨q1, ⟨q2, d1, d2, d3⟩, q3, ⟨Γ2, f1, f2⟩, q5, q6, q7, q8, q9⟩ := q
  refine ⟨r1.tr k.sA (q1.rc_le r5), ⟨r2.tr q2, by omega, by omega, by omega⟩, q3, ⟨Γ ++ Γ2, by rw [f1, e1, List.append_assoc], fun x hx => ?_⟩, Nat.le_trans r5 q5, ⟨by omega, by omega⟩, fun γ γ'' ⟨γ', h, _⟩ => r7 γ γ' h, fun ρ hρ => ⟨_, r8 ρ (q2.2.1 ρ hρ), q8 ρ hρ⟩, ?_⟩
  · rcases List.mem_append.mp hx with w | w
    · exact e2 x w
    · exact f2 x w
  · rintro ρ hρ γ'' ⟨γ', h1, h2⟩
    obtain ⟨ρ1, g1, g2, rfl⟩ := r9 ρ hρ γ' h1
    obtain ⟨ρ2, g4, g5, g6⟩ := q9 ρ1 g1 γ'' h2
    exact ⟨ρ2, g4, fun x hx => (g5 x (Nat.lt_of_lt_of_le hx r2.1)).trans (g2 x hx), g6⟩
theorem Dn.ea (r : Dn G c P s B s1 b R) : eA s1.M s1.t s1.E = fun γ' => ∃ γ, R γ γ' := by
  obtain ⟨r1, r2, r3, r4, r5, r6, r7, r8, r9⟩ := r
  funext γ'
  refine propext ⟨?_, ?_⟩
  · rintro ⟨ρ, h1, rfl⟩
    exact ⟨_, r8 ρ h1⟩
  · rintro ⟨γ, h1⟩
    obtain ⟨ρ, h2, rfl⟩ := r7 γ γ' h1
    obtain ⟨ρ', h3, -, h4⟩ := r9 ρ h2 γ' h1
    exact ⟨ρ', h3, h4.symm⟩
theorem Dn.xs (r : Dn G c P s B s1 b R) : XS G c P s1 := r.2.2.1
theorem Dn.uf (k : XS G c P0 s) (r : Dn G c P s B s1 b R) {a : Nat} (ha : c.W a) : Uf s.h s1.h a := r.1.2.1 a (k.fix a ha)
theorem Dn.ot (k : XS G c P0 s) (r : Dn G c P s B s1 b R) (hT : TR lo hi x) (o : OTG (XA c.ts c.W c.O c.Z c.D s.h) c.W s.h x 0 0 q) : OTG (XA c.ts c.W c.O c.Z c.D s1.h) c.W s1.h x 0 0 q := k.1.ot r.1 hT o
theorem BdX.nxd (hb : BdX c s (b + b2)) (r : Dn G c P s B s1 b R) : BdX c s1 b2 := by
  obtain ⟨u1, u2, u3, u4, u5⟩ := hb
  obtain ⟨-, ⟨-, q1, q2, q3⟩, -, -, -, r6, -⟩ := r
  exact ⟨by omega, by omega, by omega, by omega, by omega⟩
theorem Dn.frs {l2 : List Nat} (k : XS G c P0 s) (r : Dn G c P s (fun t => t ∈ L) s1 b R) (f : Frs s.h c.Z c.D s.E (L ++ l2)) : Frs s1.h c.Z c.D s1.E l2 := by
  obtain ⟨f1, f2⟩ := f.nx (us := []) r.1 k.bd
  obtain ⟨Γ, e1, e2⟩ := r.2.2.2.1
  refine ⟨f1, fun t ht => ?_⟩
  obtain ⟨g1, g2, g3⟩ := f2 t ht
  refine ⟨g1, g2, fun x hx => ?_⟩
  rw [e1] at hx
  rcases List.mem_append.mp hx with w | w
  · exact g3 x (List.mem_append_left _ w)
  · exact (List.nodup_append.mp f.1).2.2 x.1 (e2 x w) t ht
theorem dc_kd (hs : sEx c.ts c.O c.N c.Ct c.Dt n 2 V r0 x r1) (o : OTG (XA c.ts c.W c.O c.Z c.D h) c.W h x 0 0 q) : hK h q = 28 ∨ hK h q = 46 ∨ hK h q = 53 := by
  cases n with
  | zero => exact hs.elim
  | succ n =>
    unfold sEx at hs
    rw [if_pos rfl] at hs
    rcases hs with ⟨t, p, e, rfl, -⟩ | ⟨t, fs, rfl, -⟩ | ⟨t, ds, rfl, -⟩
    · exact Or.inl (by simpa [kc] using ((OTG_nd (k := 51) (by decide)).mp o).2.1)
    · exact Or.inr (Or.inl (by simpa [kc] using ((OTG_nd (k := 52) (by decide)).mp o).2.1))
    · exact Or.inr (Or.inr (by simpa [kc] using ((OTG_nd (k := 53) (by decide)).mp o).2.1))
/-- an expression behind declarations; then their names leave sight -/
theorem Dn.body (hE : ExI G c n) (k : XS G c P0 s) (r : Dn G c P s (fun t => t ∈ L) s1 b R) (hs : sEx c.ts c.O c.N c.Ct c.Dt n 0 V s1.rc e rc') (hT : TR lo hi e) (hhi : hi ≤ c.ts.length) (ot : OTG (XA c.ts c.W c.O c.Z c.D s.h) c.W s.h e 0 0 q) (hb : BdX c s (b + 2 * nw e)) (hf : Frs s.h c.Z c.D s.E (L ++ bT e)) (hV : ∀ t, t ∈ V → ∃ σ, (t, σ) ∈ s1.E) (hD : fw e + 600 ≤ D) (hA : ∀ γ', A1 γ' ↔ ∃ γ, R γ γ') :
    ∃ (k : Nat) (ν : Mu), VT ⟨"LetMill$Exp", "infer", "(LLetMill$Typer;)I"⟩ VMExp_infer k ν ∧ hK s1.h q = k + 1 ∧ C G ν D [.ref q, .ref (gW G 6)] s1.h (fun o h' => match eX (tW c.N c.Ct c.Dt (Vl c.ts) c.kn n) e A1 with
      | .error f => Ft G c s (fun t => t ∈ L ++ bT e) (b + (2 * nw e - 1)) f o h'
      | .ok Re => ∃ t s2, o = .returned (some (.int (nI t))) ∧ Sx.h s2 = pI h' (gW G 6) 112 (nI s.E.length) ∧ Sx.ws s2 = wAll s1.ws (wW c.Ct c.Dt (Pl c.ts) n 0 e) ∧ Sx.rc s2 = rc' ∧ Rn G c P s (fun t => t ∈ L ++ bT e) s2 [t] (b + (2 * nw e - 1)) (fun γ u => ∃ v, u = [v] ∧ ∃ γ', R γ γ' ∧ Re γ' v)) := by
  obtain ⟨r1, ⟨r2, c1, c2, c3⟩, r3, ⟨Γ, r4, r4'⟩, r5, r6, r7, r8, r9⟩ := id r
  have eA1 : A1 = eA s1.M s1.t s1.E := by
    rw [r.ea]
    funext γ
    exact propext (hA γ)
  obtain ⟨k2, ν2, v1, v2, v3⟩ := hE P e q lo hi rc' D V s1 hs hT hhi (r.ot k hT ot) r3 (hb.nxd r) (r.frs k hf) hV hD
  refine ⟨k2, ν2, v1, v2, C.mono v3 ?_⟩
  intro o h' z
  rw [eA1]
  unfold ExQ at z
  cases hr : eX (tW c.N c.Ct c.Dt (Vl c.ts) c.kn n) e (eA s1.M s1.t s1.E) with
  | error f =>
    rw [hr] at z
    obtain ⟨q1, x, q2, q3, q4⟩ := z
    exact ⟨(r1.wk fun t ht => List.mem_append_left _ ht).tr k.sA ((q1.wk fun t ht => List.mem_append_right _ ht).rc_le r5), x, q2, q3, by omega⟩
  | ok Re =>
    rw [hr] at z
    obtain ⟨t, s2, z1, rfl, z3, z4, q1, q2, q3, q4, q5, q6, q7⟩ := z
    obtain ⟨x3, ev, F3⟩ := q3.pop (B := fun t => t ∈ L ++ bT e) (q4.trans r4)
    have F2 : FIn G c.Z (fun t => t ∈ L ++ bT e) s.rc c.Ct.length s.h s2.h := (r1.wk fun t ht => List.mem_append_left _ ht).tr k.sA ((q1.wk fun t ht => List.mem_append_right _ ht).rc_le r5)
    have q2' := q2.mv x3.tt ev
    obtain ⟨p1, p2, p3, ⟨p4, p5, p6⟩, p7, p8⟩ := id q2'
    refine ⟨t, (pI s2.h (gW G 6) 112 (nI s.E.length), s2.M, s2.Pn, s2.t, s2.m, s.E, s2.cap, s2.rc, s2.ws), z1, rfl, z3, z4, F2.tr k.sA (F3.rc_le (Nat.le_trans r5 q5)), ⟨r2.tr p1, p2, p3, ⟨by show s2.M ≤ _; omega, by show s2.Pn ≤ _; omega, by show s2.m ≤ _; omega⟩, fun ρ hρ => ?_, fun ρ hρ u hu => ?_⟩, x3, rfl, Nat.le_trans r5 q5, ⟨?_, ?_⟩, ?_⟩
    · obtain ⟨v, h1, h2⟩ := p7 ρ hρ
      exact ⟨v, h1, _, r8 ρ (p1.2.1 ρ hρ), h2⟩
    · obtain ⟨v, rfl, γ', h1, h2⟩ := hu
      obtain ⟨ρ1, g1, g2, rfl⟩ := r9 ρ hρ γ' h1
      obtain ⟨ρ2, g4, g5, g6⟩ := p8 ρ1 g1 [v] ⟨v, rfl, h2⟩
      exact ⟨ρ2, g4, fun x hx => (g5 x (Nat.lt_of_lt_of_le hx r2.1)).trans (g2 x hx), g6⟩
    · have : pot (pI s2.h (gW G 6) 112 (nI s.E.length)) s2.cap = pot s2.h s2.cap := by unfold pot; rw [un_pI]
      show pot (pI s2.h (gW G 6) 112 (nI s.E.length)) s2.cap ≤ _
      omega
    · show s2.ws.length ≤ _
      omega
    · rintro γ u ⟨v, rfl, γ', h1, h2⟩
      exact r7 γ γ' h1
end
