/-! THE COMPONENT'S TYPER: names that are declared; those that are too great -/
section
variable {G : Gh} {c : Cx} {P P0 : Nat → Prop} {s s1 : Sx} {B : Nat → Prop} {us vs pd : List Nat} {b d n q tok D M x v : Nat} {Z : En → List Tr → Nu → Prop} {h h' : AH} {E0 : List (Nat × Tr)} {τ : Tb} {l3 : Int32}
theorem se_var (e : SE M τ x (.var v)) : x = v := by
  obtain ⟨hx, rt, dp, f, r, h⟩ := e
  have h1 := h (f + 1) (Nat.le_succ _)
  by_cases c : cln M τ x
  · rw [sc_cln c] at h1
    cases h1
    rfl
  · by_cases hn : uN τ (rt x) < 0
    · rw [sc_var c hn] at h1
      cases h1
    · rw [sc_gt c hn] at h1
      cases h1
/-- a fault is made -/
theorem c_flt {num : Nat} (w : IWd G c.ts c.O c.Z c.N c.Ct c.Dt c.kn s.rc h) (ht : tok < c.ts.length) (hq : hK h q = 0) (he : h' = nO h q 17) : C G mX18_init (d + 5) [.ref q, .int (nI num), .int (aI h' (gW G 1025) (nI tok).toNatClampNeg)] h' (fun o h2 => o = .returned none ∧ FIe G c.Z B s.rc c.Ct.length h h2 ∧ FtA h2 c.ts q num tok ∧ un h2 = un h + 24) := by
  subst he
  have tl := w.2.2.2.1.1
  have sA := w.1.1
  have e25 : aI (nO h q 17) (gW G 1025) tok = nI (Pl c.ts tok) := by
    rw [aI_nO]
    exact w.2.2.2.1.2 tok ht
  rw [nI_cn (by omega), e25]
  refine C.mono (c_Fault (d := d) (by rw [hK_nO, if_pos rfl]) rfl (by rw [fR_nO, if_pos rfl])) ?_
  rintro _ _ ⟨rfl, h2, ⟨r1, r2, rfl⟩, rfl⟩
  refine ⟨rfl, ⟨fun x hx => ?_, fun x hx hn hne => ?_, fun x hx hp => ?_, fun x hx hp => ?_, ?_⟩, ⟨?_, ?_, ?_⟩, ?_⟩
  · have hne : x ≠ q := fun e => hx.1 (by rw [e]; exact hq)
    refine ⟨?_, ?_, ?_, ?_, ?_, fun g => ⟨?_, ?_, ?_⟩⟩
    · simp only [hK_pI, hK_pR, hK_nO, if_neg hne]
    · simp only [hL_pI, hL_pR, hL_nO]
    · simp only [aI_pI, aI_pR, aI_nO]
    · simp only [aJ_pI, aJ_pR, aJ_nO]
    · simp only [aR_pI, aR_pR, aR_nO]
    · simp only [fI_pI, fI_pR, fI_nO, if_neg (fun z : x = q ∧ _ => hne z.1), if_neg hne]
    · simp only [fJ_pI, fJ_pR, fJ_nO, if_neg hne]
    · simp only [fR_pI, fR_pR, fR_nO, if_neg (fun z : x = q ∧ _ => hne z.1), if_neg hne]
  · simp only [aR_pI, aR_pR, aR_nO]
  · have hne : x ≠ q := fun e => by rw [e, hq] at hx; cases hx
    simp only [fI_pI, fI_pR, fI_nO, if_neg (fun z : x = q ∧ _ => hne z.1), if_neg hne]
    exact ⟨trivial, trivial⟩
  · have hne : x ≠ q := fun e => by rw [e, hq] at hx; cases hx
    simp only [fR_pI, fR_pR, fR_nO, if_neg (fun z : x = q ∧ _ => hne z.1), if_neg hne]
    exact ⟨trivial, trivial⟩
  · have hne : gW G 6 ≠ q := fun e => by
      have := (sA.at (i := 6) (by decide)).1
      rw [e, hq] at this
      cases this
    simp only [fR_pI, fR_pR, fR_nO, if_neg (fun z : gW G 6 = q ∧ _ => hne z.1), if_neg hne]
    exact Or.inl trivial
  · simp only [hK_pI, hK_pR]; rw [hK_nO, if_pos rfl]
  · rw [fI_pI, if_neg (fun e => absurd e.2 (by decide)), fI_pI, if_pos ⟨rfl, rfl⟩]
  · rw [fI_pI, if_pos ⟨rfl, rfl⟩]
  · simp only [un_pI, un_pR]
    rw [un_nO]
    rfl
/-- the node of a name in sight -/
theorem XS.nod (k : XS G c P s) {i t : Nat} (hi : s.E[i]? = some (t, .var v)) : ∃ ba, fR s.h (gW G 6) 111 = some ba ∧ hK s.h ba = 1007 ∧ i < hL s.h ba ∧ hL s.h ba < 100000 ∧ aR s.h ba i = some (c.Z.1 t) ∧ hK s.h (c.Z.1 t) = 13 ∧ fI s.h (c.Z.1 t) 127 = nI v ∧ v < s.M := by
  obtain ⟨ba, g1, g2, g5, g8, g9⟩ := k.1.2.2.1
  obtain ⟨y1, e1, e2, z, e3, e4, e5⟩ := g9 i _ hi
  have hil := (List.getElem?_eq_some_iff.mp hi).1
  have ez : z = v := by
    rcases e5 with ⟨-, q2, -⟩ | ⟨-, q2, -⟩
    · cases q2
      rfl
    · exact se_var q2
  rw [ez] at e3 e4
  exact ⟨ba, g1, g2.1, by rw [g2.2.2]; omega, by rw [g2.2.2]; omega, y1, e1, e3, e4⟩
/-- the names of a declaration: one of them is too great, or on with them -/
theorem c_dec3 (k : XS G c P s1) (hE : s1.E = E0 ++ pd.zip (vs.map fun x => Int.Internal.Linear.Expr.var x)) (hl : vs.length = pd.length) (ht : tok < c.ts.length) (hu : un s1.h + 24 ≤ UB) (hD5 : 70 ≤ D) {Q : Outcome → AH → Prop}
    (hft : ∀ (i v : Nat), vs[i]? = some v → (∀ ρ, Sl s1.M s1.t ρ → 60 < gsz (ρ v)) → ∀ q h', FIe G c.Z (fun _ => False) s1.rc c.Ct.length s1.h h' → FtA h' c.ts q 6 tok → un h' = un s1.h + 24 → Q (.threw q) h')
    (hgo : ∀ ρ, Sl s1.M s1.t ρ → (∀ v, v ∈ vs → gsz (ρ v) ≤ 60) → (l3 = 0 → Q (.returned none) s1.h) ∧ (¬ l3 = 0 → C G mX3_mark D [.ref (gW G 2)] s1.h (KI Q fun x5 h3 => X G mX11_declared (D + 1) none [] 78 [(0, .ref (gW G 6)), (1, .int (nI E0.length)), (4, .int x5), (5, .int 0)] [] h3 Q))) :
    C G mX11_declared (D + 1) [.ref (gW G 6), .int (nI E0.length), .int (nI tok), .int l3] s1.h Q := by
  refine bX11_declared G D s1.h _ _ _ _ ?_
  obtain ⟨fs, rt, dp, ty, nm, sf, mk, hp, fl, b3⟩ := k.tt
  obtain ⟨sz, hz, hz1, ρ0, hρ0, -, hz2⟩ := sf.szx ty.kc
  have tl := k.1.1.2.2.2.1.1
  have hEl : s1.E.length = E0.length + vs.length := by rw [hE, List.length_append, List.length_zip, List.length_map, hl, Nat.min_self]
  obtain ⟨en1, en2⟩ := k.en
  have key : ∀ f i, vs.length - i < f → i ≤ vs.length → (∀ (j v : Nat), j < i → vs[j]? = some v → sz v ≤ 60) → X G mX11_declared (D + 1) none [] 3 [(0, .ref (gW G 6)), (1, .int (nI E0.length)), (2, .int (nI tok)), (3, .int l3), (4, .int (nI (E0.length + i)))] [] s1.h Q := by
    intro f
    induction f with
    | zero => intro i hf; omega
    | succ f IH =>
      intro i hf hi hd
      refine bX11_declared_3 G D s1.h _ _ _ _ _ (k.sA.at (by decide)) (k.sA.at (by decide)) (k.sA.at (by decide)) ?_
      rw [en1, nI_leI (by omega) (by omega)]
      refine ⟨fun hle => ?_, fun hle => ?_⟩
      · refine hgo ρ0 hρ0 fun v hv => ?_
        obtain ⟨j, hj⟩ := List.getElem?_of_mem hv
        have hjl := (List.getElem?_eq_some_iff.mp hj).1
        have := hd j v (by omega) hj
        have cl : v < s1.M := by
          obtain ⟨t, ht'⟩ : ∃ t, pd[j]? = some t := ⟨_, List.getElem?_eq_getElem (by omega)⟩
          obtain ⟨ba, -, -, -, -, -, -, -, h8⟩ := k.nod (i := E0.length + j) (t := t) (v := v) (by
            rw [hE, List.getElem?_append_right (by omega), Nat.add_sub_cancel_left, List.getElem?_zip_eq_some]
            exact ⟨ht', by rw [List.getElem?_map, hj]; rfl⟩)
          exact h8
        rw [← hz2 v cl]
        exact this
      · obtain ⟨v, hv⟩ : ∃ v, vs[i]? = some v := ⟨_, List.getElem?_eq_getElem (by omega)⟩
        obtain ⟨t, ht'⟩ : ∃ t, pd[i]? = some t := ⟨_, List.getElem?_eq_getElem (by omega)⟩
        obtain ⟨ba, g1, g2, g3, g3', g4, g5, g6, g7⟩ := k.nod (i := E0.length + i) (t := t) (v := v) (by
          rw [hE, List.getElem?_append_right (by omega), Nat.add_sub_cancel_left, List.getElem?_zip_eq_some]
          exact ⟨ht', by rw [List.getElem?_map, hv]; rfl⟩)
        refine ⟨ba, g1, g2, vp_i g3 (by omega), c.Z.1 t, by rw [nI_cn (by omega)]; exact g4, g5, ?_⟩
        rw [g6]
        refine C.ri (c_size ty nm sf.1 hz 61 60 v D (by decide) (by decide) g7 (by omega)) ?_
        have hm : min (sz v) (60 + 1) ≤ 61 := Nat.min_le_right ..
        rw [show (60 : Int32) = nI 60 from rfl, nI_leI (by omega) (by omega)]
        refine ⟨fun hle2 => ?_, fun hle2 => ?_⟩
        · rintro _ rfl
          rw [nI_1]
          refine IH (i + 1) (by omega) (by omega) fun j w hj hw => ?_
          by_cases cj : j = i
          · rw [cj, hv] at hw
            cases hw
            omega
          · exact hd j w (by omega) hw
        · obtain ⟨m1, m2⟩ := un_rm (h := s1.h) (n := 8) (by omega)
          refine ⟨m1, m2, fun q hq h20 e20 => ⟨vp_in_nI (by omega) (by decide), ?_⟩⟩
          refine C.mono ((c_flt (d := 0) (num := 6) (B := fun _ => False) k.1.1 ht hq e20).up (by omega)) ?_
          rintro _ h24 ⟨rfl, f1, f2, f3⟩
          exact KV.i (hft i v hv (fun ρ hρ => by have := hz1 ρ hρ v g7; omega) q h24 f1 f2 f3)
  have := key (vs.length + 1) 0 (by omega) (by omega) (fun j v hj => by omega)
  rw [Nat.add_zero] at this
  exact this
/-- nodes forgotten: names by what they are -/
theorem Rpn.dn (k : XS G c P0 s) (r : Rpn G c P s B s1 us vs pd b Z) (hp : ∀ t, t ∈ pd → B t) : Dn G c P s B s1 b (fun γ γ' => ∃ u ν, Z γ u ν ∧ γ' = updL γ ν) := by
  obtain ⟨r1, r2, r3, ⟨r4, r4'⟩, r5, r6, r7⟩ := id r
  refine ⟨r1, ⟨r2.1, r2.2.2.2.1⟩, r3, ⟨_, r4, fun x hx => hp _ (List.of_mem_zip (show (x.1, x.2) ∈ _ from hx)).1⟩, r5, r6, fun γ γ' ⟨u, ν, h, _⟩ => (r7 γ u ν h).1, fun ρ hρ => ⟨_, _, r.sol hρ, r.ge ρ⟩, ?_⟩
  rintro ρ hρ γ' ⟨u, ν, h1, rfl⟩
  obtain ⟨-, f2, f3⟩ := r7 _ _ _ h1
  obtain ⟨ρ', h3, h4, h5⟩ := r2.2.2.2.2.2 ρ hρ _ ⟨u, ν, rfl, h1⟩
  refine ⟨ρ', h3, h4, ?_⟩
  rw [r.ge ρ', k.ge h4]
  rw [List.map_append] at h5
  obtain ⟨e1, e2⟩ := app_inj h5 (by rw [List.length_map, f2])
  rw [e2, ← nu_zip ν _ _ f3 rfl]
/-- too great, by the law -/
theorem Rpn.big (k : XS G c P0 s) (r : Rpn G c P s B s1 us vs pd b Z) : tBig (fun ν => ∃ γ u, Z γ u ν) ↔ ∃ (i v : Nat), vs[i]? = some v ∧ ∀ ρ, Sl s1.M s1.t ρ → 60 < gsz (ρ v) := by
  obtain ⟨r1, r2, r3, ⟨r4, r4'⟩, r5, r6, r7⟩ := id r
  constructor
  · rintro ⟨i, hi⟩
    obtain ⟨ρ0, hρ0⟩ := r3.tt.sol
    obtain ⟨y0, hy0, -⟩ := hi _ ⟨_, _, r.sol hρ0⟩
    rw [List.getElem?_zip_eq_some] at hy0
    have hil : i < vs.length := by
      have := (List.getElem?_eq_some_iff.mp hy0.2).1
      rw [List.length_map] at this
      exact this
    refine ⟨i, _, List.getElem?_eq_getElem hil, fun ρ hρ => ?_⟩
    obtain ⟨y, hy, h2⟩ := hi _ ⟨_, _, r.sol hρ⟩
    rw [List.getElem?_zip_eq_some, List.getElem?_map, List.getElem?_eq_getElem hil] at hy
    have := Option.some.inj hy.2
    rw [this]
    exact h2
  · rintro ⟨i, v, hv, hb⟩
    refine ⟨i, fun ν ⟨γ, u, h1⟩ => ?_⟩
    obtain ⟨⟨ρ, h2, rfl⟩, f2, f3⟩ := r7 _ _ _ h1
    obtain ⟨ρ', h3, h4, h5⟩ := r2.2.2.2.2.2 ρ h2 _ ⟨u, ν, rfl, h1⟩
    rw [List.map_append] at h5
    obtain ⟨-, e2⟩ := app_inj h5 (by rw [List.length_map, f2])
    have hil : i < ν.length := by
      have := (List.getElem?_eq_some_iff.mp hv).1
      have h6 := congrArg List.length e2
      rw [List.length_map, List.length_map] at h6
      omega
    refine ⟨_, List.getElem?_eq_getElem hil, ?_⟩
    have h7 : (vs.map ρ')[i]? = (ν.map (·.2))[i]? := by rw [e2]
    rw [List.getElem?_map, List.getElem?_map, hv, List.getElem?_eq_getElem hil] at h7
    have h8 : ρ' v = (ν[i]).2 := Option.some.inj h7
    rw [← h8]
    exact hb ρ' h3
end
