/-! THE COMPONENT'S TYPER: a function's name comes in sight -/
section
variable {G : Gh} {c : Cx} {P P0 : Nat → Prop} {s s1 s2 : Sx} {B : Nat → Prop} {us vs pd : List Nat} {b b2 t D : Nat} {Z : En → List Tr → Nu → Prop} {Q : Outcome → AH → Prop} {K : AH → Prop}
theorem XS.nam (k : XS G c P s) (hDt : c.D.1 t) (h28 : fI s.h (c.Z.1 t) 128 = 0) (hnew : ∀ x, x ∈ s.E → x.1 ≠ t) (hb : BdX c s 1) (hD2 : 2 ≤ D)
    (hQ : ∀ s', Rpn G c P s (fun t' => t' = t) s' [] [s.M] [t] 1 (fun γ u ν => eA s.M s.t s.E γ ∧ u = [] ∧ ∃ v, ν = [(t, v)]) → Sx.ws s' = s.ws → Sx.rc s' = s.rc → (∀ a, P a → Uf s.h (Sx.h s') a) → K (Sx.h s')) :
    C G mX3_variable D [.ref (gW G 2)] s.h (KI Q fun x17 h15 => hK h15 (c.Z.1 t) = 13 ∧ ∀ h19, h19 = pI h15 (c.Z.1 t) 127 x17 → C G mX11_push D [.ref (gW G 6), .ref (c.Z.1 t)] h19 (KV Q K)) := by
  obtain ⟨kI, ka2, ⟨pa, ka3⟩, ka4, ka5, ka6, ka7⟩ := id k
  have sA := k.sA
  have hD := k.hD
  obtain ⟨u1, u2, u3, u4, u5⟩ := hb
  obtain ⟨b1, b2⟩ := k.bd.1 t hDt
  have hΓ : s.E.length ≤ 1300 := by
    have := nodup_lt 1300 (s.E.map (·.1)) kI.2.2.2.2.2.2.2 fun x hx => by
      obtain ⟨y, hy, rfl⟩ := List.mem_map.mp hx
      exact k.bd.2.2 _ (kI.2.2.2.2.2.1 y hy)
    rw [List.length_map] at this
    exact this
  refine C.use ((o_var (d := 0) hD k.tt (by omega)).up (by omega)) (by decide) ?_
  rintro _ h4 ⟨rfl, τ1, g, hN, hP⟩ l4 -
  have lm4 : Lm (gW G) MI s.h h4 none := l4.weak (by decide +kernel)
  have ev4 := TGr.ev k.tt g
  have k4 := kI.mt g.1 lm4 g.2.1 ev4
  have F4 : FIn G c.Z (fun t' => t' = t) s.rc c.Ct.length s.h h4 := g.1.fin sA lm4
  obtain ⟨c1, c2⟩ := k4.2.2.2.2.1.1 t hDt
  refine KI.i ⟨c1, fun h8 e8 => ?_⟩
  have kk8 : ∀ x, hK h8 x = hK h4 x := fun x => by rw [e8, hK_pI]
  have w8 : WQ (c.Z.1 t) h4 h8 := by rw [e8]; exact WQ.rf.pI
  have le8 : Le h4 h8 none := by rw [e8]; exact pI_le (Or.inl (by decide))
  have un8 : Unt h4 h8 := ⟨fun x _ _ _ hx => w8.uf fun e => hx (by rw [e]; exact c1), le8⟩
  obtain ⟨ba, g1, ⟨g2, g3, g4⟩, ⟨g5, g6, g7⟩, g8, g9⟩ := id kI.2.2.1
  have s6 := sA.at (i := 6) (by decide)
  have k6 : hK s.h (gW G 6) = 10 := s6.1
  have nty : ∀ x, (hK s.h x = 10 ∨ hK s.h x = 1007 ∨ hK s.h x = 13) → ∀ i, i ∈ TyC → x ≠ gW G i := fun x hx i hi e => by
    obtain ⟨-, y1, y2, y3⟩ := tyc_k2 sA i hi
    rw [e] at hx
    exact hx.elim y1 fun z => z.elim y2 y3
  have u6 := g.1.1 (gW G 6) (nty _ (Or.inl k6))
  have ub := g.1.1 ba (nty _ (Or.inr (Or.inl g2)))
  have n6 : gW G 6 ≠ c.Z.1 t := fun e => by rw [e, b1] at k6; cases k6
  have nba : ba ≠ c.Z.1 t := fun e => by rw [e, b1] at g2; cases g2
  have hq8 : ∀ x, aR h8 x = aR h4 x := fun x => by rw [e8, aR_pI]
  have e1 : un h8 = un s.h := by rw [w8.un, g.1.2.1]
  have r4 : fR h4 (gW G 6) 111 = some ba := ((u6.2.2.2.2.2 111).2.2).trans g1
  refine C.use (c_push (cap := s.cap) (n := s.E.length) hD (k4.1.1.1.le le8) (by rw [e8, fR_pI]; exact r4) ⟨by rw [kk8]; exact ub.1.trans g2, g3, by rw [e8, hL_pI]; exact ub.2.1.trans g4⟩ ⟨g5, g6, g7⟩ (by rw [e8, fI_pI, if_neg (fun z => n6 z.1)]; exact ((u6.2.2.2.2.2 112).1).trans g8) (fun i hi => ?_) (by rw [kk8]; exact c1) (fun hc => ?_)) (by decide) ?_
  · obtain ⟨x, hx⟩ : ∃ x, s.E[i]? = some x := ⟨_, List.getElem?_eq_getElem hi⟩
    obtain ⟨y1, y2⟩ := g9 i x hx
    exact ⟨_, by rw [hq8, ub.2.2.2.2.1]; exact y1, by rw [kk8, (g.1.1 _ (nty _ (Or.inr (Or.inr y2.1)))).1]; exact y2.1⟩
  · unfold pot at u4
    rw [e1]
    omega
  rintro _ h11 ⟨rfl, ba', cap', p1, ⟨p2, p3, p4⟩, p5, p6, p7, p8, p9, p10, p11⟩ l11 -
  have kh8 : ∀ x, hK s.h x ≠ 0 → hK h8 x = hK s.h x := fun x hx => by rw [kk8]; exact (F4.1.1.2 x hx).1
  have q8 : ∀ x, hK s.h x ≠ 0 → hK s.h x ≠ 10 → hK s.h x ≠ 1007 → Uf h8 h11 x := fun x h1 h2 h3 => p8 x (by rw [kh8 x h1]; exact h1) (fun e => h2 (by rw [e]; exact k6)) (fun e => h3 (by rw [e]; exact g2))
  have u11 : Unt h8 h11 := ⟨fun x y1 y2 y3 _ => p8 x y1 (fun e => y2 (by rw [e, kh8 _ (by rw [k6]; decide)]; exact k6)) (fun e => y3 (by rw [e, kh8 _ (by rw [g2]; decide)]; exact g2)), p10⟩
  obtain ⟨t11, ev11⟩ := g.2.1.unt (un8.tr u11)
  have ut := q8 (c.Z.1 t) (by rw [b1]; decide) (by rw [b1]; decide) (by rw [b1]; decide)
  have utt := g.1.1 (c.Z.1 t) (nty _ (Or.inr (Or.inr b1)))
  have e127 : fI h11 (c.Z.1 t) 127 = nI s.M := by rw [(ut.2.2.2.2.2 127).1, e8, fI_pI, if_pos ⟨rfl, rfl⟩]
  have e128 : fI h11 (c.Z.1 t) 128 = 0 := by rw [(ut.2.2.2.2.2 128).1, e8, fI_pI, if_neg (fun z => absurd z.2 (by decide)), (utt.2.2.2.2.2 128).1]; exact h28
  have e129 : fI h11 (c.Z.1 t) 129 = fI s.h (c.Z.1 t) 129 := by rw [(ut.2.2.2.2.2 129).1, e8, fI_pI, if_neg (fun z => absurd z.2 (by decide)), (utt.2.2.2.2.2 129).1]
  have k13 : hK h11 (c.Z.1 t) = 13 := by rw [ut.1, kk8]; exact c1
  have lm8 : Lm (gW G) MI h4 h8 none := by rw [e8]; exact pI_lm (Or.inl (by decide)) (Or.inl (by decide +kernel))
  have lm : Lm (gW G) MI s.h h11 none := (lm4.tr lm8).tr (l11.weak (by decide +kernel))
  have F0 : FIn G c.Z (fun t' => t' = t) s.rc c.Ct.length s.h h11 := by
    refine ⟨lm, fun x hx => ?_, fun x hx hn hne => ?_, fun x hx hp => ?_, fun x hx hp => ?_, ?_⟩
    · have y2 := hx.2.1
      simp only [List.mem_cons, List.not_mem_nil, or_false, not_or] at y2
      exact ((F4.2.1 x hx).tr (w8.uf fun e => y2.2.2.1 (by rw [e]; exact b1))).tr (q8 x hx.1 y2.2.1 y2.2.2.2.2)
    · have hxb : x ≠ ba := fun e => hne (by rw [e]; exact g1)
      have hx6 : x ≠ gW G 6 := fun e => by rw [e, k6] at hx; cases hx
      rw [(p8 x (by rw [kh8 x (by rw [hx]; decide), hx]; decide) hx6 hxb).2.2.2.2.1, hq8, (g.1.1 x (nty _ (Or.inr (Or.inl hx)))).2.2.2.2.1]
    · have hxt := hp t rfl
      have a1 := (g.1.1 x (nty _ (Or.inr (Or.inr hx)))).2.2.2.2.2
      have a2 := (w8.uf hxt).2.2.2.2.2
      have a3 := (q8 x (by rw [hx]; decide) (by rw [hx]; decide) (by rw [hx]; decide)).2.2.2.2.2
      exact ⟨((a3 127).1.trans (a2 127).1).trans (a1 127).1, ((a3 128).1.trans (a2 128).1).trans (a1 128).1⟩
    · obtain ⟨a1, a2⟩ := F4.2.2.2.2.1 x hx hp
      have hxt : x ≠ c.Z.1 t := fun e => by rw [e, b1] at hx; cases hx
      have a3 := (w8.uf hxt).2.2.2.2.2
      have a4 := (q8 x (by rw [hx]; decide) (by rw [hx]; decide) (by rw [hx]; decide)).2.2.2.2.2
      exact ⟨((a4 372).2.2.trans (a3 372).2.2).trans a1, ((a4 373).2.2.trans (a3 373).2.2).trans a2⟩
    · rcases p9 with e | e
      · exact Or.inl (by rw [p1, e, g1])
      · refine Or.inr ⟨ba', p1, ?_⟩
        rw [kk8] at e
        exact F4.1.fresh e
  have ev := ev4.tr ev11
  have I11 : ISt G c.W c.ts c.O c.Z c.D c.N c.Ct c.Dt c.kn s.rc h11 (s.M + 1) (s.Pn + 0) τ1 s.m (s.E ++ [(t, .var s.M)]) cap' := by
    refine ⟨kI.1.mv F0, t11, ⟨ba', p1, ⟨p2, p3, p4⟩, ⟨by omega, by omega, by rw [List.length_append, List.length_singleton]; omega⟩, by rw [List.length_append, List.length_singleton]; exact p5, fun i x hx => ?_⟩, fun a ha => (kI.2.2.2.1 a ha).mv sA lm, kI.2.2.2.2.1.mv lm, fun x hx => ?_, kI.2.2.2.2.2.2.1.mv sA lm, by
      rw [List.map_append, List.nodup_append]
      refine ⟨kI.2.2.2.2.2.2.2, List.nodup_cons.mpr ⟨List.not_mem_nil, List.nodup_nil⟩, fun a ha b hb e => ?_⟩
      obtain ⟨x, hx, rfl⟩ := List.mem_map.mp ha
      rw [(List.mem_cons.mp hb).resolve_right fun w => by cases w] at e
      exact hnew x hx e⟩
    · by_cases cc : i < s.E.length
      · rw [List.getElem?_append_left cc] at hx
        obtain ⟨y1, y2⟩ := g9 i x hx
        refine ⟨by rw [p6 i cc, hq8, ub.2.2.2.2.1]; exact y1, y2.mv F0 (fun t' e e' => ?_) ev⟩
        rw [e] at e'
        exact hnew x (List.mem_of_getElem? hx) (kI.2.2.2.2.1.2.1 _ _ (kI.2.2.2.2.2.1 x (List.mem_of_getElem? hx)) hDt e')
      · have hi := (List.getElem?_eq_some_iff.mp hx).1
        rw [List.length_append, List.length_singleton] at hi
        have ei : i = s.E.length := by omega
        rw [ei, List.getElem?_append_right (Nat.le_refl _), Nat.sub_self] at hx
        cases hx
        rw [ei]
        exact ⟨p7, k13, by rw [e129]; exact b2, s.M, e127, by omega, Or.inl ⟨e128, rfl, ev11.2.2.1 s.M (g.2.2.1.new (Nat.le_refl _) (by omega))⟩⟩
    · rcases List.mem_append.mp hx with w | w
      · exact kI.2.2.2.2.2.1 x w
      · rw [(List.mem_cons.mp w).resolve_right fun w => by cases w]
        exact hDt
  have m11 : MsW G h11 s.ws := by
    have m4 : MsW G h4 s.ws := ka4.ml l4 sA hD (by decide +kernel) (by decide +kernel) (by decide +kernel)
    have m8 : MsW G h8 s.ws := by
      obtain ⟨y1, y2, y3, y4⟩ := m4
      exact ⟨by rw [e8, fI_pI, if_neg fun z => absurd z.2 (by decide)]; exact y1, y2, y3, fun i x hx => by rw [e8, aI_pI]; exact y4 i x hx⟩
    exact m8.ml l11 (k4.1.1.1.le le8) hD (by decide +kernel) (by decide +kernel) (by decide +kernel)
  have x11 : XS G c P (h11, s.M + 1, s.Pn + 0, τ1, s.m, s.E ++ [(t, .var s.M)], cap', s.rc, s.ws) := ⟨I11, ka2.ml lm, ⟨pa, ka3.ml lm⟩, m11, ka5, ka6, ka7.mv (s1 := (h11, s.M + 1, s.Pn + 0, τ1, s.m, s.E ++ [(t, .var s.M)], cap', s.rc, s.ws)) kI.1 F0 rfl⟩
  have hpot : pot h11 cap' ≤ pot s.h s.cap + 4 := by
    unfold pot
    rcases p11 with ⟨y1, y2, y3⟩ | ⟨y1, y2, y3⟩
    · rw [y1, y3, e1]; omega
    · rw [y1, y3, e1]; omega
  have r1 := (RsV.var (ps := []) k.tt g hN (by decide)).mv t11 ev11
  refine KV.i (hQ (h11, s.M + 1, s.Pn + 0, τ1, s.m, s.E ++ [(t, .var s.M)], cap', s.rc, s.ws) ⟨F0, r1.imp fun ρ hρ u => ⟨?_, ?_⟩, x11, ⟨rfl, rfl⟩, Nat.le_refl _, ⟨by show pot h11 cap' ≤ _; omega, by show s.ws.length ≤ _; omega⟩, ?_⟩ rfl rfl fun a ha => F0.2.1 a (ka7.1 a ha).1)
  · rintro ⟨v, rfl⟩
    exact ⟨[], [(t, v)], rfl, ⟨ρ, hρ, rfl⟩, rfl, v, rfl⟩
  · rintro ⟨_, _, rfl, -, rfl, v, rfl⟩
    exact ⟨v, rfl⟩
  · rintro γ u ν ⟨h1, rfl, v, rfl⟩
    exact ⟨h1, rfl, rfl⟩
end
