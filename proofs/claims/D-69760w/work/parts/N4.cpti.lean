/-! THE COMPONENT'S TYPER: the state in which trees are looked at; patterns without parts -/
/-- binders have names' objects of their own -/
def BdI (h : AH) (Z : Zt) (D : Dm) : Prop := (∀ t, D.1 t → hK h (Z.1 t) = 13 ∧ 0 ≤ (fI h (Z.1 t) 129).toInt) ∧ (∀ t t', D.1 t → D.1 t' → Z.1 t = Z.1 t' → t = t') ∧ ∀ t, D.1 t → t < 1300
/-- the pile of the checks is an array that is there -/
def PiA (G : Gh) (h : AH) : Prop := ∀ x, fR h (gW G 5) 103 = some x → hK h x ≠ 0
/-- the state of the typer -/
def ISt (G : Gh) (W : Nat → Prop) (ts : List (Nat × Nat × Nat)) (O : List (Nat × Nat) × List (Nat × Nat)) (Z : Zt) (D : Dm) (N : Nat) (Ct : Ctb) (Dt : Dtb) (kn : Nat → TS) (rc : Nat) (h : AH) (M Pn : Nat) (τ : Tb) (m : Nat) (Γ : List (Nat × Tr)) (cap : Nat) : Prop := IWd G ts O Z N Ct Dt kn rc h ∧ TT G h M Pn τ m ∧ EnC G h M τ Z Γ cap ∧ (∀ a, W a → FIx G h a) ∧ BdI h Z D ∧ (∀ x, x ∈ Γ → D.1 x.1) ∧ PiA G h ∧ (Γ.map (·.1)).Nodup
/-- room, with the growth of the row of names -/
def pot (h : AH) (cap : Nat) : Nat := un h + 3 * (5200 - cap)
def Bud (M Pn m : Nat) (h : AH) (cap n b : Nat) : Prop := M + 8 * b ≤ 140000 ∧ Pn + 8 * b ≤ 140000 ∧ m + 10 * b ≤ 2000000000 ∧ pot h cap + 4 * b + 200 ≤ UB ∧ n ≤ n
/-- a pattern's type and its names' -/
def PtQ (G : Gh) (W : Nat → Prop) (ts : List (Nat × Nat × Nat)) (O : List (Nat × Nat) × List (Nat × Nat)) (Z : Zt) (D : Dm) (N : Nat) (Ct : Ctb) (Dt : Dtb) (kn : Nat → TS) (rc : Nat) (h : AH) (M Pn : Nat) (τ : Tb) (m : Nat) (Γ : List (Nat × Tr)) (cap : Nat) (B : Nat → Prop) (b : Nat) (toks : List Nat) (r : Except Fa (Tr → Nu → Prop)) : Outcome → AH → Prop := fun o h' => FIn G Z B rc Ct.length h h' ∧ match r with
  | .error f => ∃ e, o = .threw e ∧ FtA h' ts e f.1 f.2 ∧ un h' ≤ pot h cap + 4 * b + 24
  | .ok P => ∃ t us M' Pn' τ' m' cap', o = .returned (some (.int (nI t))) ∧ us.length = toks.length ∧ RsV G h M Pn τ m h' M' Pn' τ' m' (t :: us) b (fun _ u => ∃ v ν, u = v :: ν.map (·.2) ∧ ν.map (·.1) = toks ∧ P v ν) ∧ ISt G W ts O Z D N Ct Dt kn rc h' M' Pn' τ' m' (Γ ++ toks.zip (us.map fun x => Int.Internal.Linear.Expr.var x)) cap' ∧ pot h' cap' ≤ pot h cap + 4 * b
section
variable {G : Gh} {W : Nat → Prop} {ts : List (Nat × Nat × Nat)} {O : List (Nat × Nat) × List (Nat × Nat)} {Z : Zt} {D : Dm} {d N rc M M' Pn Pn' m m' a b t cap q : Nat} {Ct : Ctb} {Dt : Dtb} {kn : Nat → TS} {h h1 h2 h' : AH} {τ τ' : Tb} {s : Tr} {Γ : List (Nat × Tr)} {B : Nat → Prop}
theorem BdI.mv (k : BdI h Z D) (l : Lm (gW G) MI h h' none) : BdI h' Z D := by
  refine ⟨fun t ht => ?_, k.2⟩
  obtain ⟨k1, k2⟩ := k.1 t ht
  exact ⟨((l.1.2 _ (by rw [k1]; decide)).1).trans k1, by rw [l.fi k1 (by decide) (by decide +kernel)]; exact k2⟩
theorem PiA.mv (k : PiA G h) (sA : SoA G h) (l : Lm (gW G) MI h h' none) : PiA G h' := fun x hx => by
  rw [l.fr (sA.at (i := 5) (by decide)).1 (by decide) (by decide +kernel)] at hx
  rw [(l.1.2 x (k x hx)).1]
  exact k x hx
/-- the table alone was changed -/
theorem ISt.mt (k : ISt G W ts O Z D N Ct Dt kn rc h M Pn τ m Γ cap) (T : FTy G h h') (l : Lm (gW G) MI h h' none) (k1 : TT G h' M' Pn' τ' m') (ev : Ev G h M τ h' M' τ') : ISt G W ts O Z D N Ct Dt kn rc h' M' Pn' τ' m' Γ cap := by
  obtain ⟨w, -, e, x, bd, g⟩ := k
  have sA := w.1.1
  exact ⟨w.mv (T.fin (Z := Z) (B := fun _ => False) (rc := rc) (nC := Ct.length) sA l), k1, e.mt T (T.fin (Z := Z) (B := fun _ => False) (rc := rc) (nC := Ct.length) sA l) sA ev, fun a ha => (x a ha).mv sA l, bd.mv l, g.1, g.2.1.mv sA l, g.2.2⟩
theorem Sl0 {ρ : Nat → Tr} (k : TT G h M Pn τ m) (hρ : Sl M τ ρ) : ρ 0 = tInt ∧ ρ 1 = tBool ∧ ρ 2 = tUnit := by
  obtain ⟨fs, rt, dp, k1, nm, sf, mk, hp, fl, b3⟩ := k
  exact b3.val hρ
/-- a type that is there already -/
theorem pt_there {i : Nat} {u : Tr} (k : ISt G W ts O Z D N Ct Dt kn rc h M Pn τ m Γ cap) (hi : i < 3) (hu : ∀ ρ, Sl M τ ρ → ρ i = u) (b : Nat) : PtQ G W ts O Z D N Ct Dt kn rc h M Pn τ m Γ cap B b [] (.ok fun v ν => v = u ∧ ν = []) (.returned (some (.int (nI i)))) h := by
  refine ⟨FIn.rf, i, [], M, Pn, τ, m, cap, rfl, rfl, ?_, by rw [List.zip_nil_left, List.append_nil]; exact k, by omega⟩
  have r := (RsV.rf k.2.1).prj (ts' := [i]) (fun _ => [u]) (fun t ht => by rw [(List.mem_cons.mp ht).resolve_right fun w => by cases w]; exact k.2.1.b3 i hi) (fun ρ hρ => by show [ρ i] = _; rw [hu ρ hρ])
  refine (r.wk (Nat.zero_le b)).imp fun ρ hρ v => ⟨?_, ?_⟩
  · rintro ⟨w, -, rfl⟩
    exact ⟨u, [], rfl, rfl, rfl, rfl⟩
  · rintro ⟨w, ν, rfl, h2, rfl, rfl⟩
    exact ⟨[], rfl, rfl⟩
/-- a wildcard -/
theorem pt_any {n : Nat} (k : ISt G W ts O Z D N Ct Dt kn rc h M Pn τ m Γ cap) (hb : Bud M Pn m h cap Γ.length 1) : C G mX21_infer (d + 2) [.ref q, .ref (gW G 6)] h (PtQ G W ts O Z D N Ct Dt kn rc h M Pn τ m Γ cap B 1 [] (tPa N Ct Dt (n + 1) (n0 31 t))) := by
  have sA := k.1.1.1
  have hD := k.1.1.2
  obtain ⟨u1, u2, u3, u4, u5⟩ := hb
  refine bX21_infer G (d + 1) h _ _ (sA.at (by decide)) (sA.at (by decide)) (C.use (o_var hD k.2.1 (by omega)) (by decide) ?_)
  rintro _ h1 ⟨rfl, τ1, g, hN, hP⟩ l -
  have lm : Lm (gW G) MI h h1 none := l.weak (by decide +kernel)
  have ev := TGr.ev k.2.1 g
  refine KI.i ⟨g.1.fin sA lm, M, [], M + 1, Pn + 0, τ1, m, cap, rfl, rfl, ?_, by rw [List.zip_nil_left, List.append_nil]; exact k.mt g.1 lm g.2.1 ev, by unfold pot; rw [g.1.2.1]; omega⟩
  refine (RsV.var (ps := []) k.2.1 g hN (by decide)).imp fun ρ hρ v => ⟨?_, ?_⟩
  · rintro ⟨w, rfl⟩
    exact ⟨w, [], rfl, rfl, rfl⟩
  · rintro ⟨w, ν, rfl, h2, h3⟩
    change ν = [] at h3
    rw [h3]
    exact ⟨w, rfl⟩
/-- a name -/
theorem pt_name {n : Nat} {v : Tr} (k : ISt G W ts O Z D N Ct Dt kn rc h M Pn τ m Γ cap) (hb : Bud M Pn m h cap Γ.length 1) (hDt : D.1 t) (hBt : B t) (h28 : fI h (Z.1 t) 128 = 0) (hk : hK h q = 21) (hr : fR h q 305 = some (Z.1 t)) (hnew : ∀ x, x ∈ Γ → x.1 ≠ t) : C G mX22_infer (d + 2) [.ref q, .ref (gW G 6)] h (PtQ G W ts O Z D N Ct Dt kn rc h M Pn τ m Γ cap B 1 [t] (tPa N Ct Dt (n + 1) (n1 32 t v))) := by
  have sA := k.1.1.1
  have hD := k.1.1.2
  obtain ⟨u1, u2, u3, u4, u5⟩ := hb
  obtain ⟨b1, b2⟩ := k.2.2.2.2.1.1 t hDt
  have hqne : q ≠ Z.1 t := fun e => by rw [e, b1] at hk; cases hk
  have hΓ : Γ.length ≤ 1300 := by
    have := nodup_lt 1300 (Γ.map (·.1)) k.2.2.2.2.2.2.2 fun x hx => by
      obtain ⟨y, hy, rfl⟩ := List.mem_map.mp hx
      exact k.2.2.2.2.1.2.2 _ (k.2.2.2.2.2.1 y hy)
    rw [List.length_map] at this
    exact this
  refine C.use (Q := fun o h' => FIe G Z B rc Ct.length h h' ∧ (Lm (gW G) MI h h' none → ∃ M' Pn' τ' m' cap', o = .returned (some (.int (nI M))) ∧ RsV G h M Pn τ m h' M' Pn' τ' m' [M, M] 1 (fun _ u => ∃ v ν, u = v :: ν.map (·.2) ∧ ν.map (·.1) = [t] ∧ ν = [(t, v)]) ∧ ISt G W ts O Z D N Ct Dt kn rc h' M' Pn' τ' m' (Γ ++ [(t, .var M)]) cap' ∧ pot h' cap' ≤ pot h cap + 4)) ?_ (by decide) (fun o h' q l _ => ?_)
  · refine bX22_infer G (d + 1) h _ _ (sA.at (by decide)) (sA.at (by decide)) ⟨hk, Z.1 t, hr, C.use (o_var hD k.2.1 (by omega)) (by decide) ?_⟩
    rintro _ h4 ⟨rfl, τ1, g, hN, hP⟩ l4 -
    have lm4 : Lm (gW G) MI h h4 none := l4.weak (by decide +kernel)
    have ev4 := TGr.ev k.2.1 g
    have k4 := k.mt g.1 lm4 g.2.1 ev4
    have F4 : FIn G Z B rc Ct.length h h4 := g.1.fin sA lm4
    obtain ⟨c1, c2⟩ := k4.2.2.2.2.1.1 t hDt
    refine KI.i ⟨c1, fun h8 e8 => ?_⟩
    have f8 : fR h8 q 305 = some (Z.1 t) := by rw [e8, fR_pI, F4.1.fr hk (by decide) (by decide +kernel)]; exact hr
    refine ⟨Z.1 t, f8, ?_⟩
    have kk8 : ∀ x, hK h8 x = hK h4 x := fun x => by rw [e8, hK_pI]
    have w8 : WQ (Z.1 t) h4 h8 := by rw [e8]; exact WQ.rf.pI
    have le8 : Le h4 h8 none := by rw [e8]; exact pI_le (Or.inl (by decide))
    have un8 : Unt h4 h8 := ⟨fun x _ _ _ hx => w8.uf fun e => hx (by rw [e]; exact c1), le8⟩
    obtain ⟨ba, g1, ⟨g2, g3, g4⟩, ⟨g5, g6, g7⟩, g8, g9⟩ := id k.2.2.1
    have s6 := sA.at (i := 6) (by decide)
    have k6 : hK h (gW G 6) = 10 := s6.1
    have nty : ∀ x, (hK h x = 10 ∨ hK h x = 1007 ∨ hK h x = 13) → ∀ i, i ∈ TyC → x ≠ gW G i := fun x hx i hi e => by
      obtain ⟨-, y1, y2, y3⟩ := tyc_k2 sA i hi
      rw [e] at hx
      exact hx.elim y1 fun z => z.elim y2 y3
    have u6 := g.1.1 (gW G 6) (nty _ (Or.inl k6))
    have ub := g.1.1 ba (nty _ (Or.inr (Or.inl g2)))
    have n6 : gW G 6 ≠ Z.1 t := fun e => by rw [e, b1] at k6; cases k6
    have nba : ba ≠ Z.1 t := fun e => by rw [e, b1] at g2; cases g2
    have hq8 : ∀ x, aR h8 x = aR h4 x := fun x => by rw [e8, aR_pI]
    have e1 : un h8 = un h := by rw [w8.un, g.1.2.1]
    have r4 : fR h4 (gW G 6) 111 = some ba := ((u6.2.2.2.2.2 111).2.2).trans g1
    refine C.mono (c_push (cap := cap) (n := Γ.length) hD (k4.1.1.1.le le8) (by rw [e8, fR_pI]; exact r4) ⟨by rw [kk8]; exact ub.1.trans g2, g3, by rw [e8, hL_pI]; exact ub.2.1.trans g4⟩ ⟨g5, g6, g7⟩ (by rw [e8, fI_pI, if_neg (fun z => n6 z.1)]; exact ((u6.2.2.2.2.2 112).1).trans g8) (fun i hi => ?_) (by rw [kk8]; exact c1) (fun hc => ?_)) ?_
    · obtain ⟨x, hx⟩ : ∃ x, Γ[i]? = some x := ⟨_, List.getElem?_eq_getElem hi⟩
      obtain ⟨y1, y2⟩ := g9 i x hx
      exact ⟨_, by rw [hq8, ub.2.2.2.2.1]; exact y1, by rw [kk8, (g.1.1 _ (nty _ (Or.inr (Or.inr y2.1)))).1]; exact y2.1⟩
    · unfold pot at u4
      rw [e1]
      omega
    rintro _ h11 ⟨rfl, ba', cap', p1, ⟨p2, p3, p4⟩, p5, p6, p7, p8, p9, p10, p11⟩
    have kh8 : ∀ x, hK h x ≠ 0 → hK h8 x = hK h x := fun x hx => by rw [kk8]; exact (F4.1.1.2 x hx).1
    have q8 : ∀ x, hK h x ≠ 0 → hK h x ≠ 10 → hK h x ≠ 1007 → Uf h8 h11 x := fun x h1 h2 h3 => p8 x (by rw [kh8 x h1]; exact h1) (fun e => h2 (by rw [e]; exact k6)) (fun e => h3 (by rw [e]; exact g2))
    have u11 : Unt h8 h11 := ⟨fun x y1 y2 y3 _ => p8 x y1 (fun e => y2 (by rw [e, kh8 _ (by rw [k6]; decide)]; exact k6)) (fun e => y3 (by rw [e, kh8 _ (by rw [g2]; decide)]; exact g2)), p10⟩
    obtain ⟨t11, ev11⟩ := g.2.1.unt (un8.tr u11)
    have uq := q8 q (by rw [hk]; decide) (by rw [hk]; decide) (by rw [hk]; decide)
    have ut := q8 (Z.1 t) (by rw [b1]; decide) (by rw [b1]; decide) (by rw [b1]; decide)
    have utt := g.1.1 (Z.1 t) (nty _ (Or.inr (Or.inr b1)))
    have e127 : fI h11 (Z.1 t) 127 = nI M := by rw [(ut.2.2.2.2.2 127).1, e8, fI_pI, if_pos ⟨rfl, rfl⟩]
    have e128 : fI h11 (Z.1 t) 128 = 0 := by rw [(ut.2.2.2.2.2 128).1, e8, fI_pI, if_neg (fun z => absurd z.2 (by decide)), (utt.2.2.2.2.2 128).1]; exact h28
    have e129 : fI h11 (Z.1 t) 129 = fI h (Z.1 t) 129 := by rw [(ut.2.2.2.2.2 129).1, e8, fI_pI, if_neg (fun z => absurd z.2 (by decide)), (utt.2.2.2.2.2 129).1]
    have k13 : hK h11 (Z.1 t) = 13 := by rw [ut.1, kk8]; exact c1
    have FE : FIe G Z (fun t' => t' = t) rc Ct.length h h11 := by
      refine ⟨fun x hx => ?_, fun x hx hn hne => ?_, fun x hx hp => ?_, fun x hx hp => ?_, ?_⟩
      · have y2 := hx.2.1
        simp only [List.mem_cons, List.not_mem_nil, or_false, not_or] at y2
        exact ((F4.2.1 x hx).tr (w8.uf fun e => y2.2.2.1 (by rw [e]; exact b1))).tr (q8 x hx.1 y2.2.1 y2.2.2.2.2)
      · have hxb : x ≠ ba := fun e => hne (by rw [e]; exact g1)
        have hx6 : x ≠ gW G 6 := fun e => by rw [e, k6] at hx; cases hx
        rw [(p8 x (by rw [kh8 x (by rw [hx]; decide), hx]; decide) hx6 hxb).2.2.2.2.1, hq8, (g.1.1 x (nty _ (Or.inr (Or.inl hx)))).2.2.2.2.1]
      · have hxt := hp t rfl
        have a1 := (g.1.1 x (nty _ (Or.inr (Or.inr hx)))).2.2.2.2.2
        have a2 := (w8.uf hxt).2.2.2.2.2
        have a3 := (q8 x (by rw [hx]; decide) (by rw [hx]; decide) (by rw [hx]; decide)).2.2.2.2.2
        exact ⟨((a3 127).1.trans (a2 127).1).trans (a1 127).1, ((a3 128).1.trans (a2 128).1).trans (a1 128).1⟩
      · obtain ⟨a1, a2⟩ := F4.2.2.2.2.1 x hx hp
        have hxt : x ≠ Z.1 t := fun e => by rw [e, b1] at hx; cases hx
        have a3 := (w8.uf hxt).2.2.2.2.2
        have a4 := (q8 x (by rw [hx]; decide) (by rw [hx]; decide) (by rw [hx]; decide)).2.2.2.2.2
        exact ⟨((a4 372).2.2.trans (a3 372).2.2).trans a1, ((a4 373).2.2.trans (a3 373).2.2).trans a2⟩
      · rcases p9 with e | e
        · exact Or.inl (by rw [p1, e, g1])
        · refine Or.inr ⟨ba', p1, ?_⟩
          rw [kk8] at e
          exact F4.1.fresh e
    refine KV.i ⟨Z.1 t, by rw [(uq.2.2.2.2.2 305).2.2]; exact f8, k13, ⟨FE.1, FE.2.1, fun x hx hp => FE.2.2.1 x hx fun t' e => by rw [e]; exact hp t hBt, FE.2.2.2⟩, fun lm => ⟨M + 1, Pn + 0, τ1, m, cap', by rw [e127], ?_, ?_, ?_⟩⟩
    · have r1 := (RsV.var (ps := []) k.2.1 g hN (by decide)).mv t11 ev11
      refine (r1.prj (ts' := [M, M]) (fun u => u ++ u) (fun x hx => r1.2.2.1 x (by simp only [List.mem_cons, List.not_mem_nil, or_false, or_self] at hx; rw [hx]; exact List.mem_cons_self ..)) (fun ρ _ => rfl)).imp fun ρ hρ u => ⟨?_, ?_⟩
      · rintro ⟨w, ⟨v', rfl⟩, rfl⟩
        exact ⟨v', [(t, v')], rfl, rfl, rfl⟩
      · rintro ⟨v', ν, rfl, -, rfl⟩
        exact ⟨[v'], ⟨v', rfl⟩, rfl⟩
    · have ev := ev4.tr ev11
      have F0 : FIn G Z (fun t' => t' = t) rc Ct.length h h11 := ⟨lm, FE⟩
      refine ⟨k.1.mv F0, t11, ⟨ba', p1, ⟨p2, p3, p4⟩, ⟨by omega, by omega, by rw [List.length_append, List.length_singleton]; omega⟩, by rw [List.length_append, List.length_singleton]; exact p5, fun i x hx => ?_⟩, fun a ha => (k.2.2.2.1 a ha).mv sA lm, k.2.2.2.2.1.mv lm, fun x hx => ?_, k.2.2.2.2.2.2.1.mv sA lm, by
        rw [List.map_append, List.nodup_append]
        refine ⟨k.2.2.2.2.2.2.2, List.nodup_cons.mpr ⟨List.not_mem_nil, List.nodup_nil⟩, fun a ha b hb e => ?_⟩
        obtain ⟨x, hx, rfl⟩ := List.mem_map.mp ha
        rw [(List.mem_cons.mp hb).resolve_right fun w => by cases w] at e
        exact hnew x hx e⟩
      · by_cases c : i < Γ.length
        · rw [List.getElem?_append_left c] at hx
          obtain ⟨y1, y2⟩ := g9 i x hx
          refine ⟨by rw [p6 i c, hq8, ub.2.2.2.2.1]; exact y1, y2.mv F0 (fun t' e e' => ?_) ev⟩
          rw [e] at e'
          exact hnew x (List.mem_of_getElem? hx) (k.2.2.2.2.1.2.1 _ _ (k.2.2.2.2.2.1 x (List.mem_of_getElem? hx)) hDt e')
        · have hi := (List.getElem?_eq_some_iff.mp hx).1
          rw [List.length_append, List.length_singleton] at hi
          have ei : i = Γ.length := by omega
          rw [ei, List.getElem?_append_right (Nat.le_refl _), Nat.sub_self] at hx
          cases hx
          rw [ei]
          exact ⟨p7, k13, by rw [e129]; exact b2, M, e127, by omega, Or.inl ⟨e128, rfl, ev11.2.2.1 M (g.2.2.1.new (Nat.le_refl _) (by omega))⟩⟩
      · rcases List.mem_append.mp hx with w | w
        · exact k.2.2.2.2.2.1 x w
        · rw [(List.mem_cons.mp w).resolve_right fun w => by cases w]
          exact hDt
    · unfold pot
      rcases p11 with ⟨y1, y2, y3⟩ | ⟨y1, y2, y3⟩
      · rw [y1, y3, e1]; omega
      · rw [y1, y3, e1]; omega
  · obtain ⟨q1, q2⟩ := q
    have lm : Lm (gW G) MI h h' none := l.weak (by decide +kernel)
    obtain ⟨M', Pn', τ', m', cap', e1, e2, e3, e4⟩ := q2 lm
    exact ⟨⟨lm, q1⟩, M, [M], M', Pn', τ', m', cap', e1, rfl, e2, e3, e4⟩
end
