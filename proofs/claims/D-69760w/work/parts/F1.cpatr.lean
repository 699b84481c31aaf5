/-! THE COMPONENT'S RESOLVER: patterns -/
def shP : Nat → Tr → Prop
  | 0, _ => False
  | n + 1, x => (∃ t : Nat, x = n0 31 t) ∨ (∃ t : Nat, x = n0 36 t) ∨ (∃ (t : Nat) (v : Int), x = n1 32 t (.num v)) ∨ (∃ (t : Nat) (v : Int), x = n1 34 t (.num v)) ∨ (∃ (t : Nat) (v : Int), x = n1 35 t (.num v)) ∨
    (∃ (t : Nat) (v : Int) (y : Tr), x = n2 33 t (.num v) y ∧ (y = .num 0 ∨ shP n y)) ∨ (∃ (t : Nat) (l : List Tr), x = n1 37 t (ls l) ∧ ∀ y, y ∈ l → shP n y) ∨ (∃ (t : Nat) (l : List Tr), x = n1 38 t (ls l) ∧ ∀ y, y ∈ l → shP n y) ∨
    (∃ (t : Nat) (a b : Tr), x = n2 39 t a b ∧ shP n a ∧ shP n b) ∨ (∃ (t : Nat) (y : Tr), x = n1 19 t y ∧ shP n y)
/-- patterns of n levels are resolved -/
def PR (G : Gh) (W : Nat → Prop) (ts : List (Nat × Nat × Nat)) (O : List (Nat × Nat) × List (Nat × Nat)) (n d : Nat) : Prop := ∀ (x : Tr) (lo hi q fr : Nat) (h : AH) (s : RSt) (Z : Zt) (D : Dm) (nb : Nat), shP n x → wf (Kd ts) x lo hi → OTG (X0 ts W h) W h x 0 0 q → rI G W ts O h Z D s nb lo hi → fr ≤ (rV s).length →
  ∃ k ν, VT ⟨"LetMill$Pat", "resolveFrom", "(LLetMill$Scope;I)V"⟩ VMPat_resolveFrom k ν ∧ hK h q = k + 1 ∧ C G ν (d + 3) [.ref q, .ref (gW G 4), .int (nI fr)] h (rP G W ts O h Z D nb lo hi (rA ts W O lo hi (rPat (Pl ts) n fr x s).1 q) (rPat (Pl ts) n fr x s).2)
section
variable {G : Gh} {d : Nat} {W N : Nat → Prop} {h h1 h2 h' : AH} {ts : List (Nat × Nat × Nat)} {t i n nb nb' r q g fr ba lo hi m m2 lo1 hi1 b k c : Nat} {v : Int} {Z Z' : Zt} {D D' : Dm} {O : List (Nat × Nat) × List (Nat × Nat)} {s s' : RSt} {x y x' : Tr} {l l1 l2 : List Tr} {f : Nat → Option Nat} {A : Zt → Dm → AH → Prop} {K : Nat → Nat}
theorem EXs.tk (e : EXs N h k b x) (hk : hK h b = c) (hg : tf c = g) (ht : tkn x = t) : fI h b g = nI t := by
  have e1 := e.2.2.1
  have e2 := e.2.1
  rw [hk, hg, ht] at e1
  rw [ht] at e2
  rw [i_eq, nI_toInt (by omega)]
  exact e1
theorem EXs.tA (e : EXs N h k b x) : tokA h b = tkn x := e.2.2.1
theorem ANN_no (hk : k ≠ 1 ∧ k ≠ 2 ∧ k ≠ 32 ∧ k ≠ 33 ∧ k ≠ 54 ∧ k ≠ 55 ∧ k ≠ 56 ∧ k ≠ 57 ∧ k ≠ 58 ∧ k ≠ 53) : ANN ts O Z D h k b x :=
  fun t z _ => ⟨fun q => by omega, fun q => by omega, fun q => by omega, fun q => by omega, fun q => by omega, fun q => by omega, fun q => by omega, fun q => by omega, fun q => by omega, fun q => by omega⟩
theorem Le.rf0 : Le h h none := ⟨⟨Nat.le_refl _, Nat.le_refl _⟩, fun _ _ => ⟨rfl, rfl, fun _ _ _ => ⟨rfl, rfl, rfl⟩⟩⟩
theorem rP_rf (k : rI G W ts O h Z D s nb lo hi) (a : A Z D h) : rP G W ts O h Z D nb lo hi A s (.returned none) h :=
  ⟨rfl, Z, D, nb, k.1, k.2.1, k.2.2.1, a, KW.rf, Ext.rf, fun t ht => Or.inl ht, k.2.2.2.2.1, k.2.2.2.2.2.1, Nat.le_add_right _ _, Le.rf0⟩
theorem wf_n0 (w : wf K (n0 k t) lo hi) : lo ≤ t ∧ t < hi := by
  unfold n0 wf at w
  obtain ⟨a1, a2, -⟩ := w
  change (lo : Int) ≤ (t : Nat) at a1
  change ((t : Nat) : Int) < hi at a2
  omega
theorem wf_nd (hk : k ≠ 33 ∧ k ≠ 50 ∧ k ≠ 58 ∧ k ≠ 56 ∧ k ≠ 53) (w : wf K (n1 k t y) lo hi) : (lo ≤ t ∧ t < hi) ∧ kdOK K k (.add (.num t) y) ∧ ∃ m, lo ≤ m ∧ m ≤ hi ∧ wf K y m hi := by
  unfold n1 wf at w
  obtain ⟨a1, a2, a3, a4⟩ := w
  change (lo : Int) ≤ (t : Nat) at a1
  change ((t : Nat) : Int) < hi at a2
  rw [if_neg (by omega), if_neg (by omega)] at a4
  unfold wf at a4
  obtain ⟨m, m1, m2, -, m3⟩ := a4
  exact ⟨⟨by omega, by omega⟩, a3, m, m1, m2, m3⟩
theorem wf_33 (w : wf K (n1 33 t y) lo hi) : (lo ≤ t ∧ t < hi) ∧ K t = 281 ∧ ∃ m, t + 1 ≤ m ∧ m ≤ hi ∧ wf K y m hi := by
  unfold n1 wf at w
  obtain ⟨a1, a2, a3, a4⟩ := w
  change (lo : Int) ≤ (t : Nat) at a1
  change ((t : Nat) : Int) < hi at a2
  rw [if_pos (Or.inl rfl)] at a4
  unfold wf at a4
  obtain ⟨m, m1, m2, -, m3⟩ := a4
  exact ⟨⟨by omega, by omega⟩, a3.2.1 (Or.inr (Or.inl rfl)), m, m1, m2, m3⟩
theorem TR_nd (h1 : lo ≤ t) (h2 : t < hi) (hy : TR lo hi y) : TR lo hi (n1 k t y) := by
  unfold n1 TR
  refine ⟨?_, ?_, ?_⟩
  · show (lo : Int) ≤ (t : Nat); omega
  · show ((t : Nat) : Int) < hi; omega
  · exact ⟨trivial, hy⟩
theorem TR_n0 (h1 : lo ≤ t) (h2 : t < hi) : TR lo hi (n0 k t) := by
  unfold n0 TR
  refine ⟨?_, ?_, trivial⟩
  · show (lo : Int) ≤ (t : Nat); omega
  · show ((t : Nat) : Int) < hi; omega
theorem R7 {X : Nat → Nat → Tr → Prop} {y : Tr} {m : Nat} (e : ef m 0 = (7, 0)) (hy : (∃ v, y = .num v) ∨ ∃ a b, y = .add a b) : OTG X N h y m 0 q := (OTG_ef e (by decide)).mpr (OTG_7 hy)
/-- what is resolved behind a step that wrote the node q alone -/
theorem RS.nW (k : RS G W h ts Z O s nb) (wb : WB G W h) (w : WQ q h h') (le : Le h h' none) (hk : hK h q ∉ RKs ∧ hK h q ≠ 8 ∧ hK h q < 56 ∧ hK h q ≠ 2) (hq : W q) : RS G W h' ts Z O s nb ∧ WB G W h' := by
  refine ⟨k.wq w le hk.1 hk.2.1 hk.2.2.1 hk.2.2.2, fun a ha => by rw [w.2.1.1]; exact wb.1 a ha, wb.2.1, fun ba e => wb.2.2.1 ba ?_, fun a ha => by rw [w.2.1.1]; exact wb.2.2.2 a ha⟩
  have g4 : gW G 4 ≠ q := fun e => wb.2.1 (by rw [e]; exact hq)
  rw [(w.2.2 (gW G 4) 82 g4).2.2] at e
  exact e
/-- a name's pattern -/
theorem pat_name (hw : wf (Kd ts) (n1 32 t (.num v)) lo hi) (ot : OTG (X0 ts W h) W h (n1 32 t (.num v)) 0 0 q) (ri : rI G W ts O h Z D s nb lo hi) (hfr : fr ≤ (rV s).length) : C G mX22_resolveFrom (d + 3) [.ref q, .ref (gW G 4), .int (nI fr)] h (rP G W ts O h Z D nb lo hi (rA ts W O lo hi (n1 32 t (.num v)) q) (rBind (Pl ts) fr t v.toNat s)) ∧ hK h q = 21 := by
  obtain ⟨⟨ht1, ht2⟩, hkd, -⟩ := wf_nd (by decide) hw
  have hk280 : Kd ts t = 280 := hkd.1 (Or.inr (Or.inl rfl))
  obtain ⟨hWq, hkq, ⟨ex, en⟩, -⟩ := (OTG_nd (k := 32) (by decide)).mp ot
  have hk : hK h q = 21 := by simpa [kc] using hkq
  have ev : v = (Vl ts t : Int) := by
    have := (en _ _ rfl).1 (by decide)
    simpa [tkn] using this
  obtain ⟨k1, k2, k3, k4, k5, k6, k7, k8⟩ := id ri
  have hlt := k1.1.2.2.2.1
  have hvl := k5.len
  unfold pU at k8
  refine ⟨?_, hk⟩
  refine bX22_resolveFrom G (d + 2) h _ _ _ (k1.1.1.at (by decide)) ⟨hk, ?_⟩
  rw [show fI h q 302 = nI t from ex.tk hk rfl rfl]
  refine C.mono (c_bind (d := d) k1 (by omega) hk280 (fun x hx e => by have := k7 x.2 (k3.1 x hx); omega) hfr (by omega) (by omega)) ?_
  rintro _ h2 ⟨B, nb', rfl, f1, f2, r2, fr2, e82, le2, u2, hnb⟩
  refine KR.i ?_
  intro h3 e3
  have w : WQ q h2 h3 := by rw [e3]; exact WQ.rf.pR
  have le3 : Le h2 h3 none := by rw [e3]; exact pR_le (Or.inl (by decide))
  have f5 : fR h3 q 305 = some B := by rw [e3, fR_pR, if_pos ⟨rfl, rfl⟩]
  have sfq : ∀ g, sf g = true → fI h3 q g = fI h2 q g ∧ fJ h3 q g = fJ h2 q g ∧ fR h3 q g = fR h2 q g := fun g hg => by
    rw [e3, fI_pR, fJ_pR, fR_pR, if_neg (fun e => by rw [e.2] at hg; exact absurd hg (by decide))]
    exact ⟨rfl, rfl, rfl⟩
  have uW : ∀ a, W a → Uf h h2 a := fun a ha => fr2 a (k2.1 a ha) (fun e => k2.2.1 (by rw [← e]; exact ha)) fun e => k2.2.2.1 a e ha
  have hk2 : hK h2 q = 21 := (uW q hWq).1.trans hk
  have wb2 : WB G W h2 := ⟨fun a ha => by rw [(uW a ha).1]; exact k2.1 a ha, k2.2.1, fun ba e hW => by
    rcases e82 ba e with q | q
    · exact k2.2.2.1 ba q hW
    · exact k2.1 ba hW q, fun a ha => by rw [(uW a ha).1]; exact k2.2.2.2 a ha⟩
  obtain ⟨r3, wb3⟩ := r2.nW wb2 w le3 (by rw [hk2]; decide) hWq
  have kw : KW W lo hi h h3 := (KW.of le2.1 uW).tr (w.kw (by rw [(uW q hWq).us.tok, ex.tA]; exact ⟨by show (lo : Int) ≤ (t : Nat); omega, by show ((t : Nat) : Int) < hi; omega⟩) sfq)
  have hnD : ∀ x, D.1 x → x ≠ t := fun x hx e => by have := k7 x hx; omega
  have u3 : un h3 = un h2 := w.un
  have ev2 : v.toNat = Vl ts t := by rw [ev]; rfl
  rw [ev2]
  refine ⟨rfl, (updF Z.1 t B, Z.2), (fun x => D.1 x ∨ x = t, D.2), nb', r3, wb3, ?_, ⟨TR_nd ht1 ht2 trivial, ?_⟩, kw, ?_, ?_, ?_, by omega, ?_, le2.tr le3⟩
  · have eC : rCt (rBind (Pl ts) fr t (Vl ts t) s) = rCt s := by unfold rBind rIf rNote rCt; split <;> rfl
    have eD : rDt (rBind (Pl ts) fr t (Vl ts t) s) = rDt s := by unfold rBind rIf rNote rDt; split <;> rfl
    have eR : rC (rBind (Pl ts) fr t (Vl ts t) s) = rC s ∧ rT (rBind (Pl ts) fr t (Vl ts t) s) = rT s := by unfold rBind rIf rNote rC rT; split <;> exact ⟨rfl, rfl⟩
    refine ⟨fun x hx => ?_, by rw [eC]; exact k3.2.1, by rw [eD]; exact k3.2.2.1, k3.2.2.2.mv (fun t h => Or.inl h) ⟨eC, eD⟩ (by rw [eR.1, eR.2]; exact ⟨Nat.le_refl _, Nat.le_refl _⟩)⟩
    rcases List.mem_cons.mp (show x ∈ (Vl ts t, t) :: rV s from hx) with rfl | hx
    · exact Or.inr rfl
    · exact Or.inl (k3.1 x hx)
  · refine (OTG_nd (k := 32) (by decide)).mpr ⟨hWq, by rw [w.2.1.1, hk2]; decide, ⟨ex.mv (fun a ha _ => (kw.2 a ha).1) (kw.2 q hWq).1, fun t' z hz => ?_⟩, R7 (by decide) (Or.inl ⟨_, rfl⟩)⟩
    cases hz
    refine ⟨fun q => by omega, fun q => by omega, fun _ => ⟨Or.inr rfl, ?_⟩, fun q => by omega, fun q => by omega, fun q => by omega, fun q => by omega, fun q => by omega, fun q => by omega, fun q => by omega⟩
    show fR h3 q 305 = some (updF Z.1 t B t)
    unfold updF
    rw [if_pos rfl]
    exact f5
  · refine ⟨fun x hx => ⟨Or.inl hx, ?_⟩, ⟨Nat.le_refl _, fun _ _ => rfl⟩, ⟨Nat.le_refl _, fun _ _ => rfl⟩⟩
    show updF Z.1 t B x = Z.1 x
    unfold updF
    rw [if_neg (hnD x hx)]
  · rintro x (hx | rfl)
    · exact Or.inl hx
    · exact Or.inr ⟨ht1, ht2⟩
  · refine ⟨List.nodup_cons.mpr ⟨fun hm => ?_, k5.1⟩, fun x hx => ?_⟩
    · obtain ⟨y, hy, e⟩ := List.mem_map.mp hm
      exact hnD y.2 (k3.1 y hy) e
    · rcases List.mem_cons.mp (show x ∈ (Vl ts t, t) :: rV s from hx) with rfl | hx
      · show t < ts.length
        omega
      · exact k5.2 x hx
  · unfold pU
    omega
/-- leaves that hold no name -/
theorem pat_leaf (ri : rI G W ts O h Z D s nb lo hi) (hx : TR lo hi x) (ot : OTG (X0 ts W h) W h x 0 0 q) (hk : (∃ k t, (k = 31 ∨ k = 36) ∧ x = n0 (k : Nat) t) ∨ ∃ k t v, (k = 34 ∨ k = 35) ∧ x = n1 (k : Nat) t (.num v)) : rP G W ts O h Z D nb lo hi (rA ts W O lo hi x q) s (.returned none) h := by
  refine rP_rf ri ⟨hx, ?_⟩
  rcases hk with ⟨k, t, hk, rfl⟩ | ⟨k, t, v, hk, rfl⟩
  · obtain ⟨a1, a2, a3⟩ := (OTG_n0 (by omega) (by omega)).mp ot
    exact (OTG_n0 (by omega) (by omega)).mpr ⟨a1, a2, a3.1, ANN_no (by omega)⟩
  · obtain ⟨a1, a2, a3, a4⟩ := (OTG_nd (by omega) (by omega)).mp ot
    refine (OTG_nd (by omega) (by omega)).mpr ⟨a1, a2, ⟨a3.1, ANN_no (by omega)⟩, ?_⟩
    rcases hk with rfl | rfl <;> exact R7 (by decide) (Or.inl ⟨_, rfl⟩)
/-- the kinds of a pattern's objects -/
theorem shP_kind : ∀ n x q, shP n x → OTG (X0 ts W h) W h x 0 0 q → 19 ≤ hK h q ∧ hK h q ≤ 27 := by
  intro n
  induction n with
  | zero => intro x q hs; exact hs.elim
  | succ n ih =>
    intro x q hs ot
    rcases hs with ⟨t, rfl⟩ | ⟨t, rfl⟩ | ⟨t, v, rfl⟩ | ⟨t, v, rfl⟩ | ⟨t, v, rfl⟩ | ⟨t, v, y, rfl, -⟩ | ⟨t, l, rfl, -⟩ | ⟨t, l, rfl, -⟩ | ⟨t, a, b, rfl, -⟩ | ⟨t, y, rfl, hy⟩
    · have : hK h q = 20 := by simpa [kc] using ((OTG_n0 (by decide)).mp ot).2.1
      omega
    · have : hK h q = 24 := by simpa [kc] using ((OTG_n0 (by decide)).mp ot).2.1
      omega
    · have : hK h q = 21 := by simpa [kc] using ((OTG_nd (by decide)).mp ot).2.1
      omega
    · have : hK h q = 22 := by simpa [kc] using ((OTG_nd (by decide)).mp ot).2.1
      omega
    · have : hK h q = 22 := by simpa [kc] using ((OTG_nd (by decide)).mp ot).2.1
      omega
    · have : hK h q = 19 := by simpa [kc] using ((OTG_nd (k := 33) (by decide)).mp ot).2.1
      omega
    · have : hK h q = 26 := by simpa [kc] using ((OTG_nd (by decide)).mp ot).2.1
      omega
    · have : hK h q = 23 := by simpa [kc] using ((OTG_nd (by decide)).mp ot).2.1
      omega
    · have : hK h q = 27 := by simpa [kc] using ((OTG_nd (k := 39) (by decide)).mp ot).2.1
      omega
    · obtain ⟨-, -, -, a4, a5⟩ := (OTG_ndg (by decide)).mp ot
      obtain ⟨c, c1, c2, c3, c4⟩ := a5 rfl
      rw [OTG_ef (m' := 6) (i' := 0) (by decide) (by decide), OTG_6] at a4
      obtain ⟨b, b1, b2⟩ := a4
      cases b1.symm.trans c3
      have := ih y c hy b2
      omega
end
