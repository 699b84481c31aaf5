/-! THE COMPONENT'S SCOPE: its state, and what keeps it -/
/-- a cell stays whole -/
def Uf (h h' : AH) (a : Nat) : Prop := hK h' a = hK h a ∧ hL h' a = hL h a ∧ aI h' a = aI h a ∧ aJ h' a = aJ h a ∧ aR h' a = aR h a ∧ ∀ g, fI h' a g = fI h a g ∧ fJ h' a g = fJ h a g ∧ fR h' a g = fR h a g
/-- cells of these kinds stay -/
def UK (ks : List Nat) (h h' : AH) : Prop := ∀ a, hK h a ∈ ks → Uf h h' a
/-- the built-in types' names -/
def BT : List (Nat × Nat) := [(cd [105, 110, 116], 0), (cd [98, 111, 111, 108], 1), (cd [117, 110, 105, 116], 2), (cd [108, 105, 115, 116], 3), (cd [114, 101, 102], 4)]
def BTa : List Nat := [0, 0, 0, 1, 1]
/-- the object of a type's name -/
def TO1 (h : AH) (a d : Nat) (x : Nat × Nat × Nat × Nat) : Prop := hK h a = 4 ∧ NmC (fJ h a 49) (fJ h a 50) x.1 ∧ fI h a 51 = nI x.2.1 ∧ x.2.1 ≤ 6 ∧ (d < 205 → fI h a 52 = nI (d + 7)) ∧ fI h a 54 = nI x.2.2.1
/-- types have objects of their own -/
def TNi (Tn : Nat → Nat) (Dt : Dtb) : Prop := ∀ d d', d < Dt.length → d' < Dt.length → Tn d = Tn d' → d = d'
/-- types in sight, the latest first, and all of them -/
def TNs (G : Gh) (h : AH) (Tn : Nat → Nat) (T : List (Nat × Nat)) (Dt : Dtb) : Prop := (∃ U, T = U ++ BT ∧ (∃ n, RowC h (gW G 1085) ((U.map fun x => Tn x.2).reverse) n) ∧ ∀ x, x ∈ U → ∃ y, Dt[x.2]? = some y ∧ y.1 = x.1) ∧ (∀ (d : Nat) (x : Nat × Nat × Nat × Nat), Dt[d]? = some x → TO1 h (Tn d) d x) ∧ (∀ d, d < Dt.length → d < 205 → aR h (gW G 1040) (d + 7) = some (Tn d)) ∧ fI h (gW G 2) 41 = nI (if Dt.length < 205 then Dt.length + 7 else 212) ∧ (∀ d x, BT[d]? = some x → ∃ n, Dt[d]? = some (x.1, BTa.getD d 0, n)) ∧ TNi Tn Dt
/-- the row of all constructors -/
def CRs (G : Gh) (h : AH) (Cn : Nat → Nat) (Ct : Ctb) : Prop := ∃ n, RowC h (gW G 1059) ((List.range Ct.length).map Cn) n
/-- the scope's rows that grow: their arrays are no static ones, none of the tree's -/
def RowP (G : Gh) (W : Nat → Prop) (h : AH) (r : Nat) : Prop := ∀ arr, fR h r 77 = some arr → (Ns (gW G) arr ∧ hL h arr ≤ 5200) ∧ ¬ W arr ∧ ∀ i sp, aR h arr i = some sp → hK h sp = 7
/-- a declaration's mark 'too many' is set only once its types are in the table -/
def JD (W : Nat → Prop) (h : AH) (Dt : Dtb) : Prop := ∀ a, W a → hK h a ≠ 0 ∧ (hK h a = 53 → fI h a 365 ≠ 0 → ∃ d y, Dt[d]? = some y ∧ (y.2.2.2 : Int) = (fI h a 313).toInt ∧ 205 ≤ d)
def SRs : List Nat := [1085, 1086, 1087, 1088, 1059]
/-- the scope's rows have arrays of their own -/
def RowD (G : Gh) (h : AH) : Prop := DW (gW G) ∧ ∀ i j a, i ∈ SRs → j ∈ SRs → fR h (gW G i) 77 = some a → fR h (gW G j) 77 = some a → i = j
section
variable {G : Gh} {d : Nat} {W : Nat → Prop} {h h1 h2 h' : AH} {ts : List (Nat × Nat × Nat)} {t i v n nb r q g : Nat} {N : Option (Nat × Nat)} {SL BL V Cs T : List (Nat × Nat)} {Bd Cn Tn : Nat → Nat} {Ct : Ctb} {Dt : Dtb} {l ks : List Nat} {s : RSt}
theorem Uf.uk {a : Nat} (u : Uf h h' a) : Uk h h' a := ⟨u.1, u.2.1, u.2.2.1, u.2.2.2.1, u.2.2.2.2.1, fun g _ => u.2.2.2.2.2 g⟩
theorem Uf.rf {a : Nat} : Uf h h a := ⟨rfl, rfl, rfl, rfl, rfl, fun _ => ⟨rfl, rfl, rfl⟩⟩
theorem Uf.tr {a : Nat} (u : Uf h h1 a) (w : Uf h1 h2 a) : Uf h h2 a := ⟨w.1.trans u.1, w.2.1.trans u.2.1, w.2.2.1.trans u.2.2.1, w.2.2.2.1.trans u.2.2.2.1, w.2.2.2.2.1.trans u.2.2.2.2.1, fun g => ⟨(w.2.2.2.2.2 g).1.trans (u.2.2.2.2.2 g).1, (w.2.2.2.2.2 g).2.1.trans (u.2.2.2.2.2 g).2.1, (w.2.2.2.2.2 g).2.2.trans (u.2.2.2.2.2 g).2.2⟩⟩
theorem UK.tr (u : UK ks h h1) (w : UK ks h1 h2) : UK ks h h2 := fun a ha => (u a ha).tr (w a (by rw [(u a ha).1]; exact ha))
theorem UK.sub {ks' : List Nat} (u : UK ks h h') (hs : ∀ k, k ∈ ks' → k ∈ ks) : UK ks' h h' := fun a ha => u a (hs _ ha)
theorem WQ.uf {a : Nat} (w : WQ q h h') (hn : a ≠ q) : Uf h h' a := by
  obtain ⟨w1, ⟨w2, w3, w4, w5, w6⟩, w7⟩ := w
  exact ⟨by rw [w2], by rw [w3], by rw [w4], by rw [w5], by rw [w6], fun g => w7 a g hn⟩
theorem WQ.UK (w : WQ q h h') (hk : hK h q ∉ ks) : UK ks h h' := fun a ha => w.uf fun e => hk (by rw [← e]; exact ha)
theorem RowC.uK (k : RowC h r l n) (u : UK [6, 7, 1004] h h') : RowC h' r l n := (k.uk fun a ha => (u a (by rcases ha with e | e | e <;> rw [e] <;> decide)).uk).1
theorem OU.mv (k : OU G h SL BL) (u : UK [6, 7, 13, 1004] h h') : OU G h' SL BL := by
  obtain ⟨⟨n, r1⟩, ⟨m, r2⟩, bo⟩ := k
  have u' := u.sub (ks' := [6, 7, 1004]) (by decide)
  refine ⟨⟨n, r1.uK u'⟩, ⟨m, r2.uK u'⟩, fun x hx => ?_⟩
  obtain ⟨b1, b2, b3⟩ := bo x hx
  obtain ⟨a1, -, -, -, -, a6⟩ := u x.2 (by rw [b1]; decide)
  exact ⟨a1.trans b1, by rw [(a6 125).2.1, (a6 126).2.1]; exact b2, (a6 129).1.trans b3⟩
theorem CNs.mv (k : CNs G h Cn Tn Cs Ct) (u : UK [6, 7, 54, 1004] h h') : CNs G h' Cn Tn Cs Ct := by
  obtain ⟨⟨n, r1⟩, cc, co⟩ := k
  refine ⟨⟨n, r1.uK (u.sub (by decide))⟩, cc, fun c x hx => ?_⟩
  obtain ⟨b1, b2, b3, b4, b5, b6⟩ := co c x hx
  obtain ⟨a1, -, -, -, -, a6⟩ := u (Cn c) (by rw [b1]; decide)
  exact ⟨a1.trans b1, by rw [(a6 366).2.1, (a6 367).2.1]; exact b2, (a6 368).2.2.trans b3, (a6 369).1.trans b4, (a6 370).1.trans b5, (a6 371).1.trans b6⟩
theorem BNs.mvd {δ : Nat} (k : BNs G h Bd V nb) (er : rcap G h' = rcap G h + δ) (u : UK [13, 1007] h h') (e82 : fR h' (gW G 4) 82 = fR h (gW G 4) 82) (e83 : fI h' (gW G 4) 83 = fI h (gW G 4) 83) (e84 : fI h' (gW G 4) 84 = fI h (gW G 4) 84) : BNs G h' Bd V (nb + δ) := by
  obtain ⟨ba, b1, b2', b3, b5, b6, b7, b8, b9, b10, b11⟩ := k
  obtain ⟨a1, a2, -, -, a5, -⟩ := u ba (by rw [b2']; decide)
  refine ⟨ba, e82.trans b1, a1.trans b2', b3, by rw [a2, er]; omega, by rw [a2]; exact b6, by rw [a2]; exact b7, by rw [a2]; exact b8, e83.trans b9, e84.trans b10, fun p x hx => ?_⟩
  obtain ⟨g1, g2, g3, g4⟩ := b11 p x hx
  obtain ⟨c1, -, -, -, -, c6⟩ := u (Bd x.2) (by rw [g2]; decide)
  exact ⟨by rw [a5]; exact g1, c1.trans g2, by rw [(c6 125).2.1, (c6 126).2.1]; exact g3, (c6 129).1.trans g4⟩
theorem BNs.mv (k : BNs G h Bd V nb) (er : rcap G h' = rcap G h) (u : UK [13, 1007] h h') (e82 : fR h' (gW G 4) 82 = fR h (gW G 4) 82) (e83 : fI h' (gW G 4) 83 = fI h (gW G 4) 83) (e84 : fI h' (gW G 4) 84 = fI h (gW G 4) 84) : BNs G h' Bd V nb := k.mvd (δ := 0) er u e82 e83 e84
theorem TNs.mv (s2 : So 2 (gW G) h) (k : TNs G h Tn T Dt) (u : UK [4, 6, 7, 1004, 1006] h h') (e41 : fI h' (gW G 2) 41 = fI h (gW G 2) 41) : TNs G h' Tn T Dt := by
  obtain ⟨⟨U, k1, ⟨n, k2⟩, k3⟩, k4, k5, k6, k7⟩ := k
  have hk40 : hK h (gW G 1040) = 1006 := kw1040 s2
  refine ⟨⟨U, k1, ⟨n, k2.uK (u.sub (by decide))⟩, k3⟩, fun d x hx => ?_, fun d hd hd2 => ?_, e41.trans k6, k7⟩
  · obtain ⟨b1, b2, b3, b4, b5, b6⟩ := k4 d x hx
    obtain ⟨a1, -, -, -, -, a6⟩ := u (Tn d) (by rw [b1]; decide)
    exact ⟨a1.trans b1, by rw [(a6 49).2.1, (a6 50).2.1]; exact b2, (a6 51).1.trans b3, b4, fun q => (a6 52).1.trans (b5 q), (a6 54).1.trans b6⟩
  · rw [(u (gW G 1040) (by rw [hk40]; decide)).2.2.2.2.1]
    exact k5 d hd hd2
theorem CRs.mv (k : CRs G h Cn Ct) (u : UK [6, 7, 1004] h h') : CRs G h' Cn Ct := by
  obtain ⟨n, k⟩ := k
  exact ⟨n, k.uK u⟩
theorem RowP.mv (k : RowP G W h r) (c : RowC h r l n) (u : UK [6, 7, 1004] h h') : RowP G W h' r := by
  intro arr e
  have e77 := (c.uk fun a ha => (u a (by rcases ha with e | e | e <;> rw [e] <;> decide)).uk).2
  rw [e77] at e
  obtain ⟨k1, k2, k3⟩ := k arr e
  obtain ⟨q1, q2, q3, q7, q8, ar, q4, q5, q6, q9⟩ := c
  cases e.symm.trans q4
  have ua := u arr (by rw [q5]; decide)
  refine ⟨⟨k1.1, by rw [ua.2.1]; exact k1.2⟩, k2, fun i sp e => ?_⟩
  rw [ua.2.2.2.2.1] at e
  have := k3 i sp e
  exact (u sp (by rw [this]; decide)).1.trans this
theorem RowC.cap (c : RowC h r l n) : rwc h r = n := by
  obtain ⟨q1, q2, q3, q7, q8, ar, q4, q5, q6, q9⟩ := c
  unfold rwc
  rw [q4]
  exact q6
theorem rwc_uk (c : RowC h r l n) (u : UK [6, 7, 1004] h h') : rwc h' r = rwc h r := by
  have e77 := ((u r (by rw [c.1]; decide)).2.2.2.2.2 77).2.2
  obtain ⟨q1, q2, q3, q7, q8, ar, q4, q5, q6, q9⟩ := c
  unfold rwc
  rw [e77, q4]
  exact (u ar (by rw [q5]; decide)).2.1
theorem rcap_uk (k5 : CNs G h Cn Tn Cs Ct) (k6 : TNs G h Tn T Dt) (k7 : CRs G h Cn Ct) (u : UK [6, 7, 1004] h h') : rcap G h' = rcap G h := by
  obtain ⟨⟨U, -, ⟨n, r1⟩, -⟩, -⟩ := k6
  obtain ⟨⟨n2, r2⟩, -⟩ := k5
  obtain ⟨n3, r3⟩ := k7
  unfold rcap
  rw [rwc_uk r1 u, rwc_uk r2 u, rwc_uk r3 u]
theorem RowP.cap (k : RowP G W h r) : rwc h r ≤ 5200 := by
  unfold rwc
  split
  · next a e => exact (k a e).1.2
  · omega
/-- which datatypes were too many: those of a declaration that is in the table -/
theorem JD.mv (k : JD W h Dt) (u : UK [53] h h') (hl : ∀ a, hK h a ≠ 0 → hK h' a = hK h a) : JD W h' Dt := by
  intro a ha
  obtain ⟨k1, k2⟩ := k a ha
  have e := hl a k1
  refine ⟨by rw [e]; exact k1, fun h53 => ?_⟩
  rw [e] at h53
  have uf := u a (by rw [h53]; decide)
  rw [(uf.2.2.2.2.2 365).1, (uf.2.2.2.2.2 313).1]
  exact k2 h53
theorem sr_kind (sA : SoA G h) (hi : i ∈ SRs) : hK h (gW G i) = 6 := by
  unfold SRs at hi
  simp only [List.mem_cons, List.not_mem_nil, or_false] at hi
  rcases hi with rfl | rfl | rfl | rfl | rfl
  · exact kw1085 (sA.at (by decide))
  · exact kw1086 (sA.at (by decide))
  · exact kw1087 (sA.at (by decide))
  · exact kw1088 (sA.at (by decide))
  · exact kw1059 (sA.at (by decide))
theorem RowD.mv (k : RowD G h) (sA : SoA G h) (u : UK [6] h h') : RowD G h' := by
  refine ⟨k.1, fun i j a hi hj e1 e2 => k.2 i j a hi hj ?_ ?_⟩
  · rw [← ((u _ (by rw [sr_kind sA hi]; decide)).2.2.2.2.2 77).2.2]; exact e1
  · rw [← ((u _ (by rw [sr_kind sA hj]; decide)).2.2.2.2.2 77).2.2]; exact e2
end
/-- the state of the scope; Z: where the bindings, constructors, types lie; O: names of outside -/
def RS (G : Gh) (W : Nat → Prop) (h : AH) (ts : List (Nat × Nat × Nat)) (Z : (Nat → Nat) × (Nat → Nat) × (Nat → Nat)) (O : List (Nat × Nat) × List (Nat × Nat)) (s : RSt) (nb : Nat) : Prop :=
  TkC G h ts ∧ NF G h (rN s) ∧ OU G h O.1 O.2 ∧ BNs G h Z.1 (rV s) nb ∧ CNs G h Z.2.1 Z.2.2 (rC s) (rCt s) ∧ TNs G h Z.2.2 (rT s) (rDt s) ∧ CRs G h Z.2.1 (rCt s) ∧ RowP G W h (gW G 1085) ∧ RowP G W h (gW G 1086) ∧ RowP G W h (gW G 1059) ∧ RowD G h ∧ JD W h (rDt s)
def RK0 : List Nat := [3, 4, 6, 7, 13, 54, 1004, 1006, 1007]
def RKs : List Nat := [3, 4, 6, 7, 13, 53, 54, 1004, 1006, 1007]
section
variable {G : Gh} {d : Nat} {W : Nat → Prop} {h h1 h2 h' : AH} {ts : List (Nat × Nat × Nat)} {t i v n nb r q g : Nat} {N : Option (Nat × Nat)} {Z : (Nat → Nat) × (Nat → Nat) × (Nat → Nat)} {O : List (Nat × Nat) × List (Nat × Nat)} {s s' : RSt}
theorem RS.mv0 (k : RS G W h ts Z O s nb) (c : TkC G h' ts) (u : UK RK0 h h') (e82 : fR h' (gW G 4) 82 = fR h (gW G 4) 82) (e83 : fI h' (gW G 4) 83 = fI h (gW G 4) 83) (e84 : fI h' (gW G 4) 84 = fI h (gW G 4) 84) (hN : NF G h' (rN s')) (es : s'.1 = s.1 ∧ s'.2.1 = s.2.1 ∧ s'.2.2.1 = s.2.2.1 ∧ s'.2.2.2.1 = s.2.2.2.1 ∧ s'.2.2.2.2.1 = s.2.2.2.2.1) (hJ : JD W h' (rDt s')) : RS G W h' ts Z O s' nb := by
  obtain ⟨k1, k2, k3, k4, k5, k6, k7, k8, k9, k10, k11, k12⟩ := k
  obtain ⟨e1, e2, e3, e4, e5⟩ := es
  have k41 : fI h' (gW G 2) 41 = fI h (gW G 2) 41 := ((u (gW G 2) (by rw [(k1.1.at (i := 2) (by decide)).1]; decide)).2.2.2.2.2 41).1
  have uR : UK [6, 7, 1004] h h' := u.sub (by decide)
  refine ⟨c, hN, k3.mv (u.sub (by decide)), ?_, ?_, ?_, ?_, ?_, ?_, ?_, k11.mv k1.1 (u.sub (by decide)), ?_⟩
  · have := k4.mv (rcap_uk k5 k6 k7 uR) (u.sub (by decide)) e82 e83 e84
    unfold rV at this ⊢
    rw [e1]; exact this
  · have := k5.mv (u.sub (by decide))
    unfold rC rCt at this ⊢
    rw [e2, e4]; exact this
  · have := k6.mv (k1.1.at (by decide)) (u.sub (by decide)) k41
    unfold rT rDt at this ⊢
    rw [e3, e5]; exact this
  · have := k7.mv uR
    unfold rCt at this ⊢
    rw [e4]; exact this
  · obtain ⟨⟨U, -, ⟨n, k2⟩, -⟩, -⟩ := k6
    exact k8.mv k2 uR
  · obtain ⟨⟨n, k2⟩, -⟩ := k5
    exact k9.mv k2 uR
  · obtain ⟨n, k2⟩ := k7
    exact k10.mv k2 uR
  · exact hJ
theorem RS.mv (k : RS G W h ts Z O s nb) (c : TkC G h' ts) (u : UK RKs h h') (e82 : fR h' (gW G 4) 82 = fR h (gW G 4) 82) (e83 : fI h' (gW G 4) 83 = fI h (gW G 4) 83) (e84 : fI h' (gW G 4) 84 = fI h (gW G 4) 84) (hN : NF G h' (rN s')) (es : s'.1 = s.1 ∧ s'.2.1 = s.2.1 ∧ s'.2.2.1 = s.2.2.1 ∧ s'.2.2.2.1 = s.2.2.2.1 ∧ s'.2.2.2.2.1 = s.2.2.2.2.1) (hl : ∀ a, hK h a ≠ 0 → hK h' a = hK h a) : RS G W h' ts Z O s' nb := by
  refine k.mv0 c (u.sub (by decide)) e82 e83 e84 hN es ?_
  have := k.2.2.2.2.2.2.2.2.2.2.2.mv (u.sub (by decide)) hl
  unfold rDt at this ⊢
  rw [es.2.2.2.2]; exact this
theorem RS.nbl (k : RS G W h ts Z O s nb) : nb ≤ 18200 := by
  obtain ⟨-, -, -, ⟨ba, -, -, -, b5, -, b7, -⟩, -, -, -, k8, k9, k10, -⟩ := k
  have := k8.cap
  have := k9.cap
  have := k10.cap
  unfold rcap at b5
  omega
theorem RS.nbe {Z' : (Nat → Nat) × (Nat → Nat) × (Nat → Nat)} (k : RS G W h ts Z O s nb) {nb' : Nat} (k' : RS G W h' ts Z' O s' nb') (eL : hL h' = hL h) (e82 : fR h' (gW G 4) 82 = fR h (gW G 4) 82) (e77 : ∀ i, i = 1085 ∨ i = 1086 ∨ i = 1059 → fR h' (gW G i) 77 = fR h (gW G i) 77) : nb' = nb := by
  obtain ⟨-, -, -, ⟨ba, b1, -, -, b5, -⟩, -⟩ := k
  obtain ⟨-, -, -, ⟨ba', b1', -, -, b5', -⟩, -⟩ := k'
  rw [e82, b1] at b1'
  cases b1'
  have er : rcap G h' = rcap G h := by
    unfold rcap rwc
    rw [e77 1085 (by decide), e77 1086 (by decide), e77 1059 (by decide), eL]
  rw [eL, er] at b5'
  omega
/-- a fault is noted -/
theorem TkC.s4 {gs : List Nat} (c : TkC G h ts) (k : S4 G gs h h') (hg : ∀ g, g ∈ gs → gfin g = false) : TkC G h' ts := by
  have s4 := c.1.at (i := 4) (by decide)
  have le : Le h h' none := by
    refine ⟨⟨Nat.le_of_eq k.1.1.1.symm, Nat.le_of_eq k.1.1.2.symm⟩, fun a ha => ?_⟩
    by_cases e : a = gW G 4
    · subst e
      refine ⟨by rw [k.1.2.1.1], by rw [k.1.2.1.2.1], fun _ g hf => k.2 g fun hm => ?_⟩
      rw [hg g hm] at hf
      cases hf
    · have := k.1.uf e
      exact ⟨this.1, this.2.1, fun _ g _ => this.2.2.2.2.2 g⟩
  have lv := tk_live (c.1.at (i := 1) (by decide))
  refine ⟨c.1.le le, c.2.1.uk (c.1.at (by decide)) fun i hi => (k.1.uf fun e => ?_).uk, c.2.2⟩
  have s1 := c.1.at (i := 1) (by decide)
  have e8 := s4.1
  rw [← e] at e8
  rcases hi with rfl | rfl | rfl | rfl | rfl
  · rw [s1.1] at e8; exact absurd e8 (by decide)
  · rw [kw1024 s1] at e8; exact absurd e8 (by decide)
  · rw [kw1025 s1] at e8; exact absurd e8 (by decide)
  · rw [kw1026 s1] at e8; exact absurd e8 (by decide)
  · rw [kw1027 s1] at e8; exact absurd e8 (by decide)
theorem S4.uK {gs : List Nat} (c : TkC G h ts) (k : S4 G gs h h') : UK RKs h h' := k.1.UK (by rw [(c.1.at (i := 4) (by decide)).1]; decide)
theorem RS.found (k : RS G W h ts Z O s nb) (w : S4 G [91, 92] h h') {N : Option (Nat × Nat)} (hN : NF G h' N) : RS G W h' ts Z O (s.1, s.2.1, s.2.2.1, s.2.2.2.1, s.2.2.2.2.1, N) nb :=
  k.mv (k.1.s4 w (by decide)) (w.uK k.1) (w.2 82 (by decide)).2.2 (w.2 83 (by decide)).1 (w.2 84 (by decide)).1 hN ⟨rfl, rfl, rfl, rfl, rfl⟩ fun a _ => by rw [w.1.2.1.1]
/-- a fault is noted if the law says so -/
theorem r_found (k : RS G W h ts Z O s nb) (ht : t < ts.length) (hn : 1 ≤ n ∧ n < 10) : C G mX9_found d [.ref (gW G 4), .int (nI n), .int (nI t)] h (fun o h' => o = .returned none ∧ S4 G [91, 92] h h' ∧ RS G W h' ts Z O (rNote (Pl ts) n t s) nb) := by
  refine C.mono (c_found k.1 k.2.1 ht hn) ?_
  rintro _ h1 ⟨rfl, w, hN⟩
  exact ⟨rfl, w, k.found w hN⟩
end
