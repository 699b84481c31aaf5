/-! THE COMPONENT'S CHECKS OF CLAUSES: a match -/
/-- useless clauses; l: tokens and shapes, bf: those before -/
def ckU (pl : Nat → Nat) : List (List Tr) → List (Nat × List Tr) → List (Nat × Nat)
  | _, [] => []
  | bf, x :: l => (if us 217 bf x.2 = true then [] else [(pl x.1, 1)]) ++ ckU pl (bf ++ [x.2]) l
def ckO (pl : Nat → Nat) (t : Nat) (rows : List (List Tr)) (c : Nat) : List (Nat × Nat) := if us 217 rows (List.replicate c (.num 0)) = true then [(pl t, 2)] else []
def wAll (ws new : List (Nat × Nat)) : List (Nat × Nat) := new.foldl wIns ws
/-- the checks' state -/
def CkS (G : Gh) (h0 hh : AH) (pa nd np f cols : Nat) (rows : List (List Tr)) (ws : List (Nat × Nat)) : Prop := FMa G h0 hh ∧ PiW G hh pa ∧ Shs G hh nd np ∧ MR G hh nd np pa 0 cols f rows ∧ MsW G hh ws ∧ 1 ≤ f
theorem tri217 : tri 217 ≤ 211000 := by decide +kernel
section
variable {G : Gh} {W : Nat → Prop} {ts : List (Nat × Nat × Nat)} {O : List (Nat × Nat) × List (Nat × Nat)} {Z : Zt} {D : Dm} {Ak : Tr → Int → Prop} {Sg : Tr → Int → List Tr → Prop} {d nd np nd' np' pa f f' cols fr at' N rc lo hi q t : Nat} {h h0 h' hh : AH} {τs r : List Tr} {x : Tr} {rows : List (List Tr)} {ws : List (Nat × Nat)} {Ct : Ctb} {Dt : Dtb}
theorem PiW.uf (w : PiW G h pa) (F : Fg G nd np h h') : Uf h h' pa := by
  obtain ⟨w1, w2, w3, w4, w5⟩ := w
  refine F.1 pa (by rw [w3]; decide) fun i hi e => ?_
  by_cases c : i = 5
  · rw [e, c, (w1.at (i := 5) (by decide)).1] at w3
    cases w3
  · have k : ∀ i, i ∈ ShC → i ≠ 5 → SA.testBit (i - 1000) = true ∧ i = 1000 + (i - 1000) := by decide +kernel
    obtain ⟨k1, k2⟩ := k i hi c
    exact w4 _ k1 (by rw [← k2]; exact e)
theorem PiW.fg (w : PiW G h pa) (F : Fg G nd np h h') : PiW G h' pa := by
  have u := w.uf F
  obtain ⟨w1, w2, w3, w4, w5⟩ := w
  exact ⟨w1.le F.2.2.2.2.2, by rw [F.2.2.2.2.1]; exact w2, u.1.trans w3, w4, u.2.1.trans w5⟩
theorem PRw.fg (k : PRw G h nd np pa at' f r) (w : PiW G h pa) (F : Fg G nd np h h') (e1 : nd ≤ nd') (e2 : np ≤ np') (e3 : f ≤ f') : PRw G h' nd' np' pa at' f' r := fun j y hy => by
  obtain ⟨i, i1, i2⟩ := k j y hy
  exact ⟨i, by rw [(w.uf F).2.2.1]; exact i1, SR.up _ _ _ (SR.mv F.sm e1 e2 _ _ _ i2) _ e3⟩
theorem MR.fg (k : MR G h nd np pa fr cols f rows) (w : PiW G h pa) (F : Fg G nd np h h') (e1 : nd ≤ nd') (e2 : np ≤ np') (e3 : f ≤ f') : MR G h' nd' np' pa fr cols f' rows := fun j r hr => by
  obtain ⟨k1, k2⟩ := k j r hr
  exact ⟨k1, k2.fg w F e1 e2 e3⟩
theorem FMa.ot (F : FMa G h h') (hW : ∀ a, W a → FIx G h a) (hx : TR lo hi x) (o : OTG (XA ts W O Z D h) W h x 0 0 q) : OTG (XA ts W O Z D h') W h' x 0 0 q := o.k1 (KW.of (lo := 0) (hi := 0) F.2.2.1 fun a ha => F.uw (hW a ha)) Ext.rf (Or.inr (Nat.zero_le _)) hx
theorem FMa.ck (F : FMa G h h') (w : PiW G h pa) (k : CkW Z Ct Dt h) : CkW Z Ct Dt h' := by
  have hp : ∀ x, fR h (gW G 5) 103 = some x → hK h x = 1000 := fun x e => by
    cases w.2.1.symm.trans e
    exact w.2.2.1
  intro c x hx
  obtain ⟨k1, k2, k3, y, k4, k5, k6, k7⟩ := k c x hx
  have u := F.uo w.1 hp (a := Z.2.1 c) (by rw [k1]; decide) (by rw [k1]; decide) (by rw [k1]; decide)
  have v := F.uo w.1 hp (a := Z.2.2 x.2.1) (by rw [k5]; decide) (by rw [k5]; decide) (by rw [k5]; decide)
  exact ⟨u.1.trans k1, (u.2.2.2.2.2 369).1.trans k2, (u.2.2.2.2.2 368).2.2.trans k3, y, k4, v.1.trans k5, (v.2.2.2.2.2 54).1.trans k6, k7⟩
/-- some row on the pile changes from a place on -/
theorem CkS.pf {top : Nat} (k : CkS G h0 h pa nd np f cols rows ws) (P : Pf pa top h h') (e : rows.length * cols ≤ top) : CkS G h0 h' pa nd np f cols rows ws := by
  obtain ⟨k1, k2, k3, k4, k5, k6⟩ := k
  exact ⟨k1.tr (P.fm k2.2.1), P.pw k2, ⟨by rw [P.1.2.2.1]; exact k3.1, by rw [P.1.2.2.1]; exact k3.2.1, k3.2.2⟩, P.mr k2 k4 (by omega), k5.pf P k2, k6⟩
theorem Pf.uu {top : Nat} (P : Pf pa top h h') : un h' = un h := by unfold un; rw [P.2.2.1.1, P.2.2.1.2]
/-- whether some value fits no row -/
theorem c_open {place : Nat} (hD : DW (gW G)) (hA : ∀ τ a b, Ak τ a → Ak τ b → a = b) (hS : ∀ τ h l l', Sg τ h l → Sg τ h l' → l = l') (k : CkS G h0 h pa nd np f τs.length rows ws) (h8 : rows.length ≤ 8) (hc : τs.length ≤ 24) (hT : ∀ r, r ∈ rows → rTy1 Ak Sg τs r) (hpsi : τs.length + pqr rows < 217) (hw : ws.length < 1900) (hpl : place < 5000) : C G mX10_open (d + 435) [.ref (gW G 5), .int (nI rows.length), .int (nI τs.length), .int (nI place)] h (fun o h' => o = .returned none ∧ FMa G h0 h' ∧ un h' = un h ∧ MsW G h' (wAll ws (if us 217 rows (List.replicate τs.length (.num 0)) = true then [(place, 2)] else []))) := by
  obtain ⟨k1, k2, k3, k4, k5, k6⟩ := id k
  have hm : rows.length * τs.length ≤ 8 * 24 := Nat.mul_le_mul h8 hc
  have epsi : psi rows (List.replicate τs.length (.num 0)) = (List.replicate τs.length (Int.Internal.Linear.Expr.num 0)).length + pqs (List.replicate τs.length (.num 0)) + pqr rows := rfl
  rw [List.length_replicate, pqs_rep] at epsi
  have ht := tri_le (show psi rows (List.replicate τs.length (.num 0)) ≤ 217 by omega)
  have t217 := tri217
  have lp : ∀ (e j : Nat) (hh : AH), j + e = τs.length → Pf pa (rows.length * τs.length) h hh → (∀ i, i < j → aI hh pa (rows.length * τs.length + i) = nI 0) →
      X G mX10_open (d + 435) none [] 3 [(0, .ref (gW G 5)), (1, .int (nI rows.length)), (2, .int (nI τs.length)), (3, .int (nI place)), (4, .int (nI j))] [] hh (fun o h' => o = .returned none ∧ FMa G h0 h' ∧ un h' = un h ∧ MsW G h' (wAll ws (if us 217 rows (List.replicate τs.length (.num 0)) = true then [(place, 2)] else []))) := by
    intro e
    induction e with
    | zero =>
      intro j hh he P hj
      have kk := k.pf P (Nat.le_refl _)
      obtain ⟨q1, q2, q3, q4, q5, q6⟩ := id kk
      refine bX10_open_3 G (d + 434) hh _ _ _ _ _ (q2.1.at (by decide)) ?_
      rw [nI_leI (by omega) (by omega)]
      refine ⟨fun _ => ?_, fun z => absurd (by omega) z⟩
      rw [nI_mul]
      have := us_all (G := G) hA hS 217 d hh nd np pa 0 (rows.length * τs.length) f rows (List.replicate τs.length (.num 0)) τs q2 ⟨by have := k3.2.2; omega, by have := k3.2.2; omega, k3.2.2.1⟩ (by rw [List.length_replicate]; exact q4) (fun i y hy => ?_) h8 (by rw [List.length_replicate]; omega) (by rw [List.length_replicate]; omega) (by omega) hT (rTy1.rep rfl) k6
      · rw [List.length_replicate] at this
        refine C.mono this ?_
        rintro _ h2 ⟨rfl, P2⟩
        have kk2 := kk.pf P2 (by omega)
        refine KI.i ⟨fun hz => ?_, fun hz => ?_⟩
        · rw [b2_0.mp hz]
          exact ⟨rfl, kk2.1, by rw [P2.uu, P.uu], kk2.2.2.2.2.1⟩
        · have hu : us 217 rows (List.replicate τs.length (.num 0)) = true := by
            cases e : us 217 rows (List.replicate τs.length (.num 0)) with
            | true => rfl
            | false => rw [e] at hz; exact absurd rfl hz
          rw [hu]
          refine C.mono (c_warn (x := (place, 2)) kk2.2.1.1 hD kk2.2.2.2.2.1 hw ⟨hpl, by show (2 : Nat) < 5000; decide⟩) ?_
          rintro _ h6 ⟨rfl, m, F, u, -⟩
          exact KV.i ⟨rfl, kk2.1.tr F, by rw [u, P2.uu, P.uu], m⟩
      · have hy' := (List.getElem?_eq_some_iff.mp hy).1
        rw [List.length_replicate] at hy'
        refine ⟨0, hj i (by omega), ?_⟩
        rw [(List.mem_replicate.mp (List.mem_of_getElem? hy)).2]
        cases f with
        | zero => omega
        | succ f => exact Or.inl ⟨rfl, rfl⟩
    | succ e IH =>
      intro j hh he P hj
      have kk := k.pf P (Nat.le_refl _)
      obtain ⟨q1, q2, q3, q4, q5, q6⟩ := id kk
      obtain ⟨w1, w2, w3, w4, w5⟩ := id q2
      refine bX10_open_3 G (d + 434) hh _ _ _ _ _ (q2.1.at (by decide)) ?_
      rw [nI_leI (by omega) (by omega)]
      refine ⟨fun z => by omega, fun _ => ⟨pa, w2, w3, w4, ?_⟩⟩
      rw [nI_mul, nI_add, nI_cn (by omega), w5]
      refine ⟨vp_i (by omega) (by omega), ?_⟩
      rintro h12 e12 _ rfl
      rw [nI_1]
      refine IH (j + 1) h12 (by omega) (by rw [e12]; exact P.sI (by omega)) fun i hi => ?_
      rw [e12, aI_sI]
      by_cases c : i = j
      · rw [if_pos ⟨rfl, by omega⟩]; rfl
      · rw [if_neg fun z => by omega]
        exact hj i (by omega)
  exact bX10_open G (d + 434) h _ _ _ _ (lp τs.length 0 h (by omega) Pf.rf fun i hi => by omega)
/-- one clause: tree, token, shapes -/
def clF (N rc : Nat) (Ct : Ctb) (Dt : Dtb) (c : Tr) (t : Nat) (r : List Tr) : Prop := ∃ (v : Int) (ps : List Tr) (e : Tr), c = n3 50 t (.num v) (ls ps) e ∧ (∀ p, p ∈ ps → sPt N Ct rc 30 p) ∧ r = ps.map (shp Ct Dt 30) ∧ r.length + pqs r ≤ 24
theorem nw_c {t : Nat} {v : Int} {ps : List Tr} {e : Tr} : nw (n3 50 t (.num v) (ls ps) e) = nw (ls ps) + nw e + 1 := by
  show 0 + (0 + (nw (ls ps) + nw e)) + 1 = _
  omega
/-- the shapes of a clause's patterns -/
theorem ck_41 {r0 b0 arr i tok : Nat} {ps : List Tr} (hD : DW (gW G)) (hrc : rc ≤ Ct.length) (hW : ∀ a, W a → FIx G h0 a) (sA : SoA G h0) (ck : CkW Z Ct Dt h0) (w0 : PiW G h0 pa) (hWb : W b0) (hkb : hK h0 b0 = 29) (eA : ArF W h0 b0 317 arr) (hla : hL h0 arr = ps.length) (htg : ∀ (j : Nat) (x : Tr), ps[j]? = some x → sPt N Ct rc 30 x ∧ TR lo hi x ∧ ∃ b, aR h0 arr j = some b ∧ OTG (XA ts W O Z D h0) W h0 x 0 0 b) (hps : ps.length = cols) (hcols : cols ≤ 24) (hi8 : i ≤ 7) {Q : Outcome → AH → Prop}
    (K : ∀ (hh : AH) (nd1 np1 f1 : Nat), CkS G h0 hh pa nd1 np1 f1 cols rows ws → PRw G hh nd1 np1 pa (i * cols) f1 (ps.map (shp Ct Dt 30)) → (nd1 ≤ nd + (ps.map (shp Ct Dt 30)).length + pqs (ps.map (shp Ct Dt 30)) ∧ np1 ≤ np + pqs (ps.map (shp Ct Dt 30))) → un hh ≤ un h + uq ps →
      X G mX10_check (d + 66) none [] 91 [(0, .ref (gW G 5)), (1, .ref r0), (2, .ref (gW G 1)), (3, .int (nI tok)), (4, .int (nI cols)), (5, .int (nI i)), (6, .int (nI i)), (7, .ref b0), (8, .int (nI ((i + 1) * cols))), (9, .int (nI 0))] [] hh Q) (hri : rows.length = i) (hb1 : nd + (ps.map (shp Ct Dt 30)).length + pqs (ps.map (shp Ct Dt 30)) ≤ 1000) (hb2 : np + pqs (ps.map (shp Ct Dt 30)) ≤ 1000) (hb3 : un h + uq ps + 16 ≤ UB) :
    ∀ (ps2 ps1 : List Tr) (hh : AH) (nd1 np1 f1 : Nat), ps = ps1 ++ ps2 → CkS G h0 hh pa nd1 np1 f1 cols rows ws → PRw G hh nd1 np1 pa (i * cols) f1 (ps1.map (shp Ct Dt 30)) → (nd1 ≤ nd + ps1.length + pqs (ps1.map (shp Ct Dt 30)) ∧ np1 ≤ np + pqs (ps1.map (shp Ct Dt 30))) → un hh ≤ un h + uq ps1 →
      X G mX10_check (d + 66) none [] 41 [(0, .ref (gW G 5)), (1, .ref r0), (2, .ref (gW G 1)), (3, .int (nI tok)), (4, .int (nI cols)), (5, .int (nI i)), (6, .int (nI i)), (7, .ref b0), (8, .int (nI ps1.length))] [] hh Q := by
  intro ps2
  induction ps2 with
  | nil =>
    intro ps1 hh nd1 np1 f1 he S R hb hu
    rw [List.append_nil] at he
    subst he
    obtain ⟨q1, q2, q3, q4, q5, q6⟩ := id S
    refine bX10_check_41 G (d + 65) hh _ _ _ _ _ _ _ _ (q2.1.at (by decide)) ?_
    rw [nI_leI (by omega) (by omega)]
    refine ⟨fun _ => ?_, fun z => absurd (by omega) z⟩
    rintro _ rfl
    rw [nI_1, nI_mul]
    exact K hh nd1 np1 f1 S R (by rw [List.length_map]; exact hb) hu
  | cons p ps2 IH =>
    intro ps1 hh nd1 np1 f1 he S R hb hu
    obtain ⟨q1, q2, q3, q4, q5, q6⟩ := id S
    obtain ⟨w1, w2, w3, w4, w5⟩ := id q2
    have hj : ps[ps1.length]? = some p := by rw [he, List.getElem?_append_right (Nat.le_refl _), Nat.sub_self]; rfl
    have hjl := (List.getElem?_eq_some_iff.mp hj).1
    obtain ⟨hp, hTp, b, fb, ob⟩ := htg _ p hj
    have ux := q1.uw (hW b0 hWb)
    have ua := q1.uw (hW arr eA.2.2)
    have e1 : pqs (ps.map (shp Ct Dt 30)) = pqs (ps1.map (shp Ct Dt 30)) + (pq (shp Ct Dt 30 p) + pqs (ps2.map (shp Ct Dt 30))) := by rw [he, List.map_append, pqs_ap]; rfl
    have e2 : (ps.map (shp Ct Dt 30)).length = ps1.length + (ps2.length + 1) := by rw [List.length_map, he, List.length_append]; rfl
    have e3 : uq ps = uq ps1 + (6 * (nw p - 1) + uq ps2) := by rw [he, uq_ap]; rfl
    have hic : i * cols ≤ 7 * 24 := Nat.mul_le_mul hi8 hcols
    refine bX10_check_41 G (d + 65) hh _ _ _ _ _ _ _ _ (q2.1.at (by decide)) ?_
    rw [nI_leI (by omega) (by omega)]
    refine ⟨fun z => by omega, fun _ => ⟨pa, w2, ux.1.trans hkb, arr, (ux.2.2.2.2.2 317).2.2.trans eA.1, ua.1.trans eA.2.1, by rw [ua.2.1, hla]; exact vp_i hjl (by omega), b, by rw [nI_cn (by omega), ua.2.2.2.2.1]; exact fb, ?_⟩⟩
    have hS30 := sh_all (W := W) (ts := ts) (O := O) (Z := Z) (D := D) (N := N) (Ct := Ct) (Dt := Dt) (rc := rc) hD 30 (d + 3)
    rw [show d + 3 + 2 * 30 + 2 = d + 65 by omega] at hS30
    obtain ⟨k2, ν2, v1, v2, v3⟩ := hS30 p b lo hi hh nd1 np1 hp hrc hTp (q1.ot hW hTp ob) q2.1 (q1.ck w0 ck) (fun a ha => q1.fx (hW a ha)) q3 (by omega) (by omega) (by omega)
    refine ⟨k2, ν2, v1, v2, C.mono v3 ?_⟩
    rintro _ h9 ⟨i9, nd2, np2, f2, rfl, sr2, S2, ⟨c1, c2⟩, ⟨c3, c4⟩, F2, u2⟩
    have w9 := q2.fg F2
    obtain ⟨w91, w92, w93, w94, w95⟩ := id w9
    refine KI.i ⟨w93, w94, ?_⟩
    rw [nI_mul, nI_add, nI_cn (by omega), w95]
    refine ⟨vp_i (by omega) (by omega), ?_⟩
    rintro h17 e17 _ rfl
    rw [nI_1]
    have P17 : Pf pa (i * cols + ps1.length) h9 h17 := by rw [e17]; exact Pf.rf.sI (Nat.le_refl _)
    have S9 : CkS G h0 h9 pa nd2 np2 (max f1 f2) cols rows ws := ⟨q1.tr F2.fm, w9, S2, q4.fg q2 F2 c1 c3 (Nat.le_max_left ..), q5.fg F2 q2.1 hD, by omega⟩
    have ih := IH (ps1 ++ [p]) h17 nd2 np2 (max f1 f2) (by rw [he, List.append_assoc]; rfl) (S9.pf P17 (by rw [hri]; omega)) (fun j y hy => ?_) ⟨?_, ?_⟩ ?_
    · rw [List.length_append] at ih
      exact ih
    · rw [List.map_append] at hy
      by_cases c : j < ps1.length
      · rw [List.getElem?_append_left (by rw [List.length_map]; exact c)] at hy
        obtain ⟨z, z1, z2⟩ := (R.fg q2 F2 c1 c3 (Nat.le_max_left f1 f2)) j y hy
        exact ⟨z, by rw [P17.2.2.2 pa _ (Or.inr (by omega))]; exact z1, P17.sr w9 z2⟩
      · have hyl := (List.getElem?_eq_some_iff.mp hy).1
        rw [List.length_append, List.length_map] at hyl
        have ej : j = ps1.length := by
          have : ([p].map (shp Ct Dt 30)).length = 1 := rfl
          omega
        rw [ej, List.getElem?_append_right (by rw [List.length_map]; exact Nat.le_refl _), List.length_map, Nat.sub_self] at hy
        cases hy
        rw [ej]
        exact ⟨i9, by rw [e17, aI_sI, if_pos ⟨rfl, rfl⟩], P17.sr w9 (SR.up _ _ _ sr2 _ (Nat.le_max_right ..))⟩
    · rw [List.length_append, List.map_append, pqs_ap]
      show nd2 ≤ nd + (ps1.length + 1) + (pqs (ps1.map (shp Ct Dt 30)) + (pq (shp Ct Dt 30 p) + 0))
      omega
    · rw [List.map_append, pqs_ap]
      show np2 ≤ np + (pqs (ps1.map (shp Ct Dt 30)) + (pq (shp Ct Dt 30 p) + 0))
      omega
    · rw [uq_ap, P17.uu]
      show un h9 ≤ un h + (uq ps1 + (6 * (nw p - 1) + 0))
      omega
/-- a clause's row once more -/
theorem ck_91 {r0 b0 i tok : Nat} (k : CkS G h0 h pa nd np f cols rows ws) (hri : rows.length = i) (hrl : r.length = cols) (R : PRw G h nd np pa (i * cols) f r) (hcols : cols ≤ 24) (hi8 : i ≤ 7) {Q : Outcome → AH → Prop}
    (K : ∀ (hh : AH), CkS G h0 hh pa nd np f cols rows ws → PRw G hh nd np pa (i * cols) f r → PRw G hh nd np pa ((i + 1) * cols) f r → un hh = un h → X G mX10_check (d + 1) none [] 91 [(0, .ref (gW G 5)), (1, .ref r0), (2, .ref (gW G 1)), (3, .int (nI tok)), (4, .int (nI cols)), (5, .int (nI i)), (6, .int (nI i)), (7, .ref b0), (8, .int (nI ((i + 1) * cols))), (9, .int (nI cols))] [] hh Q) :
    ∀ (e j : Nat) (hh : AH), j + e = cols → Pf pa ((i + 1) * cols) h hh → (∀ (m : Nat) (y : Tr), m < j → r[m]? = some y → ∃ z, aI hh pa ((i + 1) * cols + m) = nI z ∧ SR G hh nd np f y z) →
      X G mX10_check (d + 1) none [] 91 [(0, .ref (gW G 5)), (1, .ref r0), (2, .ref (gW G 1)), (3, .int (nI tok)), (4, .int (nI cols)), (5, .int (nI i)), (6, .int (nI i)), (7, .ref b0), (8, .int (nI ((i + 1) * cols))), (9, .int (nI j))] [] hh Q := by
  have hm : (i + 1) * cols = i * cols + cols := Nat.succ_mul ..
  have hic : i * cols ≤ 7 * 24 := Nat.mul_le_mul hi8 hcols
  intro e
  induction e with
  | zero =>
    intro j hh he P hj
    have ej : j = cols := by omega
    rw [ej]
    exact K hh (k.pf P (by rw [hri]; omega)) (P.pr k.2.1 R (by omega)) (fun m y hy => hj m y (by have := (List.getElem?_eq_some_iff.mp hy).1; omega) hy) P.uu
  | succ e IH =>
    intro j hh he P hj
    have kk := k.pf P (by rw [hri]; omega)
    obtain ⟨q1, q2, q3, q4, q5, q6⟩ := id kk
    obtain ⟨w1, w2, w3, w4, w5⟩ := id q2
    obtain ⟨y, hy⟩ : ∃ y, r[j]? = some y := ⟨_, List.getElem?_eq_getElem (by omega)⟩
    obtain ⟨z, z1, z2⟩ := (P.pr k.2.1 R (by omega)) j y hy
    refine bX10_check_91 G d hh _ _ _ _ _ _ _ _ _ (q2.1.at (by decide)) (q2.1.at (by decide)) ?_
    rw [nI_leI (by omega) (by omega)]
    refine ⟨fun z => by omega, fun _ => ⟨pa, w2, pa, w2, w3, ?_⟩⟩
    rw [nI_mul, nI_add, nI_add, nI_cn (by omega), nI_cn (by omega), w5, z1]
    refine ⟨vp_i (by omega) (by omega), w3, w4, vp_i (by omega) (by omega), ?_⟩
    rintro h22 e22 _ rfl
    rw [nI_1]
    have Ph : Pf pa ((i + 1) * cols + j) hh h22 := by rw [e22]; exact Pf.rf.sI (Nat.le_refl _)
    refine IH (j + 1) h22 (by omega) (by rw [e22]; exact P.sI (by omega)) fun m x hm' hx => ?_
    by_cases c : m = j
    · rw [c] at hx
      cases hy.symm.trans hx
      rw [c]
      exact ⟨z, by rw [e22, aI_sI, if_pos ⟨rfl, rfl⟩], Ph.sr q2 z2⟩
    · obtain ⟨z', z3, z4⟩ := hj m x (by omega) hx
      exact ⟨z', by rw [Ph.2.2.2 pa _ (Or.inr (by omega))]; exact z3, Ph.sr q2 z4⟩
end
