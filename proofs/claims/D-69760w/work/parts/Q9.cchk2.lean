/-! THE COMPONENT'S CHECKS OF CLAUSES: a match, whole -/
section
variable {G : Gh} {W : Nat → Prop} {ts : List (Nat × Nat × Nat)} {O : List (Nat × Nat) × List (Nat × Nat)} {Z : Zt} {D : Dm} {Ak : Tr → Int → Prop} {Sg : Tr → Int → List Tr → Prop} {d nd np pa f N rc lo hi r0 tok : Nat} {h h0 h' : AH} {τs : List Tr} {ws : List (Nat × Nat)} {Ct : Ctb} {Dt : Dtb}
theorem wAll_ap {a b : List (Nat × Nat)} : wAll ws (a ++ b) = wAll (wAll ws a) b := List.foldl_append ..
theorem wAll_len : ∀ (a : List (Nat × Nat)) (ws : List (Nat × Nat)), (wAll ws a).length = ws.length + a.length := by
  intro a
  induction a with
  | nil => intro ws; rfl
  | cons x a ih =>
    intro ws
    show (wAll (wIns ws x) a).length = _
    rw [ih, wIns_len, List.length_cons]
    omega
theorem nw_ls2 : ∀ a b : List Tr, nw (ls (a ++ b)) = nw (ls a) + nw (ls b) := by
  intro a b
  induction a with
  | nil => exact (Nat.zero_add _).symm
  | cons x a ih =>
    show nw x + nw (ls (a ++ b)) = nw x + nw (ls a) + nw (ls b)
    rw [ih]
    omega
theorem pqr_ap : ∀ a b : List (List Tr), pqr (a ++ b) = pqr a + pqr b := by
  intro a b
  induction a with
  | nil => exact (Nat.zero_add _).symm
  | cons x a ih =>
    show pqs x + pqr (a ++ b) = pqs x + pqr a + pqr b
    rw [ih]
    omega
theorem pqr_24 : ∀ l : List (List Tr), (∀ r, r ∈ l → pqs r ≤ 24) → pqr l ≤ 24 * l.length := by
  intro l
  induction l with
  | nil => intro _; exact Nat.le_refl _
  | cons r l ih =>
    intro h
    have h1 := h r (List.mem_cons_self ..)
    have h2 := ih fun x hx => h x (List.mem_cons_of_mem _ hx)
    show pqs r + pqr l ≤ 24 * (l.length + 1)
    omega
/-- the room for the patterns of clauses -/
def uqc : List Tr → Nat
  | [] => 0
  | k :: l => uq (clP k) + uqc l
theorem uqc_ap : ∀ a b : List Tr, uqc (a ++ b) = uqc a + uqc b := by
  intro a b
  induction a with
  | nil => exact (Nat.zero_add _).symm
  | cons x a ih => show _ + uqc (a ++ b) = _ + uqc a + uqc b; rw [ih]; omega
/-- the clauses that are left -/
theorem ck_21 (hD : DW (gW G)) (hA : ∀ τ a b, Ak τ a → Ak τ b → a = b) (hS : ∀ τ h l l', Sg τ h l → Sg τ h l' → l = l') (hrc : rc ≤ Ct.length) (hW : ∀ a, W a → FIx G h0 a) (sA : SoA G h0) (ck : CkW Z Ct Dt h0) (w0 : PiW G h0 pa) {l : List Tr} (rl : RowL W h0 r0 l.length) (tg : TG (XA ts W O Z D h0) W h0 (rowAt h0 r0) l) (hTR : ∀ c, c ∈ l → TR lo hi c) (hl8 : l.length ≤ 8) (hτ : τs.length ≤ 24) (htok : tok < ts.length) (htl : ts.length ≤ 1300) (hts : ∀ t, t < ts.length → Pl ts t < 5000 ∧ aI h0 (gW G 1025) t = nI (Pl ts t)) (hhi : hi ≤ ts.length) (hu : un h0 + uqc l + 16 ≤ UB) :
    ∀ (l2 l1 : List Tr) (x2 x1 : List (Nat × List Tr)) (hh : AH) (nd np f : Nat) (ws0 ws1 : List (Nat × Nat)), l = l1 ++ l2 → x1.length = l1.length → (x2.length = l2.length ∧ ∀ (i : Nat) (c : Tr) (x : Nat × List Tr), l2[i]? = some c → x2[i]? = some x → clF N rc Ct Dt c x.1 x.2 ∧ rTy1 Ak Sg τs x.2) → (∀ x, x ∈ x1 → rTy1 Ak Sg τs x.2 ∧ pqs x.2 ≤ 24) → CkS G h0 hh pa nd np f τs.length (x1.map (·.2)) ws1 → (nd ≤ 1 + 24 * l1.length ∧ np ≤ 24 * l1.length) → un hh ≤ un h0 + uqc l1 → (ws1 = ws0 ∧ ws1.length + l2.length < 1900) →
      X G mX10_check (d + 500) none [] 21 [(0, .ref (gW G 5)), (1, .ref r0), (2, .ref (gW G 1)), (3, .int (nI tok)), (4, .int (nI τs.length)), (5, .int (nI l1.length)), (6, .int (nI l1.length))] [] hh (fun o h' => o = .returned none ∧ FMa G h0 h' ∧ un h' ≤ un h0 + uqc l ∧ MsW G h' (wAll ws0 (ckU (Pl ts) (x1.map (·.2)) x2 ++ ckO (Pl ts) tok ((x1 ++ x2).map (·.2)) τs.length))) := by
  have s1 := sA.at (i := 1) (by decide)
  intro l2
  induction l2 with
  | nil =>
    intro l1 x2 x1 hh nd np f ws0 ws1 he hx1 hx2 hxt S hb hun hws
    obtain ⟨q1, q2, q3, q4, q5, q6⟩ := id S
    rw [List.append_nil] at he
    obtain ⟨rl1, ra1, -⟩ := rl.mvs (N' := W) (h' := hh) fun a ha _ => ⟨(q1.uw (hW a ha)).us, ha⟩
    obtain ⟨z1, z2, z3, z4⟩ := row_sz rl1
    have ex2 : x2 = [] := List.eq_nil_of_length_eq_zero hx2.1
    have hl1 : l1.length = l.length := by rw [he]
    refine bX10_check_21 G (d + 499) hh _ _ _ _ _ _ (q2.1.at (by decide)) (q2.1.at (by decide)) ⟨z1, ?_⟩
    rw [z2, nI_leI (by omega) (by omega)]
    refine ⟨fun _ => ?_, fun z => absurd (by omega) z⟩
    have hp : ∀ x, fR h0 (gW G 5) 103 = some x → hK h0 x = 1000 := fun x e => by
      cases w0.2.1.symm.trans e
      exact w0.2.2.1
    have u25 : aI hh (gW G 1025) = aI h0 (gW G 1025) := (q1.1 (gW G 1025) (by rw [kw1025 s1]; decide) (fun i hi e => by
      have w : ∀ i, i ∈ MaD → IW.testBit i = true ∧ i ≠ 1025 := by decide +kernel
      exact (w i hi).2 (hD 1025 i (by decide +kernel) (w i hi).1 e).symm) (fun e => by
      cases w0.2.1.symm.trans e
      exact w0.2.2.2.1 25 (by decide +kernel) rfl)).2.2.1
    obtain ⟨t1, t2⟩ := hts tok htok
    rw [nI_cn (by omega), u25, t2]
    refine ⟨vp_i (by omega) (by omega), ?_⟩
    have hr8 : (x1.map (·.2)).length = l1.length := by rw [List.length_map, hx1]
    rw [← hr8]
    have hq24 := pqr_24 (x1.map (·.2)) fun r hr => by
      obtain ⟨x, hx, e⟩ := List.mem_map.mp hr
      rw [← e]
      exact (hxt x hx).2
    have hro : ∀ r, r ∈ x1.map (·.2) → rTy1 Ak Sg τs r := fun r hr => by
      obtain ⟨x, hx, e⟩ := List.mem_map.mp hr
      rw [← e]
      exact (hxt x hx).1
    refine C.mono (c_open (d := d + 64) hD hA hS S (by omega) hτ hro (by omega) (by have := hws.2; omega) t1) ?_
    rintro _ h4 ⟨rfl, F, u, m⟩
    refine KV.i ⟨rfl, F, by rw [he] at *; omega, ?_⟩
    rw [← hws.1, ex2, List.append_nil]
    show MsW G h4 (wAll ws1 ([] ++ ckO (Pl ts) tok (x1.map (·.2)) τs.length))
    exact m
  | cons c l2 IH =>
    intro l1 x2 x1 hh nd np f ws0 ws1 he hx1 hx2 hxt S hb hun hws
    obtain ⟨q1, q2, q3, q4, q5, q6⟩ := id S
    obtain ⟨rl1, ra1, -⟩ := rl.mvs (N' := W) (h' := hh) fun a ha _ => ⟨(q1.uw (hW a ha)).us, ha⟩
    obtain ⟨z1, z2, z3, z4⟩ := row_sz rl1
    have hj : l[l1.length]? = some c := by rw [he, List.getElem?_append_right (Nat.le_refl _), Nat.sub_self]; rfl
    have hjl := (List.getElem?_eq_some_iff.mp hj).1
    have hll : l.length = l1.length + (l2.length + 1) := by rw [he, List.length_append]; rfl
    obtain ⟨b0, fb, ob⟩ := tg _ c hj
    cases x2 with
    | nil => cases hx2.1
    | cons x x2 =>
    obtain ⟨⟨v, ps, e, ec, hps, hr, hr24⟩, hxty⟩ := hx2.2 0 c x rfl rfl
    have hTc := hTR c (List.mem_of_getElem? hj)
    rw [ec] at ob hTc
    obtain ⟨hWb, hkb, ⟨ex, -⟩, oy⟩ := (OTG_nd (k := 50) (y := .add (.num v) (.add (ls ps) e)) (by decide)).mp ob
    have hk29 : hK h0 b0 = 29 := by simpa [kc] using hkb
    rw [OTG_c2 (by decide) (by decide)] at oy
    have oy2 := (OTG_c2 (by decide) (by decide)).mp oy.2
    obtain ⟨arr, eA, hla, tga⟩ := OTG_arr.mp oy2.1
    have hTps : TR lo hi (ls ps) := hTc.2.2.2.2.1
    have ub := q1.uw (hW b0 hWb)
    obtain ⟨rl0, rn, rc0, -, rb⟩ := row_get (i := l1.length) rl1 (by rw [ra1]; exact fb) (by omega)
    have hpl : ps.length = τs.length := by rw [← hxty.1, hr, List.length_map]
    have hrl : x.2.length = τs.length := hxty.1
    have hwc : uq (clP c) = uq ps := by
      rw [ec]
      show uq (unl (ls ps)) = uq ps
      rw [unl_ls]
    have hwl : uqc l = uqc l1 + (uq ps + uqc l2) := by rw [he, uqc_ap, ← hwc]; rfl
    have hxl : (x1.map (·.2)).length = l1.length := by rw [List.length_map, hx1]
    refine bX10_check_21 G (d + 499) hh _ _ _ _ _ _ (q2.1.at (by decide)) (q2.1.at (by decide)) ⟨z1, ?_⟩
    rw [z2, nI_leI (by omega) (by omega)]
    refine ⟨fun z => by omega, fun _ => ?_⟩
    refine C.rr ((c_rcl (d := d) rc0 rb (ub.1.trans hk29)).up (by omega)) ?_
    have hrm : pqs (ps.map (shp Ct Dt 30)) = pqs x.2 := by rw [hr]
    have hrm2 : (ps.map (shp Ct Dt 30)).length = x.2.length := by rw [hr]
    have := ck_41 (d := d + 434) (h := hh) (nd := nd) (np := np) (rows := x1.map (·.2)) (ws := ws1) (r0 := r0) (tok := tok) (i := l1.length) (cols := τs.length) hD hrc hW sA ck w0 hWb hk29 eA hla (fun j y hy => by
        obtain ⟨b, y1, y2⟩ := tga j y hy
        exact ⟨hps y (List.mem_of_getElem? hy), TR.ls_at hTps y (List.mem_of_getElem? hy), b, y1, y2⟩) hpl hτ (by omega) (Q := fun o h' => o = .returned none ∧ FMa G h0 h' ∧ un h' ≤ un h0 + uqc l ∧ MsW G h' (wAll ws0 (ckU (Pl ts) (x1.map (·.2)) (x :: x2) ++ ckO (Pl ts) tok ((x1 ++ x :: x2).map (·.2)) τs.length))) ?_ hxl (by omega) (by omega) (by omega) ps [] hh nd np f rfl S (fun j y hy => (by cases hy)) ⟨Nat.le_add_right .., Nat.le_add_right ..⟩ (Nat.le_add_right ..)
    · exact this
    · intro h1 nd1 np1 f1 S1 R1 hb1 hu1
      rw [← hr] at R1 hb1
      refine ck_91 (d := d + 499) (f := f1) (nd := nd1) (np := np1) (h := h1) S1 hxl hrl R1 hτ (by omega) ?_ τs.length 0 h1 (by omega) Pf.rf (fun m y hm => by omega)
      intro h2 S2 R2 R3 hu2
      obtain ⟨g1, g2, g3, g4, g5, g6⟩ := id S2
      have hmm : (l1.length + 1) * τs.length = l1.length * τs.length + τs.length := Nat.succ_mul ..
      have hm8 : l1.length * τs.length ≤ 7 * 24 := Nat.mul_le_mul (by omega) hτ
      have hro : ∀ r, r ∈ x1.map (·.2) → rTy1 Ak Sg τs r := fun r hr => by
        obtain ⟨y, hy, ey⟩ := List.mem_map.mp hr
        rw [← ey]
        exact (hxt y hy).1
      have hq24 := pqr_24 (x1.map (·.2)) fun r hr => by
        obtain ⟨y, hy, ey⟩ := List.mem_map.mp hr
        rw [← ey]
        exact (hxt y hy).2
      have epsi : psi (x1.map (·.2)) x.2 = x.2.length + pqs x.2 + pqr (x1.map (·.2)) := rfl
      have ht := tri_le (show psi (x1.map (·.2)) x.2 ≤ 217 by omega)
      have t217 := tri217
      refine bX10_check_91 G (d + 499) h2 _ _ _ _ _ _ _ _ _ (g2.1.at (by decide)) (g2.1.at (by decide)) ⟨fun _ => ?_, fun z => absurd (by rw [nI_leI (by omega) (by omega)]; exact Nat.le_refl _) z⟩
      have hus := us_all (G := G) hA hS 217 (d + 65) h2 nd1 np1 pa 0 ((l1.length + 1) * τs.length) f1 (x1.map (·.2)) x.2 τs g2 ⟨by have := g3.2.2; omega, by have := g3.2.2; omega, g3.2.2.1⟩ (by rw [hrl]; exact g4) R3 (by omega) (by rw [hrl, hxl]; omega) (by rw [hrl]; omega) (by omega) hro hxty g6
      rw [hrl, hxl] at hus
      have ub2 := g1.uw (hW b0 hWb)
      have htk : fI h2 b0 316 = nI x.1 := by
        have := ex.2.2.1
        rw [show tf (hK h0 b0) = 316 by rw [hk29]; rfl] at this
        rw [(ub2.2.2.2.2.2 316).1, i_eq, this, nI_toInt (by have := hTc.2.1; have e' : tkn (.add (.num (x.1 : Int)) (.add (.num v) (.add (ls ps) e))) = x.1 := rfl; have := hTc.2.1; omega)]
        rfl
      have hxt1 : x.1 < ts.length := by
        have h2 : (tkn (.add (.num (x.1 : Int)) (.add (.num v) (.add (ls ps) e))) : Int) < hi := hTc.2.1
        have e' : tkn (.add (.num (x.1 : Int)) (.add (.num v) (.add (ls ps) e))) = x.1 := rfl
        omega
      obtain ⟨t1, t2⟩ := hts x.1 hxt1
      -- on with the next clause
      have nxt : ∀ (h3 : AH) (wn : List (Nat × Nat)), (wn = if us 217 (x1.map (·.2)) x.2 = true then [] else [(Pl ts x.1, 1)]) → CkS G h0 h3 pa nd1 np1 f1 τs.length ((x1 ++ [x]).map (·.2)) (wAll ws1 wn) → un h3 = un h2 → ∀ x6 : Int32, x6 = nI l1.length + 1 → ∀ x7 : Int32, x7 = nI l1.length + 1 → X G mX10_check (d + 500) none [] 21 [(0, .ref (gW G 5)), (1, .ref r0), (2, .ref (gW G 1)), (3, .int (nI tok)), (4, .int (nI τs.length)), (5, .int x6), (6, .int x7)] [] h3 (fun o h' => o = .returned none ∧ FMa G h0 h' ∧ un h' ≤ un h0 + uqc l ∧ MsW G h' (wAll ws0 (ckU (Pl ts) (x1.map (·.2)) (x :: x2) ++ ckO (Pl ts) tok ((x1 ++ x :: x2).map (·.2)) τs.length))) := by
        intro h3 wn hwn S3 hu3
        rintro _ rfl _ rfl
        rw [nI_1]
        have hwl1 : wn.length ≤ 1 := by
          rw [hwn]
          split
          · exact Nat.zero_le _
          · exact Nat.le_refl _
        have ih := IH (l1 ++ [c]) x2 (x1 ++ [x]) h3 nd1 np1 f1 (wAll ws1 wn) (wAll ws1 wn) (by rw [he, List.append_assoc]; rfl) (by rw [List.length_append, List.length_append, hx1]; rfl) ⟨by simpa using hx2.1, fun i c' x' h1 h2 => hx2.2 (i + 1) c' x' (by rw [List.getElem?_cons_succ]; exact h1) (by rw [List.getElem?_cons_succ]; exact h2)⟩ (fun y hy => by
          rcases List.mem_append.mp hy with e' | e'
          · exact hxt y e'
          · rw [(List.mem_cons.mp e').resolve_right fun z => by cases z]
            exact ⟨hxty, by omega⟩) S3 ⟨by rw [List.length_append]; show nd1 ≤ 1 + 24 * (l1.length + 1); omega, by rw [List.length_append]; show np1 ≤ 24 * (l1.length + 1); omega⟩ (by rw [uqc_ap]; show un h3 ≤ un h0 + (uqc l1 + (uq (clP c) + 0)); omega) ⟨rfl, by rw [wAll_len]; have := hws.2; rw [List.length_cons] at this; omega⟩
        rw [List.length_append] at ih
        refine X.mono ih ?_
        rintro o h' ⟨y1, y2, y3, y4⟩
        refine ⟨y1, y2, y3, ?_⟩
        have e1 : ckU (Pl ts) (x1.map (·.2)) (x :: x2) = wn ++ ckU (Pl ts) ((x1 ++ [x]).map (·.2)) x2 := by
          rw [List.map_append]
          show (if us 217 (x1.map (·.2)) x.2 = true then [] else [(Pl ts x.1, 1)]) ++ ckU (Pl ts) (x1.map (·.2) ++ [x.2]) x2 = _
          rw [hwn]
          rfl
        rw [e1, List.append_assoc, wAll_ap, ← hws.1, show x1 ++ x :: x2 = x1 ++ [x] ++ x2 by rw [List.append_assoc]; rfl]
        exact y4
      have Mnew : MR G h2 nd1 np1 pa 0 τs.length f1 ((x1 ++ [x]).map (·.2)) := by
        rw [List.map_append]
        exact g4.sn hrl (by rw [hxl, Nat.zero_add]; exact R2)
      refine C.mono hus ?_
      rintro _ h3 ⟨rfl, P3⟩
      have hln : ((x1 ++ [x]).map (·.2)).length = l1.length + 1 := by rw [List.length_map, List.length_append, hx1]; rfl
      have S2' : CkS G h0 h2 pa nd1 np1 f1 τs.length ((x1 ++ [x]).map (·.2)) ws1 := ⟨g1, g2, g3, Mnew, g5, g6⟩
      have S3 := S2'.pf P3 (by rw [hln]; omega)
      refine KI.i ⟨fun hz => ?_, fun hz => ?_⟩
      · have hu0 := b2_0.mp hz
        have u3 := P3.fm (G := G) g2.2.1
        have ub3 := S3.1.uw (hW b0 hWb)
        have htk3 : fI h3 b0 316 = nI x.1 := by rw [P3.1.2.2.1]; exact htk
        refine ⟨ub3.1.trans hk29, ?_⟩
        rw [htk3, nI_cn (by omega)]
        have u25 : aI h3 (gW G 1025) = aI h0 (gW G 1025) := (S3.1.1 (gW G 1025) (by rw [kw1025 s1]; decide) (fun i hi e => by
          have w : ∀ i, i ∈ MaD → IW.testBit i = true ∧ i ≠ 1025 := by decide +kernel
          exact (w i hi).2 (hD 1025 i (by decide +kernel) (w i hi).1 e).symm) (fun e => by
          cases w0.2.1.symm.trans e
          exact w0.2.2.2.1 25 (by decide +kernel) rfl)).2.2.1
        rw [u25, t2]
        refine ⟨vp_i (by omega) (by omega), C.mono ((c_warn (d := 0) (x := (Pl ts x.1, 1)) S3.2.1.1 hD S3.2.2.2.2.1 (by have := hws.2; rw [List.length_cons] at this; omega) ⟨t1, by show (1 : Nat) < 5000; decide⟩).up (Nat.zero_le _)) ?_⟩
        rintro _ h10 ⟨rfl, m10, F10, u10, fi10, a10⟩
        obtain ⟨y1, y2, y3, y4, y5, y6⟩ := id S3
        have n4 : pa ≠ gW G 1104 := fun e => y2.2.2.2.1 104 (by decide +kernel) e
        have n5 : pa ≠ gW G 1105 := fun e => y2.2.2.2.1 105 (by decide +kernel) e
        have ne := MaD_ne hD
        have sm10 : Sm G nd1 np1 h3 h10 := ⟨fun i _ => ⟨by rw [a10 _ (ne 1096 1104 (by decide) (by decide) (by decide)) (ne 1096 1105 (by decide) (by decide) (by decide))], by rw [a10 _ (ne 1097 1104 (by decide) (by decide) (by decide)) (ne 1097 1105 (by decide) (by decide) (by decide))], by rw [a10 _ (ne 1098 1104 (by decide) (by decide) (by decide)) (ne 1098 1105 (by decide) (by decide) (by decide))], by rw [a10 _ (ne 1099 1104 (by decide) (by decide) (by decide)) (ne 1099 1105 (by decide) (by decide) (by decide))]⟩, fun i _ => by rw [a10 _ (ne 1100 1104 (by decide) (by decide) (by decide)) (ne 1100 1105 (by decide) (by decide) (by decide))]⟩
        have S10 : CkS G h0 h10 pa nd1 np1 f1 τs.length ((x1 ++ [x]).map (·.2)) (wAll ws1 [(Pl ts x.1, 1)]) := by
          obtain ⟨le1, le2, -⟩ := F10.2.2.2 pa (by rw [y2.2.2.1]; decide)
          refine ⟨y1.tr F10, ⟨y2.1.le F10.2.2, by rw [F10.2.1]; exact y2.2.1, le1.trans y2.2.2.1, y2.2.2.2.1, le2.trans y2.2.2.2.2⟩, ⟨by rw [fi10 101 (by decide)]; exact y3.1, by rw [fi10 102 (by decide)]; exact y3.2.1, y3.2.2⟩, fun j r hr => ?_, m10, y6⟩
          obtain ⟨m1, m2⟩ := y4 j r hr
          refine ⟨m1, fun k y hy => ?_⟩
          obtain ⟨i, i1, i2⟩ := m2 k y hy
          exact ⟨i, by rw [a10 pa n4 n5]; exact i1, SR.mv sm10 (Nat.le_refl _) (Nat.le_refl _) _ _ _ i2⟩
        exact KV.i (nxt h10 _ (by rw [hu0]; rfl) S10 (by rw [u10, P3.uu]))
      · have hu1 : us 217 (x1.map (·.2)) x.2 = true := by
          cases e' : us 217 (x1.map (·.2)) x.2 with
          | true => rfl
          | false => rw [e'] at hz; exact absurd rfl hz
        exact nxt h3 [] (by rw [hu1]; rfl) S3 P3.uu
/-- the table of shapes is empty -/
theorem c_reset (sA : SoA G h) : C G mX10_reset d [.ref (gW G 5)] h (fun o h' => o = .returned none ∧ Shs G h' 1 0 ∧ FMa G h h' ∧ un h' = un h ∧ (∀ g, g ≠ 101 → g ≠ 102 → fI h' (gW G 5) g = fI h (gW G 5) g) ∧ ∀ a, a ≠ gW G 1097 → aI h' a = aI h a) := by
  refine bX10_reset G d h _ (sA.at (by decide)) ?_
  intro h1 e1 h2 e2
  refine ⟨vp_i (n := 0) (by decide) (by decide), fun h4 e4 => ?_⟩
  have le4 : Le h h4 none := ((show Le h h1 none by rw [e1]; exact pI_le (Or.inl (by decide))).tr (show Le h1 h2 none by rw [e2]; exact pI_le (Or.inl (by decide)))).tr (show Le h2 h4 none by rw [e4]; exact sI_le)
  have A : ∀ a, a ≠ gW G 1097 → aI h4 a = aI h a := fun a ha => by
    funext j
    rw [e4, aI_sI, if_neg fun z => ha z.1, e2, aI_pI, e1, aI_pI]
  refine ⟨rfl, ⟨by rw [e4, fI_sI, e2, fI_pI, if_neg (fun z => absurd z.2 (by decide)), e1, fI_pI, if_pos ⟨rfl, rfl⟩]; rfl, by rw [e4, fI_sI, e2, fI_pI, if_pos ⟨rfl, rfl⟩]; rfl, by decide, by decide, by decide⟩, ⟨fun a ha hn _ => ⟨by rw [e4, hK_sI, e2, hK_pI, e1, hK_pI], by rw [e4, hL_sI, e2, hL_pI, e1, hL_pI], A a (hn 1097 (by decide)), by rw [e4, aJ_sI, e2, aJ_pI, e1, aJ_pI], by rw [e4, aR_sI, e2, aR_pI, e1, aR_pI], fun g => ⟨by rw [e4, fI_sI, e2, fI_pI, if_neg (fun z => hn 5 (by decide) z.1), e1, fI_pI, if_neg (fun z => hn 5 (by decide) z.1)], by rw [e4, fJ_sI, e2, fJ_pI, e1, fJ_pI], by rw [e4, fR_sI, e2, fR_pI, e1, fR_pI]⟩⟩, fun g => by rw [e4, fR_sI, e2, fR_pI, e1, fR_pI], le4⟩, by rw [e4, un_sI, e2, un_pI, e1, un_pI], fun g g1 g2 => by rw [e4, fI_sI, e2, fI_pI, if_neg (fun z => g2 z.2), e1, fI_pI, if_neg (fun z => g1 z.2)], A⟩
theorem MsW.rs (k : MsW G h ws) (hD : DW (gW G)) (f : ∀ g, g ≠ 101 → g ≠ 102 → fI h' (gW G 5) g = fI h (gW G 5) g) (a : ∀ a, a ≠ gW G 1097 → aI h' a = aI h a) : MsW G h' ws := by
  obtain ⟨k1, k2, k3, k4⟩ := k
  have ne := MaD_ne hD
  exact ⟨by rw [f 106 (by decide) (by decide)]; exact k1, k2, k3, fun i x hx => by rw [a _ (ne 1104 1097 (by decide) (by decide) (by decide)), a _ (ne 1105 1097 (by decide) (by decide) (by decide))]; exact k4 i x hx⟩
theorem PiW.fm (w : PiW G h pa) (F : FMa G h h') : PiW G h' pa := by
  obtain ⟨w1, w2, w3, w4, w5⟩ := w
  obtain ⟨l1, l2, -⟩ := F.2.2.2 pa (by rw [w3]; decide)
  exact ⟨w1.le F.2.2, by rw [F.2.1]; exact w2, l1.trans w3, w4, l2.trans w5⟩
/-- a match is checked -/
theorem c_check (hD : DW (gW G)) (hA : ∀ τ a b, Ak τ a → Ak τ b → a = b) (hS : ∀ τ h l l', Sg τ h l → Sg τ h l' → l = l') (hrc : rc ≤ Ct.length) (hW : ∀ a, W a → FIx G h a) (ck : CkW Z Ct Dt h) (w0 : PiW G h pa) (k0 : MsW G h ws) {l : List Tr} {xs : List (Nat × List Tr)} (rl : RowL W h r0 l.length) (tg : TG (XA ts W O Z D h) W h (rowAt h r0) l) (hTR : ∀ c, c ∈ l → TR lo hi c) (hl8 : 1 ≤ l.length ∧ l.length ≤ 8) (hxs : xs.length = l.length ∧ ∀ (i : Nat) (c : Tr) (x : Nat × List Tr), l[i]? = some c → xs[i]? = some x → clF N rc Ct Dt c x.1 x.2 ∧ rTy1 Ak Sg τs x.2) (hτ : τs.length ≤ 24) (htok : tok < ts.length) (htl : ts.length ≤ 1300) (hts : ∀ t, t < ts.length → Pl ts t < 5000 ∧ aI h (gW G 1025) t = nI (Pl ts t)) (hhi : hi ≤ ts.length) (hws : ws.length + l.length < 1900) (hu : un h + uqc l + 16 ≤ UB) :
    C G mX10_check (d + 500) [.ref (gW G 5), .ref r0, .ref (gW G 1), .int (nI tok)] h (fun o h' => o = .returned none ∧ FMa G h h' ∧ un h' ≤ un h + uqc l ∧ MsW G h' (wAll ws (ckU (Pl ts) [] xs ++ ckO (Pl ts) tok (xs.map (·.2)) τs.length))) := by
  have sA := w0.1
  have s1 := sA.at (i := 1) (by decide)
  refine bX10_check G (d + 499) h _ _ _ (sA.at (by decide)) (C.mono (c_reset sA) ?_)
  rintro _ h1 ⟨rfl, S1, F1, u1, f1, a1⟩
  have w1 := w0.fm F1
  have hW1 : ∀ a, W a → FIx G h1 a := fun a ha => F1.fx (hW a ha)
  obtain ⟨rl1, ra1, -⟩ := rl.mvs (N' := W) (h' := h1) fun a ha _ => ⟨(F1.uw (hW a ha)).us, ha⟩
  obtain ⟨z1, z2, z3, z4⟩ := row_sz rl1
  have hD1 : ∀ x, fR h (gW G 5) 103 = some x → hK h x = 1000 := fun x e => by
    cases w0.2.1.symm.trans e
    exact w0.2.2.1
  have tg1 : TG (XA ts W O Z D h1) W h1 (rowAt h1 r0) l := fun i x hx => by
    obtain ⟨b, b1, b2⟩ := tg i x hx
    exact ⟨b, by rw [ra1]; exact b1, F1.ot hW (hTR x (List.mem_of_getElem? hx)) b2⟩
  obtain ⟨c, hc⟩ : ∃ c, l[0]? = some c := ⟨_, List.getElem?_eq_getElem (by omega)⟩
  obtain ⟨x, hx⟩ : ∃ x, xs[0]? = some x := ⟨_, List.getElem?_eq_getElem (by omega)⟩
  obtain ⟨⟨v, ps, e, ec, hps, hr, hr24⟩, hxty⟩ := hxs.2 0 c x hc hx
  obtain ⟨b0, fb, ob⟩ := tg1 0 c hc
  rw [ec] at ob
  obtain ⟨hWb, hkb, -, oy⟩ := (OTG_nd (k := 50) (y := .add (.num v) (.add (ls ps) e)) (by decide)).mp ob
  have hk29 : hK h1 b0 = 29 := by simpa [kc] using hkb
  rw [OTG_c2 (by decide) (by decide)] at oy
  have oy2 := (OTG_c2 (by decide) (by decide)).mp oy.2
  obtain ⟨arr, eA, hla, tga⟩ := OTG_arr.mp oy2.1
  obtain ⟨rl0, rn, rc0, -, rb⟩ := row_get (i := 0) rl1 fb (by omega)
  have hpl : ps.length = τs.length := by rw [← hxty.1, hr, List.length_map]
  refine KV.i ⟨z1, C.rr ((c_rcl (d := d) rc0 rb hk29).up (by omega)) ⟨hk29, arr, eA.1, eA.2.1, ?_⟩⟩
  rintro _ rfl
  rw [hla, hpl, show Int32.ofNat τs.length = nI τs.length from rfl]
  have u25 : aI h1 (gW G 1025) = aI h (gW G 1025) := a1 _ fun e => absurd (hD 1025 1097 (by decide +kernel) (by decide +kernel) e) (by decide)
  have := ck_21 (d := d) (tok := tok) (ts := ts) hD hA hS hrc hW1 w1.1 (F1.ck w0 ck) w1 rl1 tg1 hTR hl8.2 hτ htok htl (fun t ht => by rw [u25]; exact hts t ht) hhi (by rw [u1]; exact hu) l [] xs [] h1 1 0 1 ws ws rfl rfl hxs (fun x hx => (by cases hx)) ⟨FMa.rf, w1, S1, fun j r hr => (by cases hr), k0.rs hD f1 a1, Nat.le_refl _⟩ ⟨by decide, Nat.zero_le _⟩ (Nat.le_add_right ..) ⟨rfl, hws⟩
  refine X.mono this ?_
  rintro o h' ⟨y1, y2, y3, y4⟩
  rw [u1] at y3
  exact ⟨y1, F1.tr y2, y3, y4⟩
/-- a pattern alone is checked -/
theorem c_check2 {p : Tr} {q : Nat} {τ : Tr} (hD : DW (gW G)) (hA : ∀ τ a b, Ak τ a → Ak τ b → a = b) (hS : ∀ τ h l l', Sg τ h l → Sg τ h l' → l = l') (hrc : rc ≤ Ct.length) (hW : ∀ a, W a → FIx G h a) (ck : CkW Z Ct Dt h) (w0 : PiW G h pa) (k0 : MsW G h ws) (hp : sPt N Ct rc 30 p) (hT : TR lo hi p) (ot : OTG (XA ts W O Z D h) W h p 0 0 q) (hty : ∃ n, sTy Ak Sg n τ (shp Ct Dt 30 p)) (h24 : 1 + pq (shp Ct Dt 30 p) ≤ 24) (htok : tok < ts.length) (htl : ts.length ≤ 1300) (hts : ∀ t, t < ts.length → Pl ts t < 5000 ∧ aI h (gW G 1025) t = nI (Pl ts t)) (hws : ws.length < 1900) (hu : un h + 6 * (nw p - 1) + 16 ≤ UB) :
    C G mX10_check_2 (d + 500) [.ref (gW G 5), .ref q, .ref (gW G 1), .int (nI tok)] h (fun o h' => o = .returned none ∧ FMa G h h' ∧ un h' ≤ un h + 6 * (nw p - 1) ∧ MsW G h' (wAll ws (ckO (Pl ts) tok [[shp Ct Dt 30 p]] 1))) := by
  have sA := w0.1
  have s1 := sA.at (i := 1) (by decide)
  refine bX10_check_2 G (d + 499) h _ _ _ (sA.at (by decide)) (sA.at (by decide)) (C.mono (c_reset sA) ?_)
  rintro _ h1 ⟨rfl, S1, F1, u1, f1, a1⟩
  have w1 := w0.fm F1
  have hW1 : ∀ a, W a → FIx G h1 a := fun a ha => F1.fx (hW a ha)
  have hS30 := sh_all (W := W) (ts := ts) (O := O) (Z := Z) (D := D) (N := N) (Ct := Ct) (Dt := Dt) (rc := rc) hD 30 d
  obtain ⟨k2, ν2, v1, v2, v3⟩ := hS30 p q lo hi h1 1 0 hp hrc hT (F1.ot hW hT ot) w1.1 (F1.ck w0 ck) hW1 S1 (by omega) (by omega) (by omega)
  refine KV.i ⟨pa, w1.2.1, k2, ν2, v1, v2, C.mono (v3.up (by omega)) ?_⟩
  rintro _ h5 ⟨i9, nd2, np2, f2, rfl, sr2, S2, ⟨c1, c2⟩, ⟨c3, c4⟩, F2, u2⟩
  have w5 := w1.fg F2
  obtain ⟨y1, y2, y3, y4, y5⟩ := id w5
  refine KI.i ⟨y3, y4, by rw [y5]; exact vp_i (n := 0) (by decide) (by decide), fun h10 e10 => ?_⟩
  have P10 : Pf pa 0 h5 h10 := by rw [e10]; exact Pf.rf.sI (Nat.zero_le _)
  have w10 := P10.pw w5
  have u25 : aI h10 (gW G 1025) = aI h (gW G 1025) := by
    rw [← a1 _ fun e => absurd (hD 1025 1097 (by decide +kernel) (by decide +kernel) e) (by decide)]
    have e2 : aI h5 (gW G 1025) = aI h1 (gW G 1025) := (F2.1 (gW G 1025) (by rw [kw1025 (w1.1.at (i := 1) (by decide))]; decide) (fun i hi e => by
      have w : ∀ i, i ∈ ShC → IW.testBit i = true ∧ i ≠ 1025 := by decide +kernel
      exact (w i hi).2 (hD 1025 i (by decide +kernel) (w i hi).1 e).symm)).2.2.1
    rw [← e2]
    funext j
    exact P10.2.2.2 _ _ (Or.inl fun e => y4 25 (by decide +kernel) e.symm)
  obtain ⟨t1, t2⟩ := hts tok htok
  rw [nI_cn (by omega), u25, t2]
  refine ⟨vp_i (by omega) (by omega), ?_⟩
  have hf2 : 1 ≤ f2 := by
    cases f2 with
    | zero => exact sr2.elim
    | succ f => omega
  have S10 : CkS G h h10 pa nd2 np2 f2 [τ].length [[shp Ct Dt 30 p]] ws := by
    refine ⟨(F1.tr F2.fm).tr (P10.fm y2), w10, ⟨by rw [P10.1.2.2.1]; exact S2.1, by rw [P10.1.2.2.1]; exact S2.2.1, S2.2.2⟩, fun j r hr => ?_, ((k0.rs hD f1 a1).fg F2 w1.1 hD).pf P10 w5, hf2⟩
    cases j with
    | zero =>
      cases hr
      refine ⟨rfl, fun k y hy => ?_⟩
      cases k with
      | zero =>
        cases hy
        exact ⟨i9, by rw [e10, aI_sI, if_pos ⟨rfl, rfl⟩], P10.sr w5 sr2⟩
      | succ k => simp at hy
    | succ j => simp at hr
  have hro : ∀ r, r ∈ [[shp Ct Dt 30 p]] → rTy1 Ak Sg [τ] r := fun r hr => by
    rw [(List.mem_cons.mp hr).resolve_right fun z => by cases z]
    refine ⟨rfl, fun k y u hy hu => ?_⟩
    cases k with
    | zero => cases hy; cases hu; exact hty
    | succ k => simp at hy
  have e3 : pqr [[shp Ct Dt 30 p]] = pq (shp Ct Dt 30 p) + 0 + 0 := rfl
  have hx1 : [τ].length = 1 := rfl
  refine C.mono (c_open (d := d + 64) hD hA hS S10 (show 1 ≤ 8 by decide) (show 1 ≤ 24 by decide) hro (by omega) hws t1) ?_
  rintro _ h14 ⟨rfl, F, u, m⟩
  refine KV.i ⟨rfl, F, ?_, m⟩
  rw [u, P10.uu]
  omega
end
