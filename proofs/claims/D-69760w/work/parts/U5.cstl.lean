/-! THE COMPONENT'S TYPER: expressions that work out nothing -/
/-- a constructor -/
def isCn : Tr → Bool
  | .mulL f _ => f == 2
  | _ => false
def bI (b : Bool) : Int32 := if b = true then 1 else 0
def StI (G : Gh) (c : Cx) (n : Nat) : Prop := ∀ (h : AH) (e : Tr) (q rc rc' D : Nat) (V : List Nat), sEx c.ts c.O c.N c.Ct c.Dt n 0 V rc e rc' → OTG (XA c.ts c.W c.O c.Z c.D h) c.W h e 0 0 q → fw e + 5 ≤ D → nw e < 100000 → ∃ (k : Nat) (ν : Mu), VT ⟨"LetMill$Exp", "isStill", "()Z"⟩ VMExp_isStill k ν ∧ hK h q = k + 1 ∧ C G ν D [.ref q] h (Ret (.int (bI (tSt n e))) h)
section
variable {G : Gh} {c : Cx} {h : AH} {n q rc rc' D arr : Nat} {V : List Nat} {e : Tr} {l : List Tr}
theorem nw_mem : ∀ (l : List Tr) (y : Tr), y ∈ l → nw y ≤ nw (ls l) := by
  intro l
  induction l with
  | nil => intro y hy; cases hy
  | cons a l ih =>
    intro y hy
    show nw y ≤ nw a + nw (ls l)
    rcases List.mem_cons.mp hy with e | e
    · rw [e]; omega
    · have := ih y e; omega
theorem st_40 (hS : StI G c n) (hk : hK h q = 38 ∨ hK h q = 40) (eA' : ArF c.W h q 333 arr) (hla : hL h arr = l.length) (hll : l.length < 100000) (tg : TG (XA c.ts c.W c.O c.Z c.D h) c.W h (aR h arr) l) (hD : ∀ y, y ∈ l → fw y + 5 ≤ D) (hw : nw (ls l) < 100000) : ∀ (l2 l1 : List Tr) (rc rc' : Nat), l = l1 ++ l2 → sLn (fun rc e rc' => sEx c.ts c.O c.N c.Ct c.Dt n 0 V rc e rc') l2 rc rc' → X G mX40_isStill (D + 1) none [] 2 [(0, .ref q), (1, .int (nI l1.length))] [] h (Ret (.int (bI (l2.all (tSt n)))) h) := by
  have hHF : HF h q 333 2 := by
    rcases hk with w | w
    · exact hf_of 37 w rfl (by decide) (by decide)
    · exact hf_of 39 w rfl (by decide) (by decide)
  intro l2
  induction l2 with
  | nil =>
    intro l1 rc rc' he hs
    rw [List.append_nil] at he
    subst he
    refine bX40_isStill_2 G D h _ _ _ ⟨hHF, arr, eA'.1, eA'.2.1, ?_⟩
    rw [hla, show Int32.ofNat l.length = nI l.length from rfl, nI_leI (by omega) (by omega)]
    exact ⟨fun _ => ⟨rfl, rfl⟩, fun z => absurd (Nat.le_refl _) z⟩
  | cons x l2 IH =>
    rintro l1 rc rc' he ⟨r1, hs1, hs2⟩
    have hj : l[l1.length]? = some x := by rw [he, List.getElem?_append_right (Nat.le_refl _), Nat.sub_self]; rfl
    have hjl := (List.getElem?_eq_some_iff.mp hj).1
    have hx := List.mem_of_getElem? hj
    obtain ⟨p, fp, op⟩ := tg _ x hj
    obtain ⟨k2, ν2, v1, v2, v3⟩ := hS h x p rc r1 D V hs1 op (hD x hx) (by have := nw_mem l x hx; omega)
    refine bX40_isStill_2 G D h _ _ _ ⟨hHF, arr, eA'.1, eA'.2.1, ?_⟩
    rw [hla, show Int32.ofNat l.length = nI l.length from rfl, nI_leI (by omega) (by omega)]
    refine ⟨fun z => by omega, fun _ => ⟨hHF, arr, eA'.1, eA'.2.1, by rw [hla]; exact vp_i hjl (by omega), p, by rw [nI_cn (by omega)]; exact fp, k2, ν2, v1, v2, C.ri v3 ?_⟩⟩
    rw [List.all_cons]
    cases hb : tSt n x with
    | false => exact ⟨fun _ => ⟨rfl, rfl⟩, fun z => absurd rfl z⟩
    | true =>
      refine ⟨fun z => absurd z (by decide), fun _ => ?_⟩
      rintro _ rfl
      rw [nI_1]
      have := IH (l1 ++ [x]) r1 rc' (by rw [he, List.append_assoc]; rfl) hs2
      rw [List.length_append] at this
      exact this
theorem cn_kind (hs : sEx c.ts c.O c.N c.Ct c.Dt n 0 V rc e rc') (o : OTG (XA c.ts c.W c.O c.Z c.D h) c.W h e 0 0 q) : ∃ (k : Nat) (ν : Mu), VT ⟨"LetMill$Exp", "isCon", "()Z"⟩ VMExp_isCon k ν ∧ hK h q = k + 1 ∧ C G ν D [.ref q] h (Ret (.int (bI (isCn e))) h) := by
  have f0 : ∀ (b : Bool), b = false → C G mX16_isCon D [.ref q] h (Ret (.int (bI b)) h) := fun b hb => bX16_isCon G D h _ _ (by rw [hb]; exact ⟨rfl, rfl⟩)
  cases n with
  | zero => exact hs.elim
  | succ n =>
    unfold sEx at hs
    rw [if_neg (by decide)] at hs
    rcases hs with ⟨t, rf, up, rfl, -⟩ | ⟨t, k, rfl, -⟩ | ⟨t, v, rfl, -⟩ | ⟨t, v, rfl, -⟩ | ⟨t, rfl, -⟩ | ⟨t, rfl, -⟩ | ⟨t, rfl, -⟩ | ⟨t, l, rfl, -⟩ | ⟨t, l, rfl, -⟩ | ⟨t, l, rfl, -⟩ | ⟨t, ds, e, V', r1, rfl, -⟩ | ⟨t, cs, rfl, -⟩ | ⟨t, e, cs, r1, rfl, -⟩ | ⟨t, a, b, d, r1, r2, rfl, -⟩ | ⟨t, f, l, r1, rfl, -⟩ | ⟨t, f, ps, r1, rfl, -⟩ | ⟨t, a, b, r1, rfl, -⟩ | ⟨t, a, b, r1, rfl, -⟩ | ⟨t, y, rfl, hy⟩
    · exact ⟨32, _, v32_isCon, by simpa [kc] using ((OTG_nd (k := 1) (by decide)).mp o).2.1, f0 _ rfl⟩
    · exact ⟨33, _, v33_isCon, by simpa [kc] using ((OTG_nd (k := 2) (by decide)).mp o).2.1, bX36_isCon G D h _ _ ⟨rfl, rfl⟩⟩
    · exact ⟨34, _, v34_isCon, by simpa [kc] using ((OTG_nd (k := 3) (by decide)).mp o).2.1, f0 _ rfl⟩
    · exact ⟨34, _, v34_isCon, by simpa [kc] using ((OTG_nd (k := 4) (by decide)).mp o).2.1, f0 _ rfl⟩
    · exact ⟨34, _, v34_isCon, by simpa [kc] using ((OTG_n0 (by decide)).mp o).2.1, f0 _ rfl⟩
    · exact ⟨35, _, v35_isCon, by simpa [kc] using ((OTG_n0 (by decide)).mp o).2.1, f0 _ rfl⟩
    · exact ⟨35, _, v35_isCon, by simpa [kc] using ((OTG_n0 (by decide)).mp o).2.1, f0 _ rfl⟩
    · exact ⟨37, _, v37_isCon, by simpa [kc] using ((OTG_nd (k := 8) (by decide)).mp o).2.1, f0 _ rfl⟩
    · exact ⟨38, _, v38_isCon, by simpa [kc] using ((OTG_nd (k := 9) (by decide)).mp o).2.1, f0 _ rfl⟩
    · exact ⟨39, _, v39_isCon, by simpa [kc] using ((OTG_nd (k := 10) (by decide)).mp o).2.1, f0 _ rfl⟩
    · exact ⟨16, _, v16_isCon, by simpa [kc] using ((OTG_nd (k := 11) (by decide)).mp o).2.1, f0 _ rfl⟩
    · exact ⟨29, _, v29_isCon, by simpa [kc] using ((OTG_nd (k := 12) (by decide)).mp o).2.1, f0 _ rfl⟩
    · exact ⟨30, _, v30_isCon, by simpa [kc] using ((OTG_nd (k := 13) (by decide)).mp o).2.1, f0 _ rfl⟩
    · exact ⟨31, _, v31_isCon, by simpa [kc] using ((OTG_nd (k := 14) (by decide)).mp o).2.1, f0 _ rfl⟩
    · exact ⟨40, _, v40_isCon, by simpa [kc] using ((OTG_nd (k := 15) (by decide)).mp o).2.1, f0 _ rfl⟩
    · exact ⟨43, _, v43_isCon, by simpa [kc] using ((OTG_nd (k := 16) (by decide)).mp o).2.1, f0 _ rfl⟩
    · exact ⟨41, _, v41_isCon, by simpa [kc] using ((OTG_nd (k := 17) (by decide)).mp o).2.1, f0 _ rfl⟩
    · exact ⟨41, _, v41_isCon, by simpa [kc] using ((OTG_nd (k := 18) (by decide)).mp o).2.1, f0 _ rfl⟩
    · obtain ⟨-, hkq, -, oy, g19⟩ := (OTG_ndg (by decide)).mp o
      obtain ⟨p, c1, c2, c3, c4⟩ := g19 rfl
      rw [OTG_ef (m' := 6) (i' := 0) (by decide) (by decide), OTG_6] at oy
      obtain ⟨b, b1', b2'⟩ := oy
      cases c3.symm.trans b1'
      have kc' := sEx_kg n V rc y rc' p hy b2'
      exact ⟨36, _, v36_isCon, by omega, f0 _ rfl⟩
theorem st_all : ∀ n, StI G c n := by
  intro n
  induction n with
  | zero => intro h e q rc rc' D V hs; exact hs.elim
  | succ n ih =>
    intro h e q rc rc' D V hs o hD hN
    have f0 : ∀ (b : Bool), b = false → C G mX16_isStill D [.ref q] h (Ret (.int (bI b)) h) := fun b hb => bX16_isStill G D h _ _ (by rw [hb]; exact ⟨rfl, rfl⟩)
    unfold sEx at hs
    rw [if_neg (by decide)] at hs
    obtain ⟨D, rfl⟩ : ∃ D', D = D' + 1 := ⟨D - 1, by omega⟩
    rcases hs with ⟨t, rf, up, rfl, -⟩ | ⟨t, k, rfl, -⟩ | ⟨t, v, rfl, -⟩ | ⟨t, v, rfl, -⟩ | ⟨t, rfl, -⟩ | ⟨t, rfl, -⟩ | ⟨t, rfl, -⟩ | ⟨t, l, rfl, -, hl⟩ | ⟨t, l, rfl, -⟩ | ⟨t, l, rfl, hl⟩ | ⟨t, ds, e, V', r1, rfl, -⟩ | ⟨t, cs, rfl, -⟩ | ⟨t, e, cs, r1, rfl, -⟩ | ⟨t, a, b, d, r1, r2, rfl, -⟩ | ⟨t, f, l, r1, rfl, -, h1, h2⟩ | ⟨t, f, ps, r1, rfl, -⟩ | ⟨t, a, b, r1, rfl, -⟩ | ⟨t, a, b, r1, rfl, -⟩ | ⟨t, y, rfl, hy⟩
    · exact ⟨32, _, v32_isStill, by simpa [kc] using ((OTG_nd (k := 1) (by decide)).mp o).2.1, bX35_isStill G _ h _ _ ⟨rfl, rfl⟩⟩
    · exact ⟨33, _, v33_isStill, by simpa [kc] using ((OTG_nd (k := 2) (by decide)).mp o).2.1, bX36_isStill G _ h _ _ ⟨rfl, rfl⟩⟩
    · exact ⟨34, _, v34_isStill, by simpa [kc] using ((OTG_nd (k := 3) (by decide)).mp o).2.1, bX37_isStill G _ h _ _ ⟨rfl, rfl⟩⟩
    · exact ⟨34, _, v34_isStill, by simpa [kc] using ((OTG_nd (k := 4) (by decide)).mp o).2.1, bX37_isStill G _ h _ _ ⟨rfl, rfl⟩⟩
    · exact ⟨34, _, v34_isStill, by simpa [kc] using ((OTG_n0 (by decide)).mp o).2.1, bX37_isStill G _ h _ _ ⟨rfl, rfl⟩⟩
    · exact ⟨35, _, v35_isStill, by simpa [kc] using ((OTG_n0 (by decide)).mp o).2.1, bX38_isStill G _ h _ _ ⟨rfl, rfl⟩⟩
    · exact ⟨35, _, v35_isStill, by simpa [kc] using ((OTG_n0 (by decide)).mp o).2.1, bX38_isStill G _ h _ _ ⟨rfl, rfl⟩⟩
    · obtain ⟨hWq, hkq, -, oy⟩ := (OTG_nd (k := 8) (by decide)).mp o
      have hk : hK h q = 38 := by simpa [kc] using hkq
      obtain ⟨arr, eA', hla, tg⟩ := OTG_arr.mp ((OTG_ef (m' := 21) (i' := 333) (by decide) (by decide)).mp oy)
      have efw : fw (n1 8 t (ls l)) = max 0 (fw (ls l)) + 1 := rfl
      have et : tSt (n + 1) (n1 8 t (ls l)) = (unl (ls l)).all (tSt n) := rfl
      have enw : nw (n1 8 t (ls l)) = 0 + nw (ls l) + 4 := rfl
      rw [et, unl_ls]
      exact ⟨37, _, v37_isStill, hk, bX40_isStill G D h _ _ (st_40 ih (Or.inl hk) eA' hla (by have := nw_len l _ tg; omega) tg (fun y hy => by have := fw_mem l y hy; omega) (by omega) l [] rc rc' rfl hl)⟩
    · exact ⟨38, _, v38_isStill, by simpa [kc] using ((OTG_nd (k := 9) (by decide)).mp o).2.1, bX42_isStill G _ h _ _ ⟨rfl, rfl⟩⟩
    · obtain ⟨hWq, hkq, -, oy⟩ := (OTG_nd (k := 10) (by decide)).mp o
      have hk : hK h q = 40 := by simpa [kc] using hkq
      obtain ⟨arr, eA', hla, tg⟩ := OTG_arr.mp ((OTG_ef (m' := 21) (i' := 333) (by decide) (by decide)).mp oy)
      have efw : fw (n1 10 t (ls l)) = max 0 (fw (ls l)) + 1 := rfl
      have et : tSt (n + 1) (n1 10 t (ls l)) = (unl (ls l)).all (tSt n) := rfl
      have enw : nw (n1 10 t (ls l)) = 0 + nw (ls l) + 1 := rfl
      rw [et, unl_ls]
      exact ⟨39, _, v39_isStill, hk, bX40_isStill G D h _ _ (st_40 ih (Or.inr hk) eA' hla (by have := nw_len l _ tg; omega) tg (fun y hy => by have := fw_mem l y hy; omega) (by omega) l [] rc rc' rfl hl)⟩
    · exact ⟨16, _, v16_isStill, by simpa [kc] using ((OTG_nd (k := 11) (by decide)).mp o).2.1, f0 _ rfl⟩
    · exact ⟨29, _, v29_isStill, by simpa [kc] using ((OTG_nd (k := 12) (by decide)).mp o).2.1, bX32_isStill G _ h _ _ ⟨rfl, rfl⟩⟩
    · exact ⟨30, _, v30_isStill, by simpa [kc] using ((OTG_nd (k := 13) (by decide)).mp o).2.1, f0 _ rfl⟩
    · exact ⟨31, _, v31_isStill, by simpa [kc] using ((OTG_nd (k := 14) (by decide)).mp o).2.1, f0 _ rfl⟩
    · obtain ⟨hWq, hkq, -, oy⟩ := (OTG_nd (k := 15) (y := .add f (ls l)) (by decide)).mp o
      have hk : hK h q = 41 := by simpa [kc] using hkq
      rw [OTG_c2 (by decide) (by decide)] at oy
      obtain ⟨p1, f1, o1⟩ := OTG_f.mp oy.1
      obtain ⟨arr, eA', hla, tg⟩ := OTG_arr.mp ((OTG_ef (m' := 21) (i' := 335) (by decide) (by decide)).mp oy.2)
      have efw : fw (n2 15 t f (ls l)) = max 0 (max (fw f) (fw (ls l))) + 1 := rfl
      obtain ⟨kk, z, ef⟩ := OTG_0 o1
      have et : tSt (n + 1) (n2 15 t f (ls l)) = (kk == 2 && l.length == 1 && l.all (tSt n)) := by
        rw [ef]
        have : tSt (n + 1) (n2 15 t (.mulL kk z) (ls l)) = (kk == 2 && (unl (ls l)).length == 1 && (unl (ls l)).all (tSt n)) := rfl
        rw [this, unl_ls]
      rw [et]
      refine ⟨40, _, v40_isStill, hk, bX44_isStill G D h _ _ ⟨hk, arr, eA'.1, eA'.2.1, ?_⟩⟩
      have enw : nw (n2 15 t f (ls l)) = 0 + (nw f + nw (ls l)) + 1 := rfl
      have hll : l.length < 100000 := by have := nw_len l _ tg; omega
      rw [hla, show Int32.ofNat l.length = nI l.length from rfl, show (1 : Int32) = nI 1 from rfl, nI_eq (by omega) (by omega)]
      refine ⟨fun h11 => ?_, fun h11 => ⟨by rw [show (l.length == 1) = false by simpa using h11, Bool.and_false, Bool.false_and]; rfl, rfl⟩⟩
      obtain ⟨k2, ν2, v1, v2, v3⟩ := cn_kind (G := G) (D := D) h1 o1
      rw [ef] at v3
      obtain ⟨x, rfl⟩ := List.length_eq_one_iff.mp h11
      obtain ⟨p, fp, op⟩ := tg 0 x rfl
      obtain ⟨r2, hx, -⟩ := h2
      have hfx : fw (ls [x]) = max (fw x) 0 := rfl
      obtain ⟨k3, ν3, w1, w2, w3⟩ := ih h x p r1 r2 D V hx op (by omega) (by have : nw (ls [x]) = nw x + 0 := rfl; omega)
      refine ⟨p1, f1, k2, ν2, v1, v2, C.ri v3 ?_⟩
      rw [show isCn (.mulL kk z) = (kk == 2) from rfl]
      cases hb : (kk == 2) with
      | false => exact ⟨fun _ => ⟨rfl, rfl⟩, fun z => absurd rfl z⟩
      | true =>
        refine ⟨fun z => absurd z (by decide), fun _ => ⟨arr, eA'.1, eA'.2.1, by rw [hla]; exact vp_i (n := 0) (show 0 < 1 by decide) (by decide), p, fp, k3, ν3, w1, w2, C.ri w3 ?_⟩⟩
        have e1 : ([x] : List Tr).all (tSt n) = tSt n x := by simp
        rw [e1]
        cases hx2 : tSt n x with
        | false => exact ⟨fun _ => ⟨rfl, rfl⟩, fun z => absurd rfl z⟩
        | true => exact ⟨fun z => absurd z (by decide), fun _ => ⟨rfl, rfl⟩⟩
    · exact ⟨43, _, v43_isStill, by simpa [kc] using ((OTG_nd (k := 16) (by decide)).mp o).2.1, f0 _ rfl⟩
    · exact ⟨41, _, v41_isStill, by simpa [kc] using ((OTG_nd (k := 17) (by decide)).mp o).2.1, f0 _ rfl⟩
    · exact ⟨41, _, v41_isStill, by simpa [kc] using ((OTG_nd (k := 18) (by decide)).mp o).2.1, f0 _ rfl⟩
    · obtain ⟨-, hkq, -, oy, g19⟩ := (OTG_ndg (by decide)).mp o
      obtain ⟨p, c1, c2, c3, c4⟩ := g19 rfl
      rw [OTG_ef (m' := 6) (i' := 0) (by decide) (by decide), OTG_6] at oy
      obtain ⟨b, b1', b2'⟩ := oy
      cases c3.symm.trans b1'
      have kc' := sEx_kg n V rc y rc' p hy b2'
      have hk : hK h q = 37 := by omega
      have r32 : fR h q 332 = some p := by
        rw [if_neg (by rw [hk]; decide)] at c3
        exact c3
      have efw : fw (n1 19 t y) = max 0 (fw y) + 1 := rfl
      obtain ⟨k2, ν2, v1, v2, v3⟩ := ih h y p rc rc' D V hy b2' (by omega) (by have : nw (n1 19 t y) = 0 + nw y + 1 := rfl; omega)
      have et : tSt (n + 1) (n1 19 t y) = tSt n y := rfl
      rw [et]
      refine ⟨36, _, v36_isStill, hk, bX39_isStill G D h _ _ ⟨hk, p, r32, k2, ν2, v1, v2, C.ri v3 ⟨?_, rfl, rfl⟩⟩⟩
      cases tSt n y with
      | false => exact Or.inl rfl
      | true => exact Or.inr rfl
end
