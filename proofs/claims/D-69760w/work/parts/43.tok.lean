/-! TOKENS of the component -/
def b2 (b : Bool) : Int32 := if b = true then 1 else 0
theorem b2_01 (b : Bool) : b2 b = 0 ∨ b2 b = 1 := by cases b <;> decide
theorem b2_0 {b : Bool} : b2 b = 0 ↔ b = false := by cases b <;> decide
theorem bt {b : Bool} (h : ¬ b = false) : b = true := by cases b with | true => rfl | false => exact absurd rfl h
theorem nI_cn {m : Nat} (h : m < 2147483648) : (nI m).toNatClampNeg = m := by rw [i_cn, nI_toInt h]; rfl
theorem nI_lit {m k : Nat} (hm : m < 2147483648) (hk : k < 2147483648) : (nI m = OfNat.ofNat k) = (m = k) := propext (nI_eq hm hk)
theorem lN_int {m : Nat} (h : m < 9223372036854775808) : (lN m).toInt = m := by
  show (Int64.ofNat m).toInt = m
  rw [Int64.toInt_ofNat_of_lt (by omega)]
theorem j_of {x : Int64} {m : Nat} (h : m < 9223372036854775808) (hx : x.toInt = m) : x = lN m := Int64.toInt_inj.mp (by rw [hx, lN_int h])
theorem j_add {a b : Int64} (h1 : -9223372036854775808 ≤ a.toInt + b.toInt) (h2 : a.toInt + b.toInt ≤ 9223372036854775807) : (a + b).toInt = a.toInt + b.toInt := by
  rw [Int64.toInt_add]
  exact Int.bmod_eq_of_le (by omega) (by omega)
theorem j_sub {a b : Int64} (h1 : -9223372036854775808 ≤ a.toInt - b.toInt) (h2 : a.toInt - b.toInt ≤ 9223372036854775807) : (a - b).toInt = a.toInt - b.toInt := by
  rw [Int64.toInt_sub]
  exact Int.bmod_eq_of_le (by omega) (by omega)
theorem j_mul {a b : Int64} (h1 : -9223372036854775808 ≤ a.toInt * b.toInt) (h2 : a.toInt * b.toInt ≤ 9223372036854775807) : (a * b).toInt = a.toInt * b.toInt := by
  rw [Int64.toInt_mul]
  exact Int.bmod_eq_of_le (by omega) (by omega)
/-- a byte as an int -/
def sbv (c : Nat) : Int := if c < 128 then c else (c : Int) - 256
theorem and255 {x : Int32} {c : Nat} (hc : c < 256) (hx : x.toInt = sbv c) : x &&& 255 = nI c := by
  have h : ∀ c, c < 256 → Int32.ofInt (sbv c) &&& 255 = nI c := by decide +kernel
  rw [← h c hc, ← hx, Int32.ofInt_toInt]
/-- the text -/
def Txt (G : Gh) (h : AH) (u : Nat → Nat) (n : Nat) : Prop := fI h (gW G 1) 23 = nI n ∧ n ≤ 4096 ∧ (∀ i, u i < 256) ∧ ∀ i, i < n → (aI h (gW G 1022) i).toInt = sbv (u i)
/-- a name's two numbers -/
def NmC (a b : Int64) (c : Nat) : Prop := ∃ l : List Nat, (∀ x ∈ l, 1 ≤ x ∧ x < 128) ∧ l.length ≤ 12 ∧ c = cd l ∧ a = lN (cd (l.take 8)) ∧ b = lN (cd (l.drop 8))
def TokE (G : Gh) (h : AH) (i : Nat) (t : Nat × Nat × Nat) : Prop :=
  aI h (gW G 1024) i = nI t.1 ∧ aI h (gW G 1025) i = nI t.2.1 ∧ ((t.1 = 280 ∨ t.1 = 281 ∨ t.1 = 282) → NmC (aJ h (gW G 1026) i) (aJ h (gW G 1027) i) t.2.2) ∧ (t.1 = 283 → aJ h (gW G 1026) i = lN t.2.2)
/-- the tokens so far -/
def Tks (G : Gh) (h : AH) (ts : List (Nat × Nat × Nat)) : Prop := fI h (gW G 1) 28 = nI ts.length ∧ ∀ i t, ts[i]? = some t → TokE G h i t
def lkV (u : Nat → Nat) (n p : Nat) : Int32 := if p < n then nI (u p) else -1
section
variable {G : Gh} {d : Nat} {h : AH} {u : Nat → Nat} {n p : Nat} {ts : List (Nat × Nat × Nat)}
theorem Tks.push {h' : AH} {t : Nat × Nat × Nat} (hT : Tks G h ts) (h28 : fI h' (gW G 1) 28 = nI (ts.length + 1))
    (ho : ∀ i, i < ts.length → aI h' (gW G 1024) i = aI h (gW G 1024) i ∧ aI h' (gW G 1025) i = aI h (gW G 1025) i ∧ aJ h' (gW G 1026) i = aJ h (gW G 1026) i ∧ aJ h' (gW G 1027) i = aJ h (gW G 1027) i)
    (hn : TokE G h' ts.length t) : Tks G h' (ts ++ [t]) := by
  refine ⟨by rw [h28, List.length_append]; rfl, fun i t' ht => ?_⟩
  by_cases hi : i < ts.length
  · rw [List.getElem?_append_left hi] at ht
    obtain ⟨a1, a2, a3, a4⟩ := ho i hi
    have := hT.2 i t' ht
    unfold TokE
    rw [a1, a2, a3, a4]
    exact this
  · rw [List.getElem?_append_right (by omega)] at ht
    have e : i = ts.length := by
      by_cases e : i - ts.length = 0
      · omega
      · rw [List.getElem?_eq_none (by simp; omega)] at ht; cases ht
    subst e
    simp at ht
    rw [← ht]
    exact hn
theorem c_look {k : Nat} (s1 : So 1 (gW G) h) (hT : Txt G h u n) (ha : fI h (gW G 1) 29 = nI p) (hp : p + k ≤ 8000) : C G mX2_look d [.ref (gW G 1), .int (nI k)] h (Ret (.int (lkV u n (p + k))) h) := by
  obtain ⟨t1, t2, t3, t4⟩ := hT
  refine bX2_look G d h _ (nI k) s1 ?_
  rw [t1, ha, nI_add, nI_leI (by omega) (by omega)]
  unfold lkV
  refine ⟨fun q => ?_, fun q => ⟨vp_in_nI (by omega) (by omega), ?_⟩⟩
  · rw [if_neg (by omega)]
    exact ⟨rfl, rfl⟩
  · rw [if_pos (by omega), nI_cn (by omega)]
    exact ⟨by rw [and255 (t3 _) (t4 _ (by omega))], rfl⟩
theorem lk_int (hu : ∀ i, u i < 256) : (lkV u n p).toInt = if p < n then (u p : Int) else -1 := by
  unfold lkV
  split
  · rw [nI_toInt (by have := hu p; omega)]
  · decide
theorem bet {a b x : Int32} {A B : Int} (ha : a.toInt = A) (hb : b.toInt = B) {f : Int32 → Prop} (k : f (b2 (decide (A ≤ x.toInt) && decide (x.toInt ≤ B)))) : (x < a → f 0) ∧ (¬ x < a → (b < x → f 0) ∧ (¬ b < x → f 1)) := by
  simp only [Int32.lt_iff_toInt_lt, ha, hb]
  refine ⟨fun q => ?_, fun q => ⟨fun r => ?_, fun r => ?_⟩⟩
  · rw [decide_eq_false (show ¬ A ≤ x.toInt by omega)] at k; exact k
  · rw [decide_eq_false (show ¬ x.toInt ≤ B by omega), Bool.and_false] at k; exact k
  · rw [decide_eq_true (show A ≤ x.toInt by omega), decide_eq_true (show x.toInt ≤ B by omega)] at k; exact k
theorem bet_lk {A B : Nat} (hu : ∀ i, u i < 256) (hB : B < 256) : (decide ((A : Int) ≤ (lkV u n p).toInt) && decide ((lkV u n p).toInt ≤ (B : Int))) = (decide (A ≤ at0 u n p) && decide (at0 u n p ≤ B)) := by
  rw [lk_int hu]
  unfold at0
  by_cases hp : p < n
  · simp only [hp, if_true]
    congr 1
    · exact decide_eq_decide.mpr (by omega)
    · exact decide_eq_decide.mpr (by omega)
  · simp only [hp, if_false]
    rw [decide_eq_false (show ¬ (A : Int) ≤ -1 by omega), decide_eq_false (show ¬ 256 ≤ B by omega), Bool.and_false]
    rfl
theorem c_small (hu : ∀ i, u i < 256) : C G mX2_small d [.int (lkV u n p)] h (Ret (.int (b2 (sm (at0 u n p)))) h) :=
  bX2_small G d h _ _ (bet (A := ((97 : Nat) : Int)) (B := ((122 : Nat) : Int)) rfl rfl (f := fun v => Ret _ h (.returned (some (.int v))) h) (by rw [bet_lk (A := 97) (B := 122) hu (by decide)]; exact ⟨rfl, rfl⟩))
theorem c_great (hu : ∀ i, u i < 256) : C G mX2_great d [.int (lkV u n p)] h (Ret (.int (b2 (gr (at0 u n p)))) h) :=
  bX2_great G d h _ _ (bet (A := ((65 : Nat) : Int)) (B := ((90 : Nat) : Int)) rfl rfl (f := fun v => Ret _ h (.returned (some (.int v))) h) (by rw [bet_lk (A := 65) (B := 90) hu (by decide)]; exact ⟨rfl, rfl⟩))
theorem c_digit (hu : ∀ i, u i < 256) : C G mX2_digit d [.int (lkV u n p)] h (Ret (.int (b2 (dg (at0 u n p)))) h) :=
  bX2_digit G d h _ _ (bet (A := ((48 : Nat) : Int)) (B := ((57 : Nat) : Int)) rfl rfl (f := fun v => Ret _ h (.returned (some (.int v))) h) (by rw [bet_lk (A := 48) (B := 57) hu (by decide)]; exact ⟨rfl, rfl⟩))
theorem c_tadd {m : Nat} {k pl : Int32} (s1 : So 1 (gW G) h) (hm : fI h (gW G 1) 28 = nI m) (hl : m < 4098) : C G mX2_add d [.ref (gW G 1), .int k, .int pl] h (fun o h' => o = .returned none ∧ h' = pI (sI (sI h (gW G 1024) m k) (gW G 1025) m pl) (gW G 1) 28 (nI (m + 1))) := by
  refine bX2_add G d h _ k pl s1 ⟨by rw [hm]; exact vp_in_nI hl (by omega), ?_⟩
  rintro _ rfl
  refine ⟨by rw [fI_sI, hm]; exact vp_in_nI hl (by omega), ?_⟩
  rintro _ rfl _ rfl
  refine ⟨rfl, ?_⟩
  simp only [fI_sI, hm, nI_cn (show m < 2147483648 by omega), nI_1]
theorem dgt_step {v c : Nat} (hv : v ≤ 1099511627776) (h1 : 48 ≤ c) (h2 : c ≤ 57) : lN v * 10 + (nI c).toInt64 - 48 = lN (v * 10 + c - 48) := by
  have e1 : (lN v).toInt = v := lN_int (by omega)
  have e2 : (10 : Int64).toInt = 10 := rfl
  have e3 : ((nI c).toInt64).toInt = c := by rw [Int32.toInt_toInt64, nI_toInt (by omega)]
  have e4 : (48 : Int64).toInt = 48 := rfl
  have m1 : (lN v * 10).toInt = v * 10 := by rw [j_mul] <;> rw [e1, e2] <;> omega
  have m2 : (lN v * 10 + (nI c).toInt64).toInt = v * 10 + c := by rw [j_add] <;> rw [m1, e3] <;> omega
  refine j_of (by omega) ?_
  rw [j_sub] <;> rw [m2, e4] <;> omega
/-- what number leaves: the value v, the place q behind -/
def numP (G : Gh) (ts : List (Nat × Nat × Nat)) (p v q : Nat) : Outcome → AH → Prop := fun o h' => o = .returned (some (.int (b2 (decide (v ≤ 2147483647))))) ∧ fI h' (gW G 1) 29 = nI q ∧ Tks G h' (ts ++ [(if v ≤ 2147483647 then 283 else 292, p, v)])
theorem number_end (hD : DW (gW G)) (hl : ts.length ≤ 4096) {q v : Nat} (s1 : So 1 (gW G) h) (hts : Tks G h ts) (ha : fI h (gW G 1) 29 = nI q) (hv : v ≤ 1099511627776) :
    vp_in (fI h (gW G 1) 28) 4098 ∧ ∀ h9, h9 = sJ h (gW G 1026) (fI h (gW G 1) 28).toNatClampNeg (lN v) → ((0 < (lg_cmp (lN v) 2147483647) → (C G mX2_add d [.ref (gW G 1), .int (292), .int (nI p)] h9 (KV (numP G ts p v q) (fun h13 => (numP G ts p v q) (.returned (some (.int 0))) h13)))) ∧ (¬ (0 < (lg_cmp (lN v) 2147483647)) → (C G mX2_add d [.ref (gW G 1), .int (283), .int (nI p)] h9 (KV (numP G ts p v q) (fun h16 => (numP G ts p v q) (.returned (some (.int 1))) h16))))) := by
  have hm := hts.1
  have hc : (nI ts.length).toNatClampNeg = ts.length := nI_cn (by omega)
  refine ⟨by rw [hm]; exact vp_in_nI (by omega) (by omega), ?_⟩
  rintro _ rfl
  rw [hm, hc, lg_pos, lN_int (by omega), show (2147483647 : Int64).toInt = 2147483647 from rfl]
  have s1' : So 1 (gW G) (sJ h (gW G 1026) ts.length (lN v)) := s1.le sc1 sJ_le
  have key : ∀ kd : Nat, kd = (if v ≤ 2147483647 then 283 else 292) → Tks G (pI (sI (sI (sJ h (gW G 1026) ts.length (lN v)) (gW G 1024) ts.length (nI kd)) (gW G 1025) ts.length (nI p)) (gW G 1) 28 (nI (ts.length + 1))) (ts ++ [(if v ≤ 2147483647 then 283 else 292, p, v)]) := by
    intro kd hk
    refine hts.push ?_ (fun i hi => ?_) ?_
    · simp [hK_pI, hL_pI, fI_pI, fJ_pI, fR_pI, aI_pI, aJ_pI, aR_pI, hc_pI, hs_pI, hK_pJ, hL_pJ, fI_pJ, fJ_pJ, fR_pJ, aI_pJ, aJ_pJ, aR_pJ, hc_pJ, hs_pJ, hK_pR, hL_pR, fI_pR, fJ_pR, fR_pR, aI_pR, aJ_pR, aR_pR, hc_pR, hs_pR, hK_sI, hL_sI, fI_sI, fJ_sI, fR_sI, aI_sI, aJ_sI, aR_sI, hc_sI, hs_sI, hK_sJ, hL_sJ, fI_sJ, fJ_sJ, fR_sJ, aI_sJ, aJ_sJ, aR_sJ, hc_sJ, hs_sJ, hK_sR, hL_sR, fI_sR, fJ_sR, fR_sR, aI_sR, aJ_sR, aR_sR, hc_sR, hs_sR, hK_nO, hL_nO, fI_nO, fJ_nO, fR_nO, aI_nO, aJ_nO, aR_nO, hc_nO, hs_nO, hK_nA, hL_nA, fI_nA, fJ_nA, fR_nA, aI_nA, aJ_nA, aR_nA, hc_nA, hs_nA]
    · have hne : ¬ i = ts.length := by omega
      simp (config := { decide := true }) [hK_pI, hL_pI, fI_pI, fJ_pI, fR_pI, aI_pI, aJ_pI, aR_pI, hc_pI, hs_pI, hK_pJ, hL_pJ, fI_pJ, fJ_pJ, fR_pJ, aI_pJ, aJ_pJ, aR_pJ, hc_pJ, hs_pJ, hK_pR, hL_pR, fI_pR, fJ_pR, fR_pR, aI_pR, aJ_pR, aR_pR, hc_pR, hs_pR, hK_sI, hL_sI, fI_sI, fJ_sI, fR_sI, aI_sI, aJ_sI, aR_sI, hc_sI, hs_sI, hK_sJ, hL_sJ, fI_sJ, fJ_sJ, fR_sJ, aI_sJ, aJ_sJ, aR_sJ, hc_sJ, hs_sJ, hK_sR, hL_sR, fI_sR, fJ_sR, fR_sR, aI_sR, aJ_sR, aR_sR, hc_sR, hs_sR, hK_nO, hL_nO, fI_nO, fJ_nO, fR_nO, aI_nO, aJ_nO, aR_nO, hc_nO, hs_nO, hK_nA, hL_nA, fI_nA, fJ_nA, fR_nA, aI_nA, aJ_nA, aR_nA, hc_nA, hs_nA, hD.eqw, hne]
    · refine ⟨?_, ?_, ?_, ?_⟩
      · simp (config := { decide := true }) [hK_pI, hL_pI, fI_pI, fJ_pI, fR_pI, aI_pI, aJ_pI, aR_pI, hc_pI, hs_pI, hK_pJ, hL_pJ, fI_pJ, fJ_pJ, fR_pJ, aI_pJ, aJ_pJ, aR_pJ, hc_pJ, hs_pJ, hK_pR, hL_pR, fI_pR, fJ_pR, fR_pR, aI_pR, aJ_pR, aR_pR, hc_pR, hs_pR, hK_sI, hL_sI, fI_sI, fJ_sI, fR_sI, aI_sI, aJ_sI, aR_sI, hc_sI, hs_sI, hK_sJ, hL_sJ, fI_sJ, fJ_sJ, fR_sJ, aI_sJ, aJ_sJ, aR_sJ, hc_sJ, hs_sJ, hK_sR, hL_sR, fI_sR, fJ_sR, fR_sR, aI_sR, aJ_sR, aR_sR, hc_sR, hs_sR, hK_nO, hL_nO, fI_nO, fJ_nO, fR_nO, aI_nO, aJ_nO, aR_nO, hc_nO, hs_nO, hK_nA, hL_nA, fI_nA, fJ_nA, fR_nA, aI_nA, aJ_nA, aR_nA, hc_nA, hs_nA, hD.eqw, hk]
      · simp (config := { decide := true }) [hK_pI, hL_pI, fI_pI, fJ_pI, fR_pI, aI_pI, aJ_pI, aR_pI, hc_pI, hs_pI, hK_pJ, hL_pJ, fI_pJ, fJ_pJ, fR_pJ, aI_pJ, aJ_pJ, aR_pJ, hc_pJ, hs_pJ, hK_pR, hL_pR, fI_pR, fJ_pR, fR_pR, aI_pR, aJ_pR, aR_pR, hc_pR, hs_pR, hK_sI, hL_sI, fI_sI, fJ_sI, fR_sI, aI_sI, aJ_sI, aR_sI, hc_sI, hs_sI, hK_sJ, hL_sJ, fI_sJ, fJ_sJ, fR_sJ, aI_sJ, aJ_sJ, aR_sJ, hc_sJ, hs_sJ, hK_sR, hL_sR, fI_sR, fJ_sR, fR_sR, aI_sR, aJ_sR, aR_sR, hc_sR, hs_sR, hK_nO, hL_nO, fI_nO, fJ_nO, fR_nO, aI_nO, aJ_nO, aR_nO, hc_nO, hs_nO, hK_nA, hL_nA, fI_nA, fJ_nA, fR_nA, aI_nA, aJ_nA, aR_nA, hc_nA, hs_nA, hD.eqw]
      · show (if v ≤ 2147483647 then 283 else 292) = 280 ∨ _ → _
        split <;> simp
      · intro _
        simp (config := { decide := true }) [hK_pI, hL_pI, fI_pI, fJ_pI, fR_pI, aI_pI, aJ_pI, aR_pI, hc_pI, hs_pI, hK_pJ, hL_pJ, fI_pJ, fJ_pJ, fR_pJ, aI_pJ, aJ_pJ, aR_pJ, hc_pJ, hs_pJ, hK_pR, hL_pR, fI_pR, fJ_pR, fR_pR, aI_pR, aJ_pR, aR_pR, hc_pR, hs_pR, hK_sI, hL_sI, fI_sI, fJ_sI, fR_sI, aI_sI, aJ_sI, aR_sI, hc_sI, hs_sI, hK_sJ, hL_sJ, fI_sJ, fJ_sJ, fR_sJ, aI_sJ, aJ_sJ, aR_sJ, hc_sJ, hs_sJ, hK_sR, hL_sR, fI_sR, fJ_sR, fR_sR, aI_sR, aJ_sR, aR_sR, hc_sR, hs_sR, hK_nO, hL_nO, fI_nO, fJ_nO, fR_nO, aI_nO, aJ_nO, aR_nO, hc_nO, hs_nO, hK_nA, hL_nA, fI_nA, fJ_nA, fR_nA, aI_nA, aJ_nA, aR_nA, hc_nA, hs_nA, hD.eqw]
  refine ⟨fun z => ?_, fun z => ?_⟩
  · refine C.mono (c_tadd s1' (m := ts.length) (by rw [fI_sJ]; exact hm) (by omega)) ?_
    rintro _ _ ⟨rfl, rfl⟩
    refine KV.i ⟨?_, ?_, key 292 (by rw [if_neg (by omega)])⟩
    · rw [decide_eq_false (by omega)]; rfl
    · simp [hK_pI, hL_pI, fI_pI, fJ_pI, fR_pI, aI_pI, aJ_pI, aR_pI, hc_pI, hs_pI, hK_pJ, hL_pJ, fI_pJ, fJ_pJ, fR_pJ, aI_pJ, aJ_pJ, aR_pJ, hc_pJ, hs_pJ, hK_pR, hL_pR, fI_pR, fJ_pR, fR_pR, aI_pR, aJ_pR, aR_pR, hc_pR, hs_pR, hK_sI, hL_sI, fI_sI, fJ_sI, fR_sI, aI_sI, aJ_sI, aR_sI, hc_sI, hs_sI, hK_sJ, hL_sJ, fI_sJ, fJ_sJ, fR_sJ, aI_sJ, aJ_sJ, aR_sJ, hc_sJ, hs_sJ, hK_sR, hL_sR, fI_sR, fJ_sR, fR_sR, aI_sR, aJ_sR, aR_sR, hc_sR, hs_sR, hK_nO, hL_nO, fI_nO, fJ_nO, fR_nO, aI_nO, aJ_nO, aR_nO, hc_nO, hs_nO, hK_nA, hL_nA, fI_nA, fJ_nA, fR_nA, aI_nA, aJ_nA, aR_nA, hc_nA, hs_nA, ha]
  · refine C.mono (c_tadd s1' (m := ts.length) (by rw [fI_sJ]; exact hm) (by omega)) ?_
    rintro _ _ ⟨rfl, rfl⟩
    refine KV.i ⟨?_, ?_, key 283 (by rw [if_pos (by omega)])⟩
    · rw [decide_eq_true (by omega)]; rfl
    · simp [hK_pI, hL_pI, fI_pI, fJ_pI, fR_pI, aI_pI, aJ_pI, aR_pI, hc_pI, hs_pI, hK_pJ, hL_pJ, fI_pJ, fJ_pJ, fR_pJ, aI_pJ, aJ_pJ, aR_pJ, hc_pJ, hs_pJ, hK_pR, hL_pR, fI_pR, fJ_pR, fR_pR, aI_pR, aJ_pR, aR_pR, hc_pR, hs_pR, hK_sI, hL_sI, fI_sI, fJ_sI, fR_sI, aI_sI, aJ_sI, aR_sI, hc_sI, hs_sI, hK_sJ, hL_sJ, fI_sJ, fJ_sJ, fR_sJ, aI_sJ, aJ_sJ, aR_sJ, hc_sJ, hs_sJ, hK_sR, hL_sR, fI_sR, fJ_sR, fR_sR, aI_sR, aJ_sR, aR_sR, hc_sR, hs_sR, hK_nO, hL_nO, fI_nO, fJ_nO, fR_nO, aI_nO, aJ_nO, aR_nO, hc_nO, hs_nO, hK_nA, hL_nA, fI_nA, fJ_nA, fR_nA, aI_nA, aJ_nA, aR_nA, hc_nA, hs_nA, ha]
theorem loop_number (hD : DW (gW G)) (hu : ∀ i, u i < 256) (hl : ts.length ≤ 4096) : ∀ k q v h, So 1 (gW G) h → Txt G h u n → fI h (gW G 1) 29 = nI q → k = n - q → q ≤ n → v ≤ 1099511627776 → Tks G h ts →
    X G mX2_number (d + 1) none [] 7 [(0, .ref (gW G 1)), (1, .int (nI p)), (2, .long (lN v))] [] h (numP G ts p (nums u k q v).1 (nums u k q v).2) := by
  intro k
  induction k with
  | zero =>
    intro q v h s1 hT ha hk hq hv hts
    have hn := hT.2.1
    refine bX2_number_7 G d h _ _ _ s1 ?_
    refine C.ri (c_look (k := 0) s1 hT ha (by omega)) (C.ri (c_digit hu) ⟨fun z => ?_, fun z => ?_⟩)
    · exact number_end hD hl s1 hts ha hv
    · refine absurd ?_ z
      rw [b2_0, at0, if_neg (by omega)]
      rfl
  | succ k ih =>
    intro q v h s1 hT ha hk hq hv hts
    have hn := hT.2.1
    have e0 : at0 u n (q + 0) = u q := by rw [at0, if_pos (by omega)]; rfl
    refine bX2_number_7 G d h _ _ _ s1 ?_
    refine C.ri (c_look (k := 0) s1 hT ha (by omega)) (C.ri (c_digit hu) ?_)
    rw [e0]
    refine ⟨fun z => ?_, fun z => ?_⟩
    · have e : nums u (k + 1) q v = (v, q) := by
        rw [b2_0] at z
        unfold nums
        rw [if_neg (by rw [z]; simp)]
      rw [e]
      exact number_end hD hl s1 hts ha hv
    · have hd : dg (u q) = true := by
        cases hq : dg (u q) with
        | true => rfl
        | false => exact absurd (b2_0.mpr hq) z
      have hd2 : 48 ≤ u q ∧ u q ≤ 57 := by simpa [dg] using hd
      refine C.ri (c_look (k := 0) s1 hT ha (by omega)) ?_
      have el : lkV u n (q + 0) = nI (u q) := by unfold lkV; rw [if_pos (by omega)]; rfl
      rw [el, dgt_step hv hd2.1 hd2.2]
      refine C.rj c_min ?_
      rintro _ rfl
      have em : (if (1099511627776 : Int64).toInt < (lN (v * 10 + u q - 48)).toInt then (1099511627776 : Int64) else lN (v * 10 + u q - 48)) = lN (min (v * 10 + u q - 48) 1099511627776) := by
        rw [lN_int (by omega), show (1099511627776 : Int64).toInt = 1099511627776 from rfl]
        split
        · rw [Nat.min_eq_right (by omega)]; rfl
        · rw [Nat.min_eq_left (by omega)]
      rw [em, ha, nI_1]
      have en : nums u (k + 1) q v = nums u k (q + 1) (min (v * 10 + u q - 48) 1099511627776) := by
        rw [nums, if_pos hd]
      rw [en]
      refine ih (q + 1) _ _ (s1.le sc1 (pI_le (Or.inl rfl))) ?_ ?_ (by omega) (by omega) (Nat.min_le_right _ _) ?_
      · obtain ⟨t1, t2, t3, t4⟩ := hT
        exact ⟨by simpa [hK_pI, hL_pI, fI_pI, fJ_pI, fR_pI, aI_pI, aJ_pI, aR_pI, hc_pI, hs_pI, hK_pJ, hL_pJ, fI_pJ, fJ_pJ, fR_pJ, aI_pJ, aJ_pJ, aR_pJ, hc_pJ, hs_pJ, hK_pR, hL_pR, fI_pR, fJ_pR, fR_pR, aI_pR, aJ_pR, aR_pR, hc_pR, hs_pR, hK_sI, hL_sI, fI_sI, fJ_sI, fR_sI, aI_sI, aJ_sI, aR_sI, hc_sI, hs_sI, hK_sJ, hL_sJ, fI_sJ, fJ_sJ, fR_sJ, aI_sJ, aJ_sJ, aR_sJ, hc_sJ, hs_sJ, hK_sR, hL_sR, fI_sR, fJ_sR, fR_sR, aI_sR, aJ_sR, aR_sR, hc_sR, hs_sR, hK_nO, hL_nO, fI_nO, fJ_nO, fR_nO, aI_nO, aJ_nO, aR_nO, hc_nO, hs_nO, hK_nA, hL_nA, fI_nA, fJ_nA, fR_nA, aI_nA, aJ_nA, aR_nA, hc_nA, hs_nA] using t1, t2, t3, t4⟩
      · simp [hK_pI, hL_pI, fI_pI, fJ_pI, fR_pI, aI_pI, aJ_pI, aR_pI, hc_pI, hs_pI, hK_pJ, hL_pJ, fI_pJ, fJ_pJ, fR_pJ, aI_pJ, aJ_pJ, aR_pJ, hc_pJ, hs_pJ, hK_pR, hL_pR, fI_pR, fJ_pR, fR_pR, aI_pR, aJ_pR, aR_pR, hc_pR, hs_pR, hK_sI, hL_sI, fI_sI, fJ_sI, fR_sI, aI_sI, aJ_sI, aR_sI, hc_sI, hs_sI, hK_sJ, hL_sJ, fI_sJ, fJ_sJ, fR_sJ, aI_sJ, aJ_sJ, aR_sJ, hc_sJ, hs_sJ, hK_sR, hL_sR, fI_sR, fJ_sR, fR_sR, aI_sR, aJ_sR, aR_sR, hc_sR, hs_sR, hK_nO, hL_nO, fI_nO, fJ_nO, fR_nO, aI_nO, aJ_nO, aR_nO, hc_nO, hs_nO, hK_nA, hL_nA, fI_nA, fJ_nA, fR_nA, aI_nA, aJ_nA, aR_nA, hc_nA, hs_nA]
      · exact ⟨by simpa [hK_pI, hL_pI, fI_pI, fJ_pI, fR_pI, aI_pI, aJ_pI, aR_pI, hc_pI, hs_pI, hK_pJ, hL_pJ, fI_pJ, fJ_pJ, fR_pJ, aI_pJ, aJ_pJ, aR_pJ, hc_pJ, hs_pJ, hK_pR, hL_pR, fI_pR, fJ_pR, fR_pR, aI_pR, aJ_pR, aR_pR, hc_pR, hs_pR, hK_sI, hL_sI, fI_sI, fJ_sI, fR_sI, aI_sI, aJ_sI, aR_sI, hc_sI, hs_sI, hK_sJ, hL_sJ, fI_sJ, fJ_sJ, fR_sJ, aI_sJ, aJ_sJ, aR_sJ, hc_sJ, hs_sJ, hK_sR, hL_sR, fI_sR, fJ_sR, fR_sR, aI_sR, aJ_sR, aR_sR, hc_sR, hs_sR, hK_nO, hL_nO, fI_nO, fJ_nO, fR_nO, aI_nO, aJ_nO, aR_nO, hc_nO, hs_nO, hK_nA, hL_nA, fI_nA, fJ_nA, fR_nA, aI_nA, aJ_nA, aR_nA, hc_nA, hs_nA] using hts.1, fun i t ht => hts.2 i t ht⟩
theorem c_number (hD : DW (gW G)) (s1 : So 1 (gW G) h) (hT : Txt G h u n) (ha : fI h (gW G 1) 29 = nI p) (hp : p ≤ n) (hts : Tks G h ts) (hl : ts.length ≤ 4096) :
    C G mX2_number (d + 1) [.ref (gW G 1)] h (numP G ts p (nums u (n - p) p 0).1 (nums u (n - p) p 0).2) := by
  refine bX2_number G d h _ s1 ?_
  rintro _ rfl
  rw [ha]
  exact loop_number hD hT.2.2.1 hl (n - p) p 0 h s1 hT ha rfl hp (by omega) hts
end
