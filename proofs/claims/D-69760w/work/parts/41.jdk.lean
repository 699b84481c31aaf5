/-! METHODS OF THE JDK -/
section
variable {G : Gh} {d : Nat} {h : AH}
/-- a method that only answers -/
def Ret (v : Value) (h : AH) : Outcome → AH → Prop := fun o h' => o = .returned (some v) ∧ h' = h
theorem C.ri {μ : Mu} {av : List Value} {x : Int32} {Q : Outcome → AH → Prop} {f : Int32 → AH → Prop} (k : C G μ d av h (Ret (.int x) h)) (q : f x h) : C G μ d av h (KI Q f) :=
  C.mono k fun o h' ⟨e1, e2⟩ => by subst e1 e2; exact KI.i q
theorem C.rj {μ : Mu} {av : List Value} {x : Int64} {Q : Outcome → AH → Prop} {f : Int64 → AH → Prop} (k : C G μ d av h (Ret (.long x) h)) (q : f x h) : C G μ d av h (KJ Q f) :=
  C.mono k fun o h' ⟨e1, e2⟩ => by subst e1 e2; exact KJ.i q
theorem C.rr {μ : Mu} {av : List Value} {x : Nat} {Q : Outcome → AH → Prop} {f : Nat → AH → Prop} (k : C G μ d av h (Ret (.ref x) h)) (q : f x h) : C G μ d av h (KR Q f) :=
  C.mono k fun o h' ⟨e1, e2⟩ => by subst e1 e2; exact KR.i q
/-- what Throwable's constructor leaves -/
def ThW (a : Nat) (h h' : AH) : Prop := ∃ r1 r2, h' = pR (pR (pR (pR h a 290 (some a)) a 291 r1) a 292 r2) a 291 r1
theorem c_J5 {a ci : Nat} (hex : isEx ci) (hk : hK h a = ci + 1) (hn : hN h = some a) (hz : fR h a 294 = none) : C G mJ5_init (d + 3) [.ref a] h (fun o h' => o = .returned none ∧ ThW a h h') := by
  refine C.of_X (by decide +kernel) (Nat.le_of_ble_eq_true rfl) wJ5_init ?_
  show X G mJ5_init (d + 3) (some a) [] 0 [(0, .ref a)] [] h _
  refine x_aload_n (pc' := 1) 0 (dJ5_init 0 rfl rfl) rfl rfl rfl ?_
  refine x_thInit (pc' := 4) rfl (dJ5_init 1 rfl rfl) q1099 hex hk hn hz (by decide) rfl (fun r1 r2 h' e => ?_)
  exact x_vret (dJ5_init 2 rfl rfl) rfl ⟨rfl, r1, r2, e⟩
theorem c_J6 {a ci : Nat} (hex : isEx ci) (hk : hK h a = ci + 1) (hn : hN h = some a) (hz : fR h a 294 = none) : C G mJ6_init (d + 4) [.ref a] h (fun o h' => o = .returned none ∧ ThW a h h') := by
  refine bJ6_init G (d + 3) h _ a (C.mono (c_J5 hex hk hn hz) ?_)
  rintro _ h1 ⟨rfl, q⟩
  exact KV.i ⟨rfl, q⟩
theorem c_J7 {a ci : Nat} (hex : isEx ci) (hk : hK h a = ci + 1) (hn : hN h = some a) (hz : fR h a 294 = none) : C G mJ7_init (d + 5) [.ref a] h (fun o h' => o = .returned none ∧ ThW a h h') := by
  refine bJ7_init G (d + 4) h _ a (C.mono (c_J6 hex hk hn hz) ?_)
  rintro _ h1 ⟨rfl, q⟩
  exact KV.i ⟨rfl, q⟩
theorem c_J8 {a ci : Nat} (hex : isEx ci) (hk : hK h a = ci + 1) (hn : hN h = some a) (hz : fR h a 294 = none) : C G mJ8_init (d + 5) [.ref a] h (fun o h' => o = .returned none ∧ ThW a h h') := by
  refine bJ8_init G (d + 4) h _ a (C.mono (c_J6 hex hk hn hz) ?_)
  rintro _ h1 ⟨rfl, q⟩
  exact KV.i ⟨rfl, q⟩
theorem c_J11 {a ci : Nat} (hex : isEx ci) (hk : hK h a = ci + 1) (hn : hN h = some a) (hz : fR h a 294 = none) : C G mJ11_init (d + 5) [.ref a] h (fun o h' => o = .returned none ∧ ThW a h h') := by
  refine bJ11_init G (d + 4) h _ a (C.mono (c_J6 hex hk hn hz) ?_)
  rintro _ h1 ⟨rfl, q⟩
  exact KV.i ⟨rfl, q⟩
theorem c_J12 {a ci : Nat} (hex : isEx ci) (hk : hK h a = ci + 1) (hn : hN h = some a) (hz : fR h a 294 = none) : C G mJ12_init (d + 5) [.ref a] h (fun o h' => o = .returned none ∧ ThW a h h') := by
  refine bJ12_init G (d + 4) h _ a (C.mono (c_J6 hex hk hn hz) ?_)
  rintro _ h1 ⟨rfl, q⟩
  exact KV.i ⟨rfl, q⟩
theorem ThW.hK {a : Nat} {h' : AH} (t : ThW a h h') : hK h' = hK h := by
  obtain ⟨_, _, rfl⟩ := t
  rfl
/-- a Fault -/
theorem c_Fault {a : Nat} {x y : Int32} (hk : hK h a = 18) (hn : hN h = some a) (hz : fR h a 294 = none) : C G mX18_init (d + 5) [.ref a, .int x, .int y] h (fun o h' => o = .returned none ∧ ∃ h1, ThW a h h1 ∧ h' = pI (pI h1 a 300 x) a 301 y) := by
  refine bX18_init G (d + 4) h _ a x y (C.mono (c_J6 (ci := 17) (Or.inr (Or.inr (Or.inl rfl))) hk hn hz) ?_)
  rintro _ h1 ⟨rfl, q⟩
  refine KV.i ⟨by rw [q.hK]; exact hk, ?_⟩
  rintro _ rfl _ rfl
  exact ⟨rfl, h1, q, rfl⟩
theorem c_coder {i : Nat} (hi : i < slen.length) : C G mJ0_coder d [.ref (G.2.2.2.1 i)] h (Ret (.int 0) h) := bJ0_coder G d h _ i hi ⟨rfl, rfl, rfl⟩
theorem c_isLatin1 {i : Nat} (hi : i < slen.length) : C G mJ0_isLatin1 d [.ref (G.2.2.2.1 i)] h (Ret (.int 1) h) := bJ0_isLatin1 G d h _ i hi ⟨rfl, rfl⟩
theorem c_length {i : Nat} (hi : i < slen.length) : C G mJ0_length (d + 1) [.ref (G.2.2.2.1 i)] h (Ret (.int (Int32.ofNat (slen.getD i 0))) h) := by
  refine bJ0_length G d h _ i hi (C.mono (c_coder hi) ?_)
  rintro _ _ ⟨rfl, rfl⟩
  refine KI.i ⟨?_, rfl⟩
  rw [show (0 : Int32) &&& 31 = 0 by decide]
  congr 4
  simp
theorem c_chk {x y : Int32} (hx : ¬ x < 0) (hy : x < y) : C G mJ0_checkIndex (d + 2) [.int x, .int y] h (fun o h' => o = .returned none ∧ h' = h) := by
  have k : ∀ p : Option Nat, C G mJ2_checkIndex (d + 1) [.int x, .int y, va_rf p] h (Ret (.int x) h) := fun p =>
    bJ2_checkIndex G d h _ x y p ⟨fun _ => ⟨fun q => absurd q hx, fun _ => ⟨fun _ => ⟨rfl, rfl⟩, fun q => absurd hy q⟩⟩, fun _ _ => ⟨fun q => absurd q hx, fun _ => ⟨fun _ => ⟨rfl, rfl⟩, fun q => absurd hy q⟩⟩⟩
  refine bJ0_checkIndex G (d + 1) h _ x y ⟨C.mono (k none) ?_, fun b => C.mono (k (some b)) ?_⟩
  · rintro _ _ ⟨rfl, rfl⟩
    exact KI.i ⟨rfl, rfl⟩
  · rintro _ _ ⟨rfl, rfl⟩
    exact KI.i ⟨rfl, rfl⟩
/-- the j-th letter of the i-th String -/
def chr (i j : Nat) : Int32 := (sbyt.getD i []).getD j 0
theorem chr_ok : ∀ i, i < slen.length → ∀ j, j < slen.getD i 0 → ((((chr i j) &&& 255 : Int32).toUInt32 % 65536).toInt32) = chr i j ∧ narrow .char (.int (chr i j)) = .int (chr i j) := by decide +kernel
theorem slen_le : ∀ i, slen.getD i 0 ≤ 90 := by
  intro i
  by_cases h : i < slen.length
  · have : ∀ i, i < slen.length → slen.getD i 0 ≤ 90 := by decide +kernel
    exact this i h
  · rw [List.getD, List.getElem?_eq_none (by omega)]
    decide
theorem c_charAt {i j : Nat} (hi : i < slen.length) (hj : j < slen.getD i 0) : C G mJ0_charAt (d + 4) [.ref (G.2.2.2.1 i), .int (nI j)] h (Ret (.int (chr i j)) h) := by
  have h90 := slen_le i
  refine bJ0_charAt G (d + 3) h _ i hi (nI j) (C.ri (c_isLatin1 hi) ⟨fun q => absurd q (by decide), fun _ => ?_⟩)
  have e : ((sbyt.getD i []).getD (nI j).toNatClampNeg 0 : Int32) = chr i j := by rw [i_cn, nI_toInt (by omega)]; rfl
  have k : C G mJ1_charAt (d + 3) [.ref (G.2.2.2.2.1 i), .int (nI j)] h (Ret (.int (chr i j)) h) := by
    refine bJ1_charAt G (d + 2) h _ i hi (nI j) (C.mono (c_chk ?_ ?_) ?_)
    · rw [Int32.lt_iff_toInt_lt, nI_toInt (by omega)]
      simp
    · rw [Int32.lt_iff_toInt_lt, nI_toInt (by omega), i_ofNat (by omega)]
      omega
    · rintro _ _ ⟨rfl, rfl⟩
      refine KV.i ⟨vp_in_nI hj (by omega), ?_⟩
      rw [e, (chr_ok i hi j hj).1]
      exact ⟨(chr_ok i hi j hj).2, rfl, rfl⟩
  refine C.mono k ?_
  rintro _ _ ⟨rfl, rfl⟩
  exact KI.i ⟨(chr_ok i hi j hj).2, rfl, rfl⟩
theorem lg_pos {x y : Int64} : 0 < lg_cmp x y ↔ y.toInt < x.toInt := by
  unfold lg_cmp
  rw [← Int64.lt_iff_toInt_lt]
  split
  · next q => exact ⟨fun _ => q, fun _ => by decide⟩
  · next q =>
    split
    · exact ⟨fun r => absurd r (by decide), fun r => absurd r q⟩
    · exact ⟨fun r => absurd r (by decide), fun r => absurd r q⟩
theorem lg_zero {x y : Int64} : lg_cmp x y = 0 ↔ x = y := by
  unfold lg_cmp
  split
  · next q => exact ⟨fun r => absurd r (by decide), fun r => by subst r; exact absurd q (by rw [gt_iff_lt, Int64.lt_iff_toInt_lt]; omega)⟩
  · split
    · next q => exact ⟨fun _ => q, fun _ => rfl⟩
    · next q => exact ⟨fun r => absurd r (by decide), fun r => absurd r q⟩
theorem c_min {x y : Int64} : C G mJ9_min d [.long x, .long y] h (Ret (.long (if y.toInt < x.toInt then y else x)) h) := by
  refine bJ9_min G d h _ x y ⟨fun q => ?_, fun q => ?_⟩
  · rw [lg_pos] at q
    rw [if_pos q]
    exact ⟨rfl, rfl⟩
  · rw [lg_pos] at q
    rw [if_neg q]
    exact ⟨rfl, rfl⟩
theorem c_abs {x : Int64} : C G mJ9_abs d [.long x] h (Ret (.long (if x.toInt < 0 then -x else x)) h) := by
  have e : (0 ≤ lg_cmp x 0) ↔ ¬ x.toInt < 0 := by
    unfold lg_cmp
    have : (x > 0) ↔ 0 < x.toInt := by rw [gt_iff_lt, Int64.lt_iff_toInt_lt]; rfl
    have h2 : (x = 0) ↔ x.toInt = 0 := by rw [← Int64.toInt_inj]; rfl
    split
    · next q => rw [this] at q; exact ⟨fun _ => by omega, fun _ => by decide⟩
    · next q =>
      rw [this] at q
      split
      · next r => rw [h2] at r; exact ⟨fun _ => by omega, fun _ => by decide⟩
      · next r => rw [h2] at r; exact ⟨fun z => absurd z (by decide), fun z => by omega⟩
  refine bJ9_abs G d h _ x ⟨fun q => ?_, fun q => ?_⟩
  · rw [e] at q
    rw [if_neg q]
    exact ⟨rfl, rfl⟩
  · rw [e, Classical.not_not] at q
    rw [if_pos q]
    exact ⟨rfl, rfl⟩
end
