/-! THE COMPONENT'S READER: constructors of patterns; arrays out of rows -/
/-- a tree was read -/
def cP (G : Gh) (h : AH) (ts : List (Nat × Nat × Nat)) (D p : Nat) (E : String) (r : Except Nat (Tr × St)) : Outcome → AH → Prop := fun o h' => KP h h' ∧ match r with
  | .ok (tr, s') => ∃ a, o = .returned (some (.ref a)) ∧ CS G h' ts D s' ∧ OT ts (fun b => hK h b = 0) h' tr 0 0 a ∧ CT h' a E ∧ p < s'.1 ∧ un h' + 120 ≤ un h + 200 * (s'.1 - p)
  | .error k => ∃ a, o = .threw a ∧ FA h' ts a k ∧ un h' ≤ un h + 200 * (ts.length - p) + 60
/-- a method reads what p says -/
def CH (G : Gh) (d : Nat) (ts : List (Nat × Nat × Nat)) (D : Nat) (E : String) (μ : Mu) (av : List Value) (p : St → Except Nat (Tr × St)) : Prop :=
  ∀ (h : AH) (s : St), CS G h ts D s → un h + 200 * (ts.length - s.1) + 100 ≤ UB → C G μ (d + 16) (.ref (gW G 7) :: av) h (cP G h ts D s.1 E (p s))
section
variable {G : Gh} {d : Nat} {h0 h h' : AH} {ts : List (Nat × Nat × Nat)} {s : St} {D k i q a : Nat} {N : Nat → Prop}
theorem c_X19 {p : Int32} (hf : HF h a 302 0) : C G mX19_init (d + 1) [.ref a, .int p] h (fun o h' => o = .returned none ∧ h' = pI h a 302 p) := bX19_init G (d + 1) (Nat.le_add_left _ _) h _ _ _ ⟨hf, fun _ e => ⟨rfl, e⟩⟩
theorem c_X21 {p : Int32} (hk : hK h a = 20) : C G mX21_init (d + 2) [.ref a, .int p] h (fun o h' => o = .returned none ∧ h' = pI h a 302 p) := by
  refine bX21_init G (d + 1) h _ _ _ (C.mono (c_X19 (hf_of 19 hk rfl (by decide) (by decide))) ?_)
  rintro _ _ ⟨rfl, rfl⟩
  exact KV.i ⟨rfl, rfl⟩
theorem c_X22 {p : Int32} (hk : hK h a = 21) : C G mX22_init (d + 2) [.ref a, .int p] h (fun o h' => o = .returned none ∧ h' = pI h a 302 p) := by
  refine bX22_init G (d + 1) h _ _ _ (C.mono (c_X19 (hf_of 20 hk rfl (by decide) (by decide))) ?_)
  rintro _ _ ⟨rfl, rfl⟩
  exact KV.i ⟨rfl, rfl⟩
theorem c_X25 {p : Int32} (hk : hK h a = 24) : C G mX25_init (d + 2) [.ref a, .int p] h (fun o h' => o = .returned none ∧ h' = pI h a 302 p) := by
  refine bX25_init G (d + 1) h _ _ _ (C.mono (c_X19 (hf_of 23 hk rfl (by decide) (by decide))) ?_)
  rintro _ _ ⟨rfl, rfl⟩
  exact KV.i ⟨rfl, rfl⟩
theorem c_X20 {p : Int32} {b : Option Nat} (hk : hK h a = 19) : C G mX20_init (d + 2) [.ref a, .int p, va_rf b] h (fun o h' => o = .returned none ∧ h' = pR (pI h a 302 p) a 303 b) := by
  refine bX20_init G (d + 1) h _ _ _ _ ⟨fun e => ?_, fun b' e => ?_⟩
  · subst e
    refine C.mono (c_X19 (hf_of 18 hk rfl (by decide) (by decide))) ?_
    rintro _ _ ⟨rfl, rfl⟩
    exact KV.i ⟨hk, fun _ e => ⟨rfl, e⟩⟩
  · subst e
    refine C.mono (c_X19 (hf_of 18 hk rfl (by decide) (by decide))) ?_
    rintro _ _ ⟨rfl, rfl⟩
    exact KV.i ⟨hk, fun _ e => ⟨rfl, e⟩⟩
theorem c_X23 {p v : Int32} {x : Int64} (hk : hK h a = 22) (hv : v = 0 ∨ v = 1) : C G mX23_init (d + 2) [.ref a, .int p, .long x, .int v] h (fun o h' => o = .returned none ∧ h' = pI (pI (pI h a 302 p) a 306 x.toInt32) a 307 v) := by
  refine bX23_init G (d + 1) h _ _ _ _ _ (C.mono (c_X19 (hf_of 21 hk rfl (by decide) (by decide))) ?_)
  rintro _ _ ⟨rfl, rfl⟩
  refine KV.i ⟨hk, ?_⟩
  rintro _ rfl
  refine ⟨hv, ?_⟩
  rintro _ rfl
  exact ⟨rfl, rfl⟩
theorem c_X24 {p : Int32} {b : Nat} (hk : hK h a = 23) : C G mX24_init (d + 2) [.ref a, .int p, .ref b] h (fun o h' => o = .returned none ∧ h' = pR (pI h a 302 p) a 308 (some b)) := by
  refine bX24_init G (d + 1) h _ _ _ _ (C.mono (c_X19 (hf_of 22 hk rfl (by decide) (by decide))) ?_)
  rintro _ _ ⟨rfl, rfl⟩
  exact KV.i ⟨hk, fun _ e => ⟨rfl, e⟩⟩
theorem c_X26 {p : Int32} {b : Nat} (hk : hK h a = 25) : C G mX26_init (d + 2) [.ref a, .int p, .ref b] h (fun o h' => o = .returned none ∧ h' = pR (pI h a 302 p) a 309 (some b)) := by
  refine bX26_init G (d + 1) h _ _ _ _ (C.mono (c_X19 (hf_of 24 hk rfl (by decide) (by decide))) ?_)
  rintro _ _ ⟨rfl, rfl⟩
  exact KV.i ⟨hk, fun _ e => ⟨rfl, e⟩⟩
theorem c_X27 {p : Int32} {b : Nat} (hk : hK h a = 26) : C G mX27_init (d + 2) [.ref a, .int p, .ref b] h (fun o h' => o = .returned none ∧ h' = pR (pI h a 302 p) a 310 (some b)) := by
  refine bX27_init G (d + 1) h _ _ _ _ (C.mono (c_X19 (hf_of 25 hk rfl (by decide) (by decide))) ?_)
  rintro _ _ ⟨rfl, rfl⟩
  exact KV.i ⟨hk, fun _ e => ⟨rfl, e⟩⟩
theorem c_X28 {p : Int32} {b c : Nat} (hk : hK h a = 27) : C G mX28_init (d + 2) [.ref a, .int p, .ref b, .ref c] h (fun o h' => o = .returned none ∧ h' = pR (pR (pI h a 302 p) a 311 (some b)) a 312 (some c)) := by
  refine bX28_init G (d + 1) h _ _ _ _ _ (C.mono (c_X19 (hf_of 26 hk rfl (by decide) (by decide))) ?_)
  rintro _ _ ⟨rfl, rfl⟩
  refine KV.i ⟨hk, ?_⟩
  rintro _ rfl _ rfl
  exact ⟨rfl, rfl⟩
/-- what may stand in an array of patterns, of expressions -/
def PC (t : Nat) (E : String) (h : AH) (b : Nat) : Prop := ∃ k, k < 56 ∧ hK h b = k + 1 ∧ (cname k, E) ∈ castL
theorem c_rpat {r n b : Nat} {bs : List Nat} (c : RowC h r bs n) (hb : bs[i]? = some b) (hp : CT h b "LetMill$Pat") : C G mX7_pat (d + 1) [.ref r, .int (nI i)] h (Ret (.ref b) h) := by
  refine bX7_pat G d h _ _ _ ⟨c.1, C.mono (c_get c hb) ?_⟩
  rintro _ _ ⟨rfl, rfl⟩
  exact KR.i ⟨hp, rfl, rfl⟩
theorem c_rexp {r n b : Nat} {bs : List Nat} (c : RowC h r bs n) (hb : bs[i]? = some b) (hp : CT h b "LetMill$Exp") : C G mX7_exp (d + 1) [.ref r, .int (nI i)] h (Ret (.ref b) h) := by
  refine bX7_exp G d h _ _ _ ⟨c.1, C.mono (c_get c hb) ?_⟩
  rintro _ _ ⟨rfl, rfl⟩
  exact KR.i ⟨hp, rfl, rfl⟩
theorem pats_10 {r n arr : Nat} {bs : List Nat} (hr : RowC h0 r bs n) (hq0 : hK h0 arr = 0) (hN : Ns (gW G) arr) (hp : ∀ b, b ∈ bs → CT h0 b "LetMill$Pat") :
    ∀ f i h, bs.length - i < f → i ≤ bs.length → KP h0 h → hK h arr = 1008 → hL h arr = bs.length → (∀ j b, j < i → bs[j]? = some b → aR h arr j = some b) →
    X G mX12_patsOf (d + 3) none [] 10 [(0, .ref r), (1, .ref arr), (2, .int (nI i))] [] h (fun o h' => o = .returned (some (.ref arr)) ∧ KP h0 h' ∧ hK h' arr = 1008 ∧ hL h' arr = bs.length ∧ (∀ j b, bs[j]? = some b → aR h' arr j = some b) ∧ un h' = un h ∧ ∀ g, fI h' (gW G 7) g = fI h (gW G 7) g) := by
  intro f
  induction f with
  | zero => intro i h hf; omega
  | succ f IH =>
    intro i h hf hi p hk hl he
    have c := hr.kp p
    have hb := c.2.2.1
    have hn := c.2.2.2.2.1
    refine bX12_patsOf_10 G (d + 2) h _ _ _ _ ⟨c.1, ?_⟩
    rw [c.2.1, nI_leI (by omega) (by omega)]
    refine ⟨fun z => ?_, fun z => ?_⟩
    · refine ⟨rfl, p, hk, hl, fun j b hb => he j b ?_ hb, rfl, fun _ => rfl⟩
      have := (List.getElem?_eq_some_iff.mp hb).1
      omega
    · have hil : i < bs.length := by omega
      have hbi := List.getElem?_eq_getElem hil
      have hpb := hp _ (List.getElem_mem hil)
      obtain ⟨k0, k1, k2, k3⟩ := hpb
      have hpk : hK h bs[i] = k0 + 1 := p.hk k2 (by omega)
      refine C.mono (c_rpat c hbi ⟨k0, k1, hpk, k3⟩) ?_
      rintro _ _ ⟨rfl, rfl⟩
      refine KR.i ⟨hk, hN, by rw [hl]; exact vp_in_nI hil (by omega), Or.inl ⟨k0, k1, hpk, Or.inr k3⟩, ?_⟩
      rintro _ rfl _ rfl
      rw [nI_cn (by omega), nI_1]
      refine X.mono (IH (i + 1) _ (by omega) (by omega) (p.sR hq0) hk hl fun j b hj hb => ?_) ?_
      · rw [aR_sR]
        by_cases e : j = i
        · subst e
          rw [if_pos ⟨rfl, rfl⟩]
          exact hbi.symm.trans hb
        · rw [if_neg (fun q => e q.2)]
          exact he j b (by omega) hb
      · rintro o h1 ⟨a1, a2, a3, a4, a5, a6, a7⟩
        exact ⟨a1, a2, a3, a4, a5, a6, a7⟩
theorem c_patsOf {r n : Nat} {bs : List Nat} (hr : RowC h r bs n) (sA : SoA G h) (hp : ∀ b, b ∈ bs → CT h b "LetMill$Pat") (hu : un h + 16 + bs.length ≤ UB) : C G mX12_patsOf (d + 3) [.ref r] h (fun o h' => ∃ arr, o = .returned (some (.ref arr)) ∧ hK h arr = 0 ∧ KP h h' ∧ hK h' arr = 1008 ∧ hL h' arr = bs.length ∧ (∀ j b, bs[j]? = some b → aR h' arr j = some b) ∧ un h' = un h + 16 + bs.length ∧ ∀ g, fI h' (gW G 7) g = fI h (gW G 7) g) := by
  have hb := hr.2.2.1
  have hn := hr.2.2.2.2.1
  have hrm := un_rm (n := bs.length) (h := h) (by omega)
  refine bX12_patsOf G (d + 2) h _ _ ⟨hr.1, ?_⟩
  rw [hr.2.1, nI_cn (by omega)]
  refine ⟨by rw [Int32.lt_iff_toInt_lt, nI_toInt (by omega)]; show ¬ (_ : Int) < 0; omega, hrm.1, hrm.2, fun q hq => ?_⟩
  rintro _ rfl
  have pA : KP h (nA h q 8 bs.length) := KP.rf.nA hq
  refine X.mono (pats_10 (h0 := h) hr hq (sA.ns hq) hp (bs.length + 1) 0 _ (by omega) (by omega) pA (by rw [hK_nA, if_pos rfl]) (by rw [hL_nA, if_pos rfl]) (fun j b hj => by omega)) ?_
  rintro o h1 ⟨a1, a2, a3, a4, a5, a6, a7⟩
  exact ⟨q, a1, hq, a2, a3, a4, a5, by rw [a6, un_nA], fun g => by rw [a7]; rfl⟩
theorem exps_10 {r n arr : Nat} {bs : List Nat} (hr : RowC h0 r bs n) (hq0 : hK h0 arr = 0) (hN : Ns (gW G) arr) (hp : ∀ b, b ∈ bs → CT h0 b "LetMill$Exp") :
    ∀ f i h, bs.length - i < f → i ≤ bs.length → KP h0 h → hK h arr = 1009 → hL h arr = bs.length → (∀ j b, j < i → bs[j]? = some b → aR h arr j = some b) →
    X G mX12_expsOf (d + 3) none [] 10 [(0, .ref r), (1, .ref arr), (2, .int (nI i))] [] h (fun o h' => o = .returned (some (.ref arr)) ∧ KP h0 h' ∧ hK h' arr = 1009 ∧ hL h' arr = bs.length ∧ (∀ j b, bs[j]? = some b → aR h' arr j = some b) ∧ un h' = un h ∧ ∀ g, fI h' (gW G 7) g = fI h (gW G 7) g) := by
  intro f
  induction f with
  | zero => intro i h hf; omega
  | succ f IH =>
    intro i h hf hi p hk hl he
    have c := hr.kp p
    have hb := c.2.2.1
    have hn := c.2.2.2.2.1
    refine bX12_expsOf_10 G (d + 2) h _ _ _ _ ⟨c.1, ?_⟩
    rw [c.2.1, nI_leI (by omega) (by omega)]
    refine ⟨fun z => ?_, fun z => ?_⟩
    · refine ⟨rfl, p, hk, hl, fun j b hb => he j b ?_ hb, rfl, fun _ => rfl⟩
      have := (List.getElem?_eq_some_iff.mp hb).1
      omega
    · have hil : i < bs.length := by omega
      have hbi := List.getElem?_eq_getElem hil
      have hpb := hp _ (List.getElem_mem hil)
      obtain ⟨k0, k1, k2, k3⟩ := hpb
      have hpk : hK h bs[i] = k0 + 1 := p.hk k2 (by omega)
      refine C.mono (c_rexp c hbi ⟨k0, k1, hpk, k3⟩) ?_
      rintro _ _ ⟨rfl, rfl⟩
      refine KR.i ⟨hk, hN, by rw [hl]; exact vp_in_nI hil (by omega), Or.inl ⟨k0, k1, hpk, Or.inr k3⟩, ?_⟩
      rintro _ rfl _ rfl
      rw [nI_cn (by omega), nI_1]
      refine X.mono (IH (i + 1) _ (by omega) (by omega) (p.sR hq0) hk hl fun j b hj hb => ?_) ?_
      · rw [aR_sR]
        by_cases e : j = i
        · subst e
          rw [if_pos ⟨rfl, rfl⟩]
          exact hbi.symm.trans hb
        · rw [if_neg (fun q => e q.2)]
          exact he j b (by omega) hb
      · rintro o h1 ⟨a1, a2, a3, a4, a5, a6, a7⟩
        exact ⟨a1, a2, a3, a4, a5, a6, a7⟩
theorem c_expsOf {r n : Nat} {bs : List Nat} (hr : RowC h r bs n) (sA : SoA G h) (hp : ∀ b, b ∈ bs → CT h b "LetMill$Exp") (hu : un h + 16 + bs.length ≤ UB) : C G mX12_expsOf (d + 3) [.ref r] h (fun o h' => ∃ arr, o = .returned (some (.ref arr)) ∧ hK h arr = 0 ∧ KP h h' ∧ hK h' arr = 1009 ∧ hL h' arr = bs.length ∧ (∀ j b, bs[j]? = some b → aR h' arr j = some b) ∧ un h' = un h + 16 + bs.length ∧ ∀ g, fI h' (gW G 7) g = fI h (gW G 7) g) := by
  have hb := hr.2.2.1
  have hn := hr.2.2.2.2.1
  have hrm := un_rm (n := bs.length) (h := h) (by omega)
  refine bX12_expsOf G (d + 2) h _ _ ⟨hr.1, ?_⟩
  rw [hr.2.1, nI_cn (by omega)]
  refine ⟨by rw [Int32.lt_iff_toInt_lt, nI_toInt (by omega)]; show ¬ (_ : Int) < 0; omega, hrm.1, hrm.2, fun q hq => ?_⟩
  rintro _ rfl
  have pA : KP h (nA h q 9 bs.length) := KP.rf.nA hq
  refine X.mono (exps_10 (h0 := h) hr hq (sA.ns hq) hp (bs.length + 1) 0 _ (by omega) (by omega) pA (by rw [hK_nA, if_pos rfl]) (by rw [hL_nA, if_pos rfl]) (fun j b hj => by omega)) ?_
  rintro o h1 ⟨a1, a2, a3, a4, a5, a6, a7⟩
  exact ⟨q, a1, hq, a2, a3, a4, a5, by rw [a6, un_nA], fun g => by rw [a7]; rfl⟩
theorem c_bPat (c : CS G h ts D s) : C G mX12_beginsPat (d + 1) [.ref (gW G 7)] h (Ret (.int (b2 (isPat (Kd ts s.1)))) h) := by
  have hk := c.k4 c.2.2.2.1.2
  have yes : isPat (Kd ts s.1) = true → Ret (.int (b2 (isPat (Kd ts s.1)))) h (.returned (some (.int 1))) h := fun e => by rw [e]; exact ⟨rfl, rfl⟩
  have no : isPat (Kd ts s.1) = false → Ret (.int (b2 (isPat (Kd ts s.1)))) h (.returned (some (.int 0))) h := fun e => by rw [e]; exact ⟨rfl, rfl⟩
  refine bX12_beginsPat G d h _ (c.1.at (by decide)) (C.ri (c_kind c) ?_)
  simp only [show (95 : Int32) = nI 95 from rfl, show (280 : Int32) = nI 280 from rfl, show (281 : Int32) = nI 281 from rfl, show (283 : Int32) = nI 283 from rfl, show (126 : Int32) = nI 126 from rfl, show (272 : Int32) = nI 272 from rfl, show (273 : Int32) = nI 273 from rfl, show (40 : Int32) = nI 40 from rfl, show (91 : Int32) = nI 91 from rfl, nI_eq (show Kd ts s.1 < 2 ^ 31 by omega) (show 95 < 2 ^ 31 by decide), nI_eq (show Kd ts s.1 < 2 ^ 31 by omega) (show 280 < 2 ^ 31 by decide), nI_eq (show Kd ts s.1 < 2 ^ 31 by omega) (show 281 < 2 ^ 31 by decide), nI_eq (show Kd ts s.1 < 2 ^ 31 by omega) (show 283 < 2 ^ 31 by decide), nI_eq (show Kd ts s.1 < 2 ^ 31 by omega) (show 126 < 2 ^ 31 by decide), nI_eq (show Kd ts s.1 < 2 ^ 31 by omega) (show 272 < 2 ^ 31 by decide), nI_eq (show Kd ts s.1 < 2 ^ 31 by omega) (show 273 < 2 ^ 31 by decide), nI_eq (show Kd ts s.1 < 2 ^ 31 by omega) (show 40 < 2 ^ 31 by decide), nI_eq (show Kd ts s.1 < 2 ^ 31 by omega) (show 91 < 2 ^ 31 by decide)]
  exact ⟨fun z => yes (by rw [z]; rfl), fun z0 => ⟨fun z => yes (by rw [z]; rfl), fun z1 => ⟨fun z => yes (by rw [z]; rfl), fun z2 => ⟨fun z => yes (by rw [z]; rfl), fun z3 => ⟨fun z => yes (by rw [z]; rfl), fun z4 => ⟨fun z => yes (by rw [z]; rfl), fun z5 => ⟨fun z => yes (by rw [z]; rfl), fun z6 => ⟨fun z => yes (by rw [z]; rfl), fun z7 => ⟨fun z => yes (by rw [z]; rfl), fun z8 => no (by simp [isPat, z0, z1, z2, z3, z4, z5, z6, z7, z8])⟩⟩⟩⟩⟩⟩⟩⟩⟩
end
