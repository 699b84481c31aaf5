theorem hK_pI {h : AH} {a g : Nat} {v : Int32} : hK (pI h a g v) = hK h := rfl
theorem hL_pI {h : AH} {a g : Nat} {v : Int32} : hL (pI h a g v) = hL h := rfl
theorem fI_pI {h : AH} {a g : Nat} {v : Int32} {x y : Nat} : fI (pI h a g v) x y = if x = a ∧ y = g then v else fI h x y := rfl
theorem fJ_pI {h : AH} {a g : Nat} {v : Int32} : fJ (pI h a g v) = fJ h := rfl
theorem fR_pI {h : AH} {a g : Nat} {v : Int32} : fR (pI h a g v) = fR h := rfl
theorem aI_pI {h : AH} {a g : Nat} {v : Int32} : aI (pI h a g v) = aI h := rfl
theorem aJ_pI {h : AH} {a g : Nat} {v : Int32} : aJ (pI h a g v) = aJ h := rfl
theorem aR_pI {h : AH} {a g : Nat} {v : Int32} : aR (pI h a g v) = aR h := rfl
theorem hc_pI {h : AH} {a g : Nat} {v : Int32} : hc (pI h a g v) = hc h := rfl
theorem hs_pI {h : AH} {a g : Nat} {v : Int32} : hs (pI h a g v) = hs h := rfl
theorem hK_pJ {h : AH} {a g : Nat} {v : Int64} : hK (pJ h a g v) = hK h := rfl
theorem hL_pJ {h : AH} {a g : Nat} {v : Int64} : hL (pJ h a g v) = hL h := rfl
theorem fI_pJ {h : AH} {a g : Nat} {v : Int64} : fI (pJ h a g v) = fI h := rfl
theorem fJ_pJ {h : AH} {a g : Nat} {v : Int64} {x y : Nat} : fJ (pJ h a g v) x y = if x = a ∧ y = g then v else fJ h x y := rfl
theorem fR_pJ {h : AH} {a g : Nat} {v : Int64} : fR (pJ h a g v) = fR h := rfl
theorem aI_pJ {h : AH} {a g : Nat} {v : Int64} : aI (pJ h a g v) = aI h := rfl
theorem aJ_pJ {h : AH} {a g : Nat} {v : Int64} : aJ (pJ h a g v) = aJ h := rfl
theorem aR_pJ {h : AH} {a g : Nat} {v : Int64} : aR (pJ h a g v) = aR h := rfl
theorem hc_pJ {h : AH} {a g : Nat} {v : Int64} : hc (pJ h a g v) = hc h := rfl
theorem hs_pJ {h : AH} {a g : Nat} {v : Int64} : hs (pJ h a g v) = hs h := rfl
theorem hK_pR {h : AH} {a g : Nat} {v : Option Nat} : hK (pR h a g v) = hK h := rfl
theorem hL_pR {h : AH} {a g : Nat} {v : Option Nat} : hL (pR h a g v) = hL h := rfl
theorem fI_pR {h : AH} {a g : Nat} {v : Option Nat} : fI (pR h a g v) = fI h := rfl
theorem fJ_pR {h : AH} {a g : Nat} {v : Option Nat} : fJ (pR h a g v) = fJ h := rfl
theorem fR_pR {h : AH} {a g : Nat} {v : Option Nat} {x y : Nat} : fR (pR h a g v) x y = if x = a ∧ y = g then v else fR h x y := rfl
theorem aI_pR {h : AH} {a g : Nat} {v : Option Nat} : aI (pR h a g v) = aI h := rfl
theorem aJ_pR {h : AH} {a g : Nat} {v : Option Nat} : aJ (pR h a g v) = aJ h := rfl
theorem aR_pR {h : AH} {a g : Nat} {v : Option Nat} : aR (pR h a g v) = aR h := rfl
theorem hc_pR {h : AH} {a g : Nat} {v : Option Nat} : hc (pR h a g v) = hc h := rfl
theorem hs_pR {h : AH} {a g : Nat} {v : Option Nat} : hs (pR h a g v) = hs h := rfl
theorem hK_sI {h : AH} {a g : Nat} {v : Int32} : hK (sI h a g v) = hK h := rfl
theorem hL_sI {h : AH} {a g : Nat} {v : Int32} : hL (sI h a g v) = hL h := rfl
theorem fI_sI {h : AH} {a g : Nat} {v : Int32} : fI (sI h a g v) = fI h := rfl
theorem fJ_sI {h : AH} {a g : Nat} {v : Int32} : fJ (sI h a g v) = fJ h := rfl
theorem fR_sI {h : AH} {a g : Nat} {v : Int32} : fR (sI h a g v) = fR h := rfl
theorem aI_sI {h : AH} {a g : Nat} {v : Int32} {x y : Nat} : aI (sI h a g v) x y = if x = a ∧ y = g then v else aI h x y := rfl
theorem aJ_sI {h : AH} {a g : Nat} {v : Int32} : aJ (sI h a g v) = aJ h := rfl
theorem aR_sI {h : AH} {a g : Nat} {v : Int32} : aR (sI h a g v) = aR h := rfl
theorem hc_sI {h : AH} {a g : Nat} {v : Int32} : hc (sI h a g v) = hc h := rfl
theorem hs_sI {h : AH} {a g : Nat} {v : Int32} : hs (sI h a g v) = hs h := rfl
theorem hK_sJ {h : AH} {a g : Nat} {v : Int64} : hK (sJ h a g v) = hK h := rfl
theorem hL_sJ {h : AH} {a g : Nat} {v : Int64} : hL (sJ h a g v) = hL h := rfl
theorem fI_sJ {h : AH} {a g : Nat} {v : Int64} : fI (sJ h a g v) = fI h := rfl
theorem fJ_sJ {h : AH} {a g : Nat} {v : Int64} : fJ (sJ h a g v) = fJ h := rfl
theorem fR_sJ {h : AH} {a g : Nat} {v : Int64} : fR (sJ h a g v) = fR h := rfl
theorem aI_sJ {h : AH} {a g : Nat} {v : Int64} : aI (sJ h a g v) = aI h := rfl
theorem aJ_sJ {h : AH} {a g : Nat} {v : Int64} {x y : Nat} : aJ (sJ h a g v) x y = if x = a ∧ y = g then v else aJ h x y := rfl
theorem aR_sJ {h : AH} {a g : Nat} {v : Int64} : aR (sJ h a g v) = aR h := rfl
theorem hc_sJ {h : AH} {a g : Nat} {v : Int64} : hc (sJ h a g v) = hc h := rfl
theorem hs_sJ {h : AH} {a g : Nat} {v : Int64} : hs (sJ h a g v) = hs h := rfl
theorem hK_sR {h : AH} {a g : Nat} {v : Option Nat} : hK (sR h a g v) = hK h := rfl
theorem hL_sR {h : AH} {a g : Nat} {v : Option Nat} : hL (sR h a g v) = hL h := rfl
theorem fI_sR {h : AH} {a g : Nat} {v : Option Nat} : fI (sR h a g v) = fI h := rfl
theorem fJ_sR {h : AH} {a g : Nat} {v : Option Nat} : fJ (sR h a g v) = fJ h := rfl
theorem fR_sR {h : AH} {a g : Nat} {v : Option Nat} : fR (sR h a g v) = fR h := rfl
theorem aI_sR {h : AH} {a g : Nat} {v : Option Nat} : aI (sR h a g v) = aI h := rfl
theorem aJ_sR {h : AH} {a g : Nat} {v : Option Nat} : aJ (sR h a g v) = aJ h := rfl
theorem aR_sR {h : AH} {a g : Nat} {v : Option Nat} {x y : Nat} : aR (sR h a g v) x y = if x = a ∧ y = g then v else aR h x y := rfl
theorem hc_sR {h : AH} {a g : Nat} {v : Option Nat} : hc (sR h a g v) = hc h := rfl
theorem hs_sR {h : AH} {a g : Nat} {v : Option Nat} : hs (sR h a g v) = hs h := rfl
theorem hK_nO {h : AH} {q c x : Nat} : hK (nO h q c) x = if x = q then c + 1 else hK h x := rfl
theorem hL_nO {h : AH} {q c : Nat} : hL (nO h q c) = hL h := rfl
theorem fI_nO {h : AH} {q c x y : Nat} : fI (nO h q c) x y = if x = q then 0 else fI h x y := rfl
theorem fJ_nO {h : AH} {q c x y : Nat} : fJ (nO h q c) x y = if x = q then 0 else fJ h x y := rfl
theorem fR_nO {h : AH} {q c x y : Nat} : fR (nO h q c) x y = if x = q then none else fR h x y := rfl
theorem aI_nO {h : AH} {q c : Nat} : aI (nO h q c) = aI h := rfl
theorem aJ_nO {h : AH} {q c : Nat} : aJ (nO h q c) = aJ h := rfl
theorem aR_nO {h : AH} {q c : Nat} : aR (nO h q c) = aR h := rfl
theorem hc_nO {h : AH} {q c : Nat} : hc (nO h q c) = hc h + 1 := rfl
theorem hs_nO {h : AH} {q c : Nat} : hs (nO h q c) = hs h + (ftab c).length := rfl
theorem hK_nA {h : AH} {q t n x : Nat} : hK (nA h q t n) x = if x = q then 1000 + t else hK h x := rfl
theorem hL_nA {h : AH} {q t n x : Nat} : hL (nA h q t n) x = if x = q then n else hL h x := rfl
theorem fI_nA {h : AH} {q t n : Nat} : fI (nA h q t n) = fI h := rfl
theorem fJ_nA {h : AH} {q t n : Nat} : fJ (nA h q t n) = fJ h := rfl
theorem fR_nA {h : AH} {q t n : Nat} : fR (nA h q t n) = fR h := rfl
theorem aI_nA {h : AH} {q t n x y : Nat} : aI (nA h q t n) x y = if x = q then 0 else aI h x y := rfl
theorem aJ_nA {h : AH} {q t n x y : Nat} : aJ (nA h q t n) x y = if x = q then 0 else aJ h x y := rfl
theorem aR_nA {h : AH} {q t n x y : Nat} : aR (nA h q t n) x y = if x = q then none else aR h x y := rfl
theorem hc_nA {h : AH} {q t n : Nat} : hc (nA h q t n) = hc h + 1 := rfl
theorem hs_nA {h : AH} {q t n : Nat} : hs (nA h q t n) = hs h + n := rfl
/-- the places w x of one object each -/
def IW : Nat := 9658596610970929212156324041866971984804590660434169032950300531116903028808979563232267952388871465147322919980716775235628918206659329511875204795099354252854906354260831032366925549026163267997539688663950360147406135297454434757111221115423507683734805609518609458963255338675492002614235514544966385334563462466826707903565100913829158832110731867834080799299693354236932471065150463
theorem IW_SA {g : Nat} (hg : SA.testBit g = true) : IW.testBit (1000 + g) = true := by
  have h : ∀ g, g < 400 → SA.testBit g = true → IW.testBit (1000 + g) = true := by decide +kernel
  refine h g (Classical.byContradiction fun hn => ?_) hg
  have : SA < 2 ^ g := Nat.lt_of_lt_of_le (show SA < 2 ^ 400 by decide +kernel) (Nat.pow_le_pow_right (by decide) (by omega))
  rw [Nat.testBit_lt_two_pow this] at hg
  cases hg
def DW (w : Nat → Nat) : Prop := ∀ x y, IW.testBit x = true → IW.testBit y = true → w x = w y → x = y
theorem DW.eqw {w : Nat → Nat} (h : DW w) {x y : Nat} (hx : IW.testBit x = true) (hy : IW.testBit y = true) : (w x = w y) = (x = y) := propext ⟨h x y hx hy, fun e => by rw [e]⟩
def SoA (G : Gh) (h : AH) : Prop := So 0 (gW G) h ∧ So 1 (gW G) h ∧ So 2 (gW G) h ∧ So 3 (gW G) h ∧ So 4 (gW G) h ∧ So 5 (gW G) h ∧ So 6 (gW G) h ∧ So 7 (gW G) h ∧ So 8 (gW G) h ∧ So 9 (gW G) h
theorem SoA.le {G : Gh} {h h' : AH} (s : SoA G h) (l : Le h h' none) : SoA G h' := by
  obtain ⟨s0, s1, s2, s3, s4, s5, s6, s7, s8, s9⟩ := s
  exact ⟨s0.le sc0 l, s1.le sc1 l, s2.le sc2 l, s3.le sc3 l, s4.le sc4 l, s5.le sc5 l, s6.le sc6 l, s7.le sc7 l, s8.le sc8 l, s9.le sc9 l⟩
section
variable {G : Gh} {μ : Mu} {d : Nat} {av : List Value} {h : AH} {Q Q' : Outcome → AH → Prop}
/-- a contract in use: its end, what is kept -/
theorem C.use (k : C G μ d av h Q) (hn : (mY μ).name ≠ "<init>") (hq : ∀ o h', Q o h' → Lm (gW G) (mM μ) h h' none → Bd h' → Q' o h') : C G μ d av h Q' := by
  refine k.mono' fun o h' q l b => hq o h' q ?_ b
  unfold exOf at l
  rw [if_neg hn] at l
  exact l
theorem C.useI {a : Nat} (k : C G μ d (.ref a :: av) h Q) (hn : (mY μ).name = "<init>") (hq : ∀ o h', Q o h' → Lm (gW G) (mM μ) h h' (some a) → Bd h' → Q' o h') : C G μ d (.ref a :: av) h Q' := by
  refine k.mono' fun o h' q l b => hq o h' q ?_ b
  unfold exOf at l
  rw [if_pos hn] at l
  exact l
theorem KV.i {f : AH → Prop} (q : f h) : KV Q f (.returned none) h := Or.inl ⟨rfl, q⟩
theorem KI.i {f : Int32 → AH → Prop} {x : Int32} (q : f x h) : KI Q f (.returned (some (.int x))) h := Or.inl ⟨x, rfl, q⟩
theorem KJ.i {f : Int64 → AH → Prop} {x : Int64} (q : f x h) : KJ Q f (.returned (some (.long x))) h := Or.inl ⟨x, rfl, q⟩
theorem KR.i {f : Nat → AH → Prop} {x : Nat} (q : f x h) : KR Q f (.returned (some (.ref x))) h := Or.inl ⟨x, rfl, q⟩
theorem KN.i0 {f0 : AH → Prop} {f : Nat → AH → Prop} (q : f0 h) : KN Q f0 f (.returned (some .null)) h := Or.inl ⟨rfl, q⟩
theorem KN.i {f0 : AH → Prop} {f : Nat → AH → Prop} {x : Nat} (q : f x h) : KN Q f0 f (.returned (some (.ref x))) h := Or.inr (Or.inl ⟨x, rfl, q⟩)
theorem KV.t {f : AH → Prop} {a : Nat} (q : Q (.threw a) h) : KV Q f (.threw a) h := Or.inr ⟨a, rfl, q⟩
theorem KI.t {f : Int32 → AH → Prop} {a : Nat} (q : Q (.threw a) h) : KI Q f (.threw a) h := Or.inr ⟨a, rfl, q⟩
theorem KJ.t {f : Int64 → AH → Prop} {a : Nat} (q : Q (.threw a) h) : KJ Q f (.threw a) h := Or.inr ⟨a, rfl, q⟩
theorem KR.t {f : Nat → AH → Prop} {a : Nat} (q : Q (.threw a) h) : KR Q f (.threw a) h := Or.inr ⟨a, rfl, q⟩
theorem KN.t {f0 : AH → Prop} {f : Nat → AH → Prop} {a : Nat} (q : Q (.threw a) h) : KN Q f0 f (.threw a) h := Or.inr (Or.inr ⟨a, rfl, q⟩)
end
section
variable {w : Nat → Nat} {m a0 : Nat} {h0 h : AH} {ex : Option Nat}
/-- a field that isn't written -/
theorem Lm.f (l : Lm w m h0 h none) {a g n : Nat} (hk : hK h0 a = n) (hn : n ≠ 0) (hb : m.testBit g = false) : fI h a g = fI h0 a g ∧ fJ h a g = fJ h0 a g ∧ fR h a g = fR h0 a g := (l.2.2 a (by rw [hk]; exact hn)).1 (fun e => by cases e) g hb
theorem Lm.fi (l : Lm w m h0 h none) {a g n : Nat} (hk : hK h0 a = n) (hn : n ≠ 0) (hb : m.testBit g = false) : fI h a g = fI h0 a g := (l.f hk hn hb).1
theorem Lm.fj (l : Lm w m h0 h none) {a g n : Nat} (hk : hK h0 a = n) (hn : n ≠ 0) (hb : m.testBit g = false) : fJ h a g = fJ h0 a g := (l.f hk hn hb).2.1
theorem Lm.fr (l : Lm w m h0 h none) {a g n : Nat} (hk : hK h0 a = n) (hn : n ≠ 0) (hb : m.testBit g = false) : fR h a g = fR h0 a g := (l.f hk hn hb).2.2
/-- final fields -/
theorem Lm.ff (l : Lm w m h0 h none) {a g n : Nat} (hk : hK h0 a = n) (hn : n ≠ 0) (hg : gfin g = true) : fI h a g = fI h0 a g ∧ fJ h a g = fJ h0 a g ∧ fR h a g = fR h0 a g := (l.1.2 a (by rw [hk]; exact hn)).2.2 (fun e => by cases e) g hg
/-- the array of a final field, not written -/
theorem Lm.a (hD : DW w) (l : Lm w m h0 h ex) {x n : Nat} (hk : hK h0 (w x) = n) (hn : n ≠ 0) (hx : IW.testBit x = true) (hx2 : 1000 ≤ x) (hs : SA.testBit (x - 1000) = true) (hb : m.testBit (x - 500) = false) : aI h (w x) = aI h0 (w x) ∧ aJ h (w x) = aJ h0 (w x) ∧ aR h (w x) = aR h0 (w x) := by
  rcases (l.2.2 (w x) (by rw [hk]; exact hn)).2 with s | s
  · rcases s with ⟨g, s1, s2, s3⟩ | ⟨s1, -⟩
    · exact absurd rfl (fun (_ : x = x) => by
        have e : x = 1000 + g := hD x (1000 + g) hx (IW_SA s1) s2
        subst e
        rw [show 1000 + g - 500 = 500 + g by omega, s3] at hb
        cases hb)
    · exact absurd (by rw [Nat.add_sub_cancel' hx2]) (s1 (x - 1000) hs)
  · exact s
/-- an array that is no final field's, not written -/
theorem Lm.an (hD : Ns w a0) (l : Lm w m h0 h ex) {t : Nat} (hk : hK h0 a0 = 1000 + t) (hb : m.testBit (400 + t) = false) : aI h a0 = aI h0 a0 ∧ aJ h a0 = aJ h0 a0 ∧ aR h a0 = aR h0 a0 := by
  rcases (l.2.2 a0 (by omega)).2 with s | s
  · rcases s with ⟨g, s1, s2, s3⟩ | ⟨-, s1⟩
    · exact absurd s2 (hD g s1)
    · rw [hk, Nat.add_sub_cancel_left, hb] at s1
      cases s1
  · exact s
end

theorem kw1008 {w : Nat → Nat} {h : AH} (s : So 0 w h) : hK h (w 1008) = 1001 := (s.2 8 _ rfl rfl).2.1
theorem lw1008 {w : Nat → Nat} {h : AH} (s : So 0 w h) : hL h (w 1008) = 4096 := (s.2 8 _ rfl rfl).2.2.2 (by decide)
theorem kw1013 {w : Nat → Nat} {h : AH} (s : So 0 w h) : hK h (w 1013) = 6 := (s.2 9 _ rfl rfl).2.1
theorem kw1014 {w : Nat → Nat} {h : AH} (s : So 0 w h) : hK h (w 1014) = 6 := (s.2 10 _ rfl rfl).2.1
theorem kw1015 {w : Nat → Nat} {h : AH} (s : So 0 w h) : hK h (w 1015) = 6 := (s.2 11 _ rfl rfl).2.1

theorem kw1021 {w : Nat → Nat} {h : AH} (s : So 1 w h) : hK h (w 1021) = 1005 := (s.2 0 _ rfl rfl).2.1
theorem lw1021 {w : Nat → Nat} {h : AH} (s : So 1 w h) : hL h (w 1021) = 19 := (s.2 0 _ rfl rfl).2.2.2 (by decide)
theorem kw1022 {w : Nat → Nat} {h : AH} (s : So 1 w h) : hK h (w 1022) = 1001 := (s.2 1 _ rfl rfl).2.1
theorem lw1022 {w : Nat → Nat} {h : AH} (s : So 1 w h) : hL h (w 1022) = 4096 := (s.2 1 _ rfl rfl).2.2.2 (by decide)
theorem kw1024 {w : Nat → Nat} {h : AH} (s : So 1 w h) : hK h (w 1024) = 1000 := (s.2 2 _ rfl rfl).2.1
theorem lw1024 {w : Nat → Nat} {h : AH} (s : So 1 w h) : hL h (w 1024) = 4098 := (s.2 2 _ rfl rfl).2.2.2 (by decide)
theorem kw1025 {w : Nat → Nat} {h : AH} (s : So 1 w h) : hK h (w 1025) = 1000 := (s.2 3 _ rfl rfl).2.1
theorem lw1025 {w : Nat → Nat} {h : AH} (s : So 1 w h) : hL h (w 1025) = 4098 := (s.2 3 _ rfl rfl).2.2.2 (by decide)
theorem kw1026 {w : Nat → Nat} {h : AH} (s : So 1 w h) : hK h (w 1026) = 1003 := (s.2 4 _ rfl rfl).2.1
theorem lw1026 {w : Nat → Nat} {h : AH} (s : So 1 w h) : hL h (w 1026) = 4098 := (s.2 4 _ rfl rfl).2.2.2 (by decide)
theorem kw1027 {w : Nat → Nat} {h : AH} (s : So 1 w h) : hK h (w 1027) = 1003 := (s.2 5 _ rfl rfl).2.1
theorem lw1027 {w : Nat → Nat} {h : AH} (s : So 1 w h) : hL h (w 1027) = 4098 := (s.2 5 _ rfl rfl).2.2.2 (by decide)

theorem kw1030 {w : Nat → Nat} {h : AH} (s : So 2 w h) : hK h (w 1030) = 1000 := (s.2 0 _ rfl rfl).2.1
theorem lw1030 {w : Nat → Nat} {h : AH} (s : So 2 w h) : hL h (w 1030) = 150000 := (s.2 0 _ rfl rfl).2.2.2 (by decide)
theorem kw1031 {w : Nat → Nat} {h : AH} (s : So 2 w h) : hK h (w 1031) = 1000 := (s.2 1 _ rfl rfl).2.1
theorem lw1031 {w : Nat → Nat} {h : AH} (s : So 2 w h) : hL h (w 1031) = 150000 := (s.2 1 _ rfl rfl).2.2.2 (by decide)
theorem kw1032 {w : Nat → Nat} {h : AH} (s : So 2 w h) : hK h (w 1032) = 1000 := (s.2 2 _ rfl rfl).2.1
theorem lw1032 {w : Nat → Nat} {h : AH} (s : So 2 w h) : hL h (w 1032) = 150000 := (s.2 2 _ rfl rfl).2.2.2 (by decide)
theorem kw1033 {w : Nat → Nat} {h : AH} (s : So 2 w h) : hK h (w 1033) = 1000 := (s.2 3 _ rfl rfl).2.1
theorem lw1033 {w : Nat → Nat} {h : AH} (s : So 2 w h) : hL h (w 1033) = 150000 := (s.2 3 _ rfl rfl).2.2.2 (by decide)
theorem kw1034 {w : Nat → Nat} {h : AH} (s : So 2 w h) : hK h (w 1034) = 1000 := (s.2 4 _ rfl rfl).2.1
theorem lw1034 {w : Nat → Nat} {h : AH} (s : So 2 w h) : hL h (w 1034) = 150000 := (s.2 4 _ rfl rfl).2.2.2 (by decide)
theorem kw1035 {w : Nat → Nat} {h : AH} (s : So 2 w h) : hK h (w 1035) = 1000 := (s.2 5 _ rfl rfl).2.1
theorem lw1035 {w : Nat → Nat} {h : AH} (s : So 2 w h) : hL h (w 1035) = 150000 := (s.2 5 _ rfl rfl).2.2.2 (by decide)
theorem kw1039 {w : Nat → Nat} {h : AH} (s : So 2 w h) : hK h (w 1039) = 1000 := (s.2 6 _ rfl rfl).2.1
theorem lw1039 {w : Nat → Nat} {h : AH} (s : So 2 w h) : hL h (w 1039) = 300000 := (s.2 6 _ rfl rfl).2.2.2 (by decide)
theorem kw1040 {w : Nat → Nat} {h : AH} (s : So 2 w h) : hK h (w 1040) = 1006 := (s.2 7 _ rfl rfl).2.1
theorem lw1040 {w : Nat → Nat} {h : AH} (s : So 2 w h) : hL h (w 1040) = 212 := (s.2 7 _ rfl rfl).2.2.2 (by decide)
theorem kw1046 {w : Nat → Nat} {h : AH} (s : So 2 w h) : hK h (w 1046) = 1000 := (s.2 8 _ rfl rfl).2.1
theorem lw1046 {w : Nat → Nat} {h : AH} (s : So 2 w h) : hL h (w 1046) = 200 := (s.2 8 _ rfl rfl).2.2.2 (by decide)

theorem kw1055 {w : Nat → Nat} {h : AH} (s : So 3 w h) : hK h (w 1055) = 1000 := (s.2 0 _ rfl rfl).2.1
theorem lw1055 {w : Nat → Nat} {h : AH} (s : So 3 w h) : hL h (w 1055) = 960100 := (s.2 0 _ rfl rfl).2.2.2 (by decide)
theorem kw1057 {w : Nat → Nat} {h : AH} (s : So 3 w h) : hK h (w 1057) = 6 := (s.2 1 _ rfl rfl).2.1
theorem kw1058 {w : Nat → Nat} {h : AH} (s : So 3 w h) : hK h (w 1058) = 6 := (s.2 2 _ rfl rfl).2.1
theorem kw1059 {w : Nat → Nat} {h : AH} (s : So 3 w h) : hK h (w 1059) = 6 := (s.2 3 _ rfl rfl).2.1
theorem kw1060 {w : Nat → Nat} {h : AH} (s : So 3 w h) : hK h (w 1060) = 1000 := (s.2 4 _ rfl rfl).2.1
theorem lw1060 {w : Nat → Nat} {h : AH} (s : So 3 w h) : hL h (w 1060) = 31000 := (s.2 4 _ rfl rfl).2.2.2 (by decide)
theorem kw1061 {w : Nat → Nat} {h : AH} (s : So 3 w h) : hK h (w 1061) = 1000 := (s.2 5 _ rfl rfl).2.1
theorem lw1061 {w : Nat → Nat} {h : AH} (s : So 3 w h) : hL h (w 1061) = 31000 := (s.2 5 _ rfl rfl).2.2.2 (by decide)
theorem kw1062 {w : Nat → Nat} {h : AH} (s : So 3 w h) : hK h (w 1062) = 1000 := (s.2 6 _ rfl rfl).2.1
theorem lw1062 {w : Nat → Nat} {h : AH} (s : So 3 w h) : hL h (w 1062) = 31000 := (s.2 6 _ rfl rfl).2.2.2 (by decide)
theorem kw1064 {w : Nat → Nat} {h : AH} (s : So 3 w h) : hK h (w 1064) = 1000 := (s.2 7 _ rfl rfl).2.1
theorem lw1064 {w : Nat → Nat} {h : AH} (s : So 3 w h) : hL h (w 1064) = 31000 := (s.2 7 _ rfl rfl).2.2.2 (by decide)
theorem kw1066 {w : Nat → Nat} {h : AH} (s : So 3 w h) : hK h (w 1066) = 1000 := (s.2 8 _ rfl rfl).2.1
theorem lw1066 {w : Nat → Nat} {h : AH} (s : So 3 w h) : hL h (w 1066) = 30 := (s.2 8 _ rfl rfl).2.2.2 (by decide)

theorem kw1085 {w : Nat → Nat} {h : AH} (s : So 4 w h) : hK h (w 1085) = 6 := (s.2 2 _ rfl rfl).2.1
theorem kw1086 {w : Nat → Nat} {h : AH} (s : So 4 w h) : hK h (w 1086) = 6 := (s.2 3 _ rfl rfl).2.1
theorem kw1087 {w : Nat → Nat} {h : AH} (s : So 4 w h) : hK h (w 1087) = 6 := (s.2 4 _ rfl rfl).2.1
theorem kw1088 {w : Nat → Nat} {h : AH} (s : So 4 w h) : hK h (w 1088) = 6 := (s.2 5 _ rfl rfl).2.1

theorem kw1096 {w : Nat → Nat} {h : AH} (s : So 5 w h) : hK h (w 1096) = 1000 := (s.2 0 _ rfl rfl).2.1
theorem lw1096 {w : Nat → Nat} {h : AH} (s : So 5 w h) : hL h (w 1096) = 1000 := (s.2 0 _ rfl rfl).2.2.2 (by decide)
theorem kw1097 {w : Nat → Nat} {h : AH} (s : So 5 w h) : hK h (w 1097) = 1000 := (s.2 1 _ rfl rfl).2.1
theorem lw1097 {w : Nat → Nat} {h : AH} (s : So 5 w h) : hL h (w 1097) = 1000 := (s.2 1 _ rfl rfl).2.2.2 (by decide)
theorem kw1098 {w : Nat → Nat} {h : AH} (s : So 5 w h) : hK h (w 1098) = 1000 := (s.2 2 _ rfl rfl).2.1
theorem lw1098 {w : Nat → Nat} {h : AH} (s : So 5 w h) : hL h (w 1098) = 1000 := (s.2 2 _ rfl rfl).2.2.2 (by decide)
theorem kw1099 {w : Nat → Nat} {h : AH} (s : So 5 w h) : hK h (w 1099) = 1000 := (s.2 3 _ rfl rfl).2.1
theorem lw1099 {w : Nat → Nat} {h : AH} (s : So 5 w h) : hL h (w 1099) = 1000 := (s.2 3 _ rfl rfl).2.2.2 (by decide)
theorem kw1100 {w : Nat → Nat} {h : AH} (s : So 5 w h) : hK h (w 1100) = 1000 := (s.2 4 _ rfl rfl).2.1
theorem lw1100 {w : Nat → Nat} {h : AH} (s : So 5 w h) : hL h (w 1100) = 1000 := (s.2 4 _ rfl rfl).2.2.2 (by decide)
theorem kw1104 {w : Nat → Nat} {h : AH} (s : So 5 w h) : hK h (w 1104) = 1000 := (s.2 5 _ rfl rfl).2.1
theorem lw1104 {w : Nat → Nat} {h : AH} (s : So 5 w h) : hL h (w 1104) = 2000 := (s.2 5 _ rfl rfl).2.2.2 (by decide)
theorem kw1105 {w : Nat → Nat} {h : AH} (s : So 5 w h) : hK h (w 1105) = 1000 := (s.2 6 _ rfl rfl).2.1
theorem lw1105 {w : Nat → Nat} {h : AH} (s : So 5 w h) : hL h (w 1105) = 2000 := (s.2 6 _ rfl rfl).2.2.2 (by decide)
theorem kw1107 {w : Nat → Nat} {h : AH} (s : So 5 w h) : hK h (w 1107) = 1000 := (s.2 7 _ rfl rfl).2.1
theorem lw1107 {w : Nat → Nat} {h : AH} (s : So 5 w h) : hL h (w 1107) = 200 := (s.2 7 _ rfl rfl).2.2.2 (by decide)

theorem kw1113 {w : Nat → Nat} {h : AH} (s : So 6 w h) : hK h (w 1113) = 1000 := (s.2 3 _ rfl rfl).2.1
theorem lw1113 {w : Nat → Nat} {h : AH} (s : So 6 w h) : hL h (w 1113) = 6 := (s.2 3 _ rfl rfl).2.2.2 (by decide)


theorem kw1119 {w : Nat → Nat} {h : AH} (s : So 8 w h) : hK h (w 1119) = 1001 := (s.2 0 _ rfl rfl).2.1
theorem lw1119 {w : Nat → Nat} {h : AH} (s : So 8 w h) : hL h (w 1119) = 2000 := (s.2 0 _ rfl rfl).2.2.2 (by decide)

theorem kw1133 {w : Nat → Nat} {h : AH} (s : So 9 w h) : hK h (w 1133) = 1001 := (s.2 0 _ rfl rfl).2.1
theorem lw1133 {w : Nat → Nat} {h : AH} (s : So 9 w h) : hL h (w 1133) = 4096 := (s.2 0 _ rfl rfl).2.2.2 (by decide)
theorem kw1134 {w : Nat → Nat} {h : AH} (s : So 9 w h) : hK h (w 1134) = 1001 := (s.2 1 _ rfl rfl).2.1
theorem lw1134 {w : Nat → Nat} {h : AH} (s : So 9 w h) : hL h (w 1134) = 2000 := (s.2 1 _ rfl rfl).2.2.2 (by decide)
theorem kw1137 {w : Nat → Nat} {h : AH} (s : So 9 w h) : hK h (w 1137) = 1001 := (s.2 2 _ rfl rfl).2.1
theorem lw1137 {w : Nat → Nat} {h : AH} (s : So 9 w h) : hL h (w 1137) = 84000 := (s.2 2 _ rfl rfl).2.2.2 (by decide)
theorem kw1138 {w : Nat → Nat} {h : AH} (s : So 9 w h) : hK h (w 1138) = 1000 := (s.2 3 _ rfl rfl).2.1
theorem lw1138 {w : Nat → Nat} {h : AH} (s : So 9 w h) : hL h (w 1138) = 21501 := (s.2 3 _ rfl rfl).2.2.2 (by decide)
theorem kw1140 {w : Nat → Nat} {h : AH} (s : So 9 w h) : hK h (w 1140) = 1000 := (s.2 4 _ rfl rfl).2.1
theorem lw1140 {w : Nat → Nat} {h : AH} (s : So 9 w h) : hL h (w 1140) = 4100 := (s.2 4 _ rfl rfl).2.2.2 (by decide)
theorem kw1141 {w : Nat → Nat} {h : AH} (s : So 9 w h) : hK h (w 1141) = 1000 := (s.2 5 _ rfl rfl).2.1
theorem lw1141 {w : Nat → Nat} {h : AH} (s : So 9 w h) : hL h (w 1141) = 4100 := (s.2 5 _ rfl rfl).2.2.2 (by decide)
theorem kw1142 {w : Nat → Nat} {h : AH} (s : So 9 w h) : hK h (w 1142) = 1000 := (s.2 6 _ rfl rfl).2.1
theorem lw1142 {w : Nat → Nat} {h : AH} (s : So 9 w h) : hL h (w 1142) = 4100 := (s.2 6 _ rfl rfl).2.2.2 (by decide)
theorem kw1146 {w : Nat → Nat} {h : AH} (s : So 9 w h) : hK h (w 1146) = 1000 := (s.2 7 _ rfl rfl).2.1
theorem lw1146 {w : Nat → Nat} {h : AH} (s : So 9 w h) : hL h (w 1146) = 210000 := (s.2 7 _ rfl rfl).2.2.2 (by decide)
theorem kw1147 {w : Nat → Nat} {h : AH} (s : So 9 w h) : hK h (w 1147) = 1000 := (s.2 8 _ rfl rfl).2.1
theorem lw1147 {w : Nat → Nat} {h : AH} (s : So 9 w h) : hL h (w 1147) = 210000 := (s.2 8 _ rfl rfl).2.2.2 (by decide)
theorem kw1148 {w : Nat → Nat} {h : AH} (s : So 9 w h) : hK h (w 1148) = 1000 := (s.2 9 _ rfl rfl).2.1
theorem lw1148 {w : Nat → Nat} {h : AH} (s : So 9 w h) : hL h (w 1148) = 210000 := (s.2 9 _ rfl rfl).2.2.2 (by decide)
theorem kw1149 {w : Nat → Nat} {h : AH} (s : So 9 w h) : hK h (w 1149) = 1000 := (s.2 10 _ rfl rfl).2.1
theorem lw1149 {w : Nat → Nat} {h : AH} (s : So 9 w h) : hL h (w 1149) = 210000 := (s.2 10 _ rfl rfl).2.2.2 (by decide)
theorem kw1150 {w : Nat → Nat} {h : AH} (s : So 9 w h) : hK h (w 1150) = 1000 := (s.2 11 _ rfl rfl).2.1
theorem lw1150 {w : Nat → Nat} {h : AH} (s : So 9 w h) : hL h (w 1150) = 210000 := (s.2 11 _ rfl rfl).2.2.2 (by decide)
theorem kw1151 {w : Nat → Nat} {h : AH} (s : So 9 w h) : hK h (w 1151) = 1000 := (s.2 12 _ rfl rfl).2.1
theorem lw1151 {w : Nat → Nat} {h : AH} (s : So 9 w h) : hL h (w 1151) = 210000 := (s.2 12 _ rfl rfl).2.2.2 (by decide)
theorem kw1158 {w : Nat → Nat} {h : AH} (s : So 9 w h) : hK h (w 1158) = 1000 := (s.2 13 _ rfl rfl).2.1
theorem lw1158 {w : Nat → Nat} {h : AH} (s : So 9 w h) : hL h (w 1158) = 3000 := (s.2 13 _ rfl rfl).2.2.2 (by decide)
theorem kw1159 {w : Nat → Nat} {h : AH} (s : So 9 w h) : hK h (w 1159) = 1000 := (s.2 14 _ rfl rfl).2.1
theorem lw1159 {w : Nat → Nat} {h : AH} (s : So 9 w h) : hL h (w 1159) = 29000 := (s.2 14 _ rfl rfl).2.2.2 (by decide)
theorem kw1160 {w : Nat → Nat} {h : AH} (s : So 9 w h) : hK h (w 1160) = 1000 := (s.2 15 _ rfl rfl).2.1
theorem lw1160 {w : Nat → Nat} {h : AH} (s : So 9 w h) : hL h (w 1160) = 29000 := (s.2 15 _ rfl rfl).2.2.2 (by decide)
theorem kw1161 {w : Nat → Nat} {h : AH} (s : So 9 w h) : hK h (w 1161) = 1000 := (s.2 16 _ rfl rfl).2.1
theorem lw1161 {w : Nat → Nat} {h : AH} (s : So 9 w h) : hL h (w 1161) = 2000 := (s.2 16 _ rfl rfl).2.2.2 (by decide)
theorem kw1162 {w : Nat → Nat} {h : AH} (s : So 9 w h) : hK h (w 1162) = 1000 := (s.2 17 _ rfl rfl).2.1
theorem lw1162 {w : Nat → Nat} {h : AH} (s : So 9 w h) : hL h (w 1162) = 2000 := (s.2 17 _ rfl rfl).2.2.2 (by decide)
theorem kw1166 {w : Nat → Nat} {h : AH} (s : So 9 w h) : hK h (w 1166) = 1000 := (s.2 18 _ rfl rfl).2.1
theorem lw1166 {w : Nat → Nat} {h : AH} (s : So 9 w h) : hL h (w 1166) = 1000 := (s.2 18 _ rfl rfl).2.2.2 (by decide)
theorem kw1167 {w : Nat → Nat} {h : AH} (s : So 9 w h) : hK h (w 1167) = 1000 := (s.2 19 _ rfl rfl).2.1
theorem lw1167 {w : Nat → Nat} {h : AH} (s : So 9 w h) : hL h (w 1167) = 1000 := (s.2 19 _ rfl rfl).2.2.2 (by decide)
theorem kw1168 {w : Nat → Nat} {h : AH} (s : So 9 w h) : hK h (w 1168) = 1000 := (s.2 20 _ rfl rfl).2.1
theorem lw1168 {w : Nat → Nat} {h : AH} (s : So 9 w h) : hL h (w 1168) = 1000 := (s.2 20 _ rfl rfl).2.2.2 (by decide)
theorem kw1169 {w : Nat → Nat} {h : AH} (s : So 9 w h) : hK h (w 1169) = 1000 := (s.2 21 _ rfl rfl).2.1
theorem lw1169 {w : Nat → Nat} {h : AH} (s : So 9 w h) : hL h (w 1169) = 1000 := (s.2 21 _ rfl rfl).2.2.2 (by decide)
theorem kw1170 {w : Nat → Nat} {h : AH} (s : So 9 w h) : hK h (w 1170) = 1000 := (s.2 22 _ rfl rfl).2.1
theorem lw1170 {w : Nat → Nat} {h : AH} (s : So 9 w h) : hL h (w 1170) = 29000 := (s.2 22 _ rfl rfl).2.2.2 (by decide)
theorem kw1171 {w : Nat → Nat} {h : AH} (s : So 9 w h) : hK h (w 1171) = 1000 := (s.2 23 _ rfl rfl).2.1
theorem lw1171 {w : Nat → Nat} {h : AH} (s : So 9 w h) : hL h (w 1171) = 29000 := (s.2 23 _ rfl rfl).2.2.2 (by decide)
theorem kw1172 {w : Nat → Nat} {h : AH} (s : So 9 w h) : hK h (w 1172) = 1000 := (s.2 24 _ rfl rfl).2.1
theorem lw1172 {w : Nat → Nat} {h : AH} (s : So 9 w h) : hL h (w 1172) = 29000 := (s.2 24 _ rfl rfl).2.2.2 (by decide)
theorem kw1186 {w : Nat → Nat} {h : AH} (s : So 9 w h) : hK h (w 1186) = 1000 := (s.2 25 _ rfl rfl).2.1
theorem lw1186 {w : Nat → Nat} {h : AH} (s : So 9 w h) : hL h (w 1186) = 290000 := (s.2 25 _ rfl rfl).2.2.2 (by decide)
theorem kw1187 {w : Nat → Nat} {h : AH} (s : So 9 w h) : hK h (w 1187) = 1000 := (s.2 26 _ rfl rfl).2.1
theorem lw1187 {w : Nat → Nat} {h : AH} (s : So 9 w h) : hL h (w 1187) = 290000 := (s.2 26 _ rfl rfl).2.2.2 (by decide)
theorem kw1188 {w : Nat → Nat} {h : AH} (s : So 9 w h) : hK h (w 1188) = 1000 := (s.2 27 _ rfl rfl).2.1
theorem lw1188 {w : Nat → Nat} {h : AH} (s : So 9 w h) : hL h (w 1188) = 290000 := (s.2 27 _ rfl rfl).2.2.2 (by decide)
theorem kw1189 {w : Nat → Nat} {h : AH} (s : So 9 w h) : hK h (w 1189) = 1000 := (s.2 28 _ rfl rfl).2.1
theorem lw1189 {w : Nat → Nat} {h : AH} (s : So 9 w h) : hL h (w 1189) = 290000 := (s.2 28 _ rfl rfl).2.2.2 (by decide)
theorem kw1192 {w : Nat → Nat} {h : AH} (s : So 9 w h) : hK h (w 1192) = 1000 := (s.2 29 _ rfl rfl).2.1
theorem lw1192 {w : Nat → Nat} {h : AH} (s : So 9 w h) : hL h (w 1192) = 80000 := (s.2 29 _ rfl rfl).2.2.2 (by decide)
theorem kw1193 {w : Nat → Nat} {h : AH} (s : So 9 w h) : hK h (w 1193) = 1000 := (s.2 30 _ rfl rfl).2.1
theorem lw1193 {w : Nat → Nat} {h : AH} (s : So 9 w h) : hL h (w 1193) = 80000 := (s.2 30 _ rfl rfl).2.2.2 (by decide)
theorem kw1194 {w : Nat → Nat} {h : AH} (s : So 9 w h) : hK h (w 1194) = 1000 := (s.2 31 _ rfl rfl).2.1
theorem lw1194 {w : Nat → Nat} {h : AH} (s : So 9 w h) : hL h (w 1194) = 80000 := (s.2 31 _ rfl rfl).2.2.2 (by decide)
theorem kw1196 {w : Nat → Nat} {h : AH} (s : So 9 w h) : hK h (w 1196) = 1000 := (s.2 32 _ rfl rfl).2.1
theorem lw1196 {w : Nat → Nat} {h : AH} (s : So 9 w h) : hL h (w 1196) = 170000 := (s.2 32 _ rfl rfl).2.2.2 (by decide)
theorem kw1198 {w : Nat → Nat} {h : AH} (s : So 9 w h) : hK h (w 1198) = 1000 := (s.2 33 _ rfl rfl).2.1
theorem lw1198 {w : Nat → Nat} {h : AH} (s : So 9 w h) : hL h (w 1198) = 3000 := (s.2 33 _ rfl rfl).2.2.2 (by decide)
theorem kw1199 {w : Nat → Nat} {h : AH} (s : So 9 w h) : hK h (w 1199) = 1000 := (s.2 34 _ rfl rfl).2.1
theorem lw1199 {w : Nat → Nat} {h : AH} (s : So 9 w h) : hL h (w 1199) = 3000 := (s.2 34 _ rfl rfl).2.2.2 (by decide)
theorem kw1200 {w : Nat → Nat} {h : AH} (s : So 9 w h) : hK h (w 1200) = 1002 := (s.2 35 _ rfl rfl).2.1
theorem lw1200 {w : Nat → Nat} {h : AH} (s : So 9 w h) : hL h (w 1200) = 3000 := (s.2 35 _ rfl rfl).2.2.2 (by decide)
theorem kw1202 {w : Nat → Nat} {h : AH} (s : So 9 w h) : hK h (w 1202) = 1000 := (s.2 36 _ rfl rfl).2.1
theorem lw1202 {w : Nat → Nat} {h : AH} (s : So 9 w h) : hL h (w 1202) = 2000 := (s.2 36 _ rfl rfl).2.2.2 (by decide)
theorem kw1203 {w : Nat → Nat} {h : AH} (s : So 9 w h) : hK h (w 1203) = 1000 := (s.2 37 _ rfl rfl).2.1
theorem lw1203 {w : Nat → Nat} {h : AH} (s : So 9 w h) : hL h (w 1203) = 100 := (s.2 37 _ rfl rfl).2.2.2 (by decide)
theorem kw1206 {w : Nat → Nat} {h : AH} (s : So 9 w h) : hK h (w 1206) = 1000 := (s.2 38 _ rfl rfl).2.1
theorem lw1206 {w : Nat → Nat} {h : AH} (s : So 9 w h) : hL h (w 1206) = 200 := (s.2 38 _ rfl rfl).2.2.2 (by decide)
theorem kw1208 {w : Nat → Nat} {h : AH} (s : So 9 w h) : hK h (w 1208) = 1000 := (s.2 39 _ rfl rfl).2.1
theorem lw1208 {w : Nat → Nat} {h : AH} (s : So 9 w h) : hL h (w 1208) = 3000 := (s.2 39 _ rfl rfl).2.2.2 (by decide)
theorem kw1211 {w : Nat → Nat} {h : AH} (s : So 9 w h) : hK h (w 1211) = 1000 := (s.2 40 _ rfl rfl).2.1
theorem lw1211 {w : Nat → Nat} {h : AH} (s : So 9 w h) : hL h (w 1211) = 4000 := (s.2 40 _ rfl rfl).2.2.2 (by decide)
theorem kw1212 {w : Nat → Nat} {h : AH} (s : So 9 w h) : hK h (w 1212) = 1000 := (s.2 41 _ rfl rfl).2.1
theorem lw1212 {w : Nat → Nat} {h : AH} (s : So 9 w h) : hL h (w 1212) = 4000 := (s.2 41 _ rfl rfl).2.2.2 (by decide)
theorem kw1213 {w : Nat → Nat} {h : AH} (s : So 9 w h) : hK h (w 1213) = 1000 := (s.2 42 _ rfl rfl).2.1
theorem lw1213 {w : Nat → Nat} {h : AH} (s : So 9 w h) : hL h (w 1213) = 4000 := (s.2 42 _ rfl rfl).2.2.2 (by decide)
theorem kw1215 {w : Nat → Nat} {h : AH} (s : So 9 w h) : hK h (w 1215) = 1002 := (s.2 43 _ rfl rfl).2.1
theorem lw1215 {w : Nat → Nat} {h : AH} (s : So 9 w h) : hL h (w 1215) = 16 := (s.2 43 _ rfl rfl).2.2.2 (by decide)
theorem kw1217 {w : Nat → Nat} {h : AH} (s : So 9 w h) : hK h (w 1217) = 1000 := (s.2 44 _ rfl rfl).2.1
theorem lw1217 {w : Nat → Nat} {h : AH} (s : So 9 w h) : hL h (w 1217) = 4000 := (s.2 44 _ rfl rfl).2.2.2 (by decide)
theorem kw1218 {w : Nat → Nat} {h : AH} (s : So 9 w h) : hK h (w 1218) = 1000 := (s.2 45 _ rfl rfl).2.1
theorem lw1218 {w : Nat → Nat} {h : AH} (s : So 9 w h) : hL h (w 1218) = 4000 := (s.2 45 _ rfl rfl).2.2.2 (by decide)
theorem kw1220 {w : Nat → Nat} {h : AH} (s : So 9 w h) : hK h (w 1220) = 1000 := (s.2 46 _ rfl rfl).2.1
theorem lw1220 {w : Nat → Nat} {h : AH} (s : So 9 w h) : hL h (w 1220) = 3000 := (s.2 46 _ rfl rfl).2.2.2 (by decide)
theorem kw1221 {w : Nat → Nat} {h : AH} (s : So 9 w h) : hK h (w 1221) = 1000 := (s.2 47 _ rfl rfl).2.1
theorem lw1221 {w : Nat → Nat} {h : AH} (s : So 9 w h) : hL h (w 1221) = 3000 := (s.2 47 _ rfl rfl).2.2.2 (by decide)
theorem kw1224 {w : Nat → Nat} {h : AH} (s : So 9 w h) : hK h (w 1224) = 1000 := (s.2 48 _ rfl rfl).2.1
theorem lw1224 {w : Nat → Nat} {h : AH} (s : So 9 w h) : hL h (w 1224) = 3000 := (s.2 48 _ rfl rfl).2.2.2 (by decide)
theorem kw1225 {w : Nat → Nat} {h : AH} (s : So 9 w h) : hK h (w 1225) = 1000 := (s.2 49 _ rfl rfl).2.1
theorem lw1225 {w : Nat → Nat} {h : AH} (s : So 9 w h) : hL h (w 1225) = 3000 := (s.2 49 _ rfl rfl).2.2.2 (by decide)
theorem kw1226 {w : Nat → Nat} {h : AH} (s : So 9 w h) : hK h (w 1226) = 1000 := (s.2 50 _ rfl rfl).2.1
theorem lw1226 {w : Nat → Nat} {h : AH} (s : So 9 w h) : hL h (w 1226) = 4000 := (s.2 50 _ rfl rfl).2.2.2 (by decide)
theorem kw1227 {w : Nat → Nat} {h : AH} (s : So 9 w h) : hK h (w 1227) = 1000 := (s.2 51 _ rfl rfl).2.1
theorem lw1227 {w : Nat → Nat} {h : AH} (s : So 9 w h) : hL h (w 1227) = 4000 := (s.2 51 _ rfl rfl).2.2.2 (by decide)
theorem kw1228 {w : Nat → Nat} {h : AH} (s : So 9 w h) : hK h (w 1228) = 1002 := (s.2 52 _ rfl rfl).2.1
theorem lw1228 {w : Nat → Nat} {h : AH} (s : So 9 w h) : hL h (w 1228) = 20 := (s.2 52 _ rfl rfl).2.2.2 (by decide)
theorem kw1238 {w : Nat → Nat} {h : AH} (s : So 9 w h) : hK h (w 1238) = 1000 := (s.2 53 _ rfl rfl).2.1
theorem lw1238 {w : Nat → Nat} {h : AH} (s : So 9 w h) : hL h (w 1238) = 2000 := (s.2 53 _ rfl rfl).2.2.2 (by decide)
theorem kw1239 {w : Nat → Nat} {h : AH} (s : So 9 w h) : hK h (w 1239) = 1000 := (s.2 54 _ rfl rfl).2.1
theorem lw1239 {w : Nat → Nat} {h : AH} (s : So 9 w h) : hL h (w 1239) = 2000 := (s.2 54 _ rfl rfl).2.2.2 (by decide)
theorem kw1244 {w : Nat → Nat} {h : AH} (s : So 9 w h) : hK h (w 1244) = 1000 := (s.2 55 _ rfl rfl).2.1
theorem lw1244 {w : Nat → Nat} {h : AH} (s : So 9 w h) : hL h (w 1244) = 400 := (s.2 55 _ rfl rfl).2.2.2 (by decide)
theorem kw1245 {w : Nat → Nat} {h : AH} (s : So 9 w h) : hK h (w 1245) = 1000 := (s.2 56 _ rfl rfl).2.1
theorem lw1245 {w : Nat → Nat} {h : AH} (s : So 9 w h) : hL h (w 1245) = 400 := (s.2 56 _ rfl rfl).2.2.2 (by decide)
theorem kw1246 {w : Nat → Nat} {h : AH} (s : So 9 w h) : hK h (w 1246) = 1000 := (s.2 57 _ rfl rfl).2.1
theorem lw1246 {w : Nat → Nat} {h : AH} (s : So 9 w h) : hL h (w 1246) = 400 := (s.2 57 _ rfl rfl).2.2.2 (by decide)
theorem kw1247 {w : Nat → Nat} {h : AH} (s : So 9 w h) : hK h (w 1247) = 1000 := (s.2 58 _ rfl rfl).2.1
theorem lw1247 {w : Nat → Nat} {h : AH} (s : So 9 w h) : hL h (w 1247) = 29000 := (s.2 58 _ rfl rfl).2.2.2 (by decide)
theorem kw1248 {w : Nat → Nat} {h : AH} (s : So 9 w h) : hK h (w 1248) = 1000 := (s.2 59 _ rfl rfl).2.1
theorem lw1248 {w : Nat → Nat} {h : AH} (s : So 9 w h) : hL h (w 1248) = 29000 := (s.2 59 _ rfl rfl).2.2.2 (by decide)
theorem kw1249 {w : Nat → Nat} {h : AH} (s : So 9 w h) : hK h (w 1249) = 1000 := (s.2 60 _ rfl rfl).2.1
theorem lw1249 {w : Nat → Nat} {h : AH} (s : So 9 w h) : hL h (w 1249) = 2000 := (s.2 60 _ rfl rfl).2.2.2 (by decide)
theorem kw1250 {w : Nat → Nat} {h : AH} (s : So 9 w h) : hK h (w 1250) = 1000 := (s.2 61 _ rfl rfl).2.1
theorem lw1250 {w : Nat → Nat} {h : AH} (s : So 9 w h) : hL h (w 1250) = 2000 := (s.2 61 _ rfl rfl).2.2.2 (by decide)
theorem kw1261 {w : Nat → Nat} {h : AH} (s : So 9 w h) : hK h (w 1261) = 1000 := (s.2 62 _ rfl rfl).2.1
theorem lw1261 {w : Nat → Nat} {h : AH} (s : So 9 w h) : hL h (w 1261) = 3000 := (s.2 62 _ rfl rfl).2.2.2 (by decide)
theorem kw1262 {w : Nat → Nat} {h : AH} (s : So 9 w h) : hK h (w 1262) = 1000 := (s.2 63 _ rfl rfl).2.1
theorem lw1262 {w : Nat → Nat} {h : AH} (s : So 9 w h) : hL h (w 1262) = 3000 := (s.2 63 _ rfl rfl).2.2.2 (by decide)
theorem kw1263 {w : Nat → Nat} {h : AH} (s : So 9 w h) : hK h (w 1263) = 1000 := (s.2 64 _ rfl rfl).2.1
theorem lw1263 {w : Nat → Nat} {h : AH} (s : So 9 w h) : hL h (w 1263) = 2000 := (s.2 64 _ rfl rfl).2.2.2 (by decide)
theorem kw1264 {w : Nat → Nat} {h : AH} (s : So 9 w h) : hK h (w 1264) = 1000 := (s.2 65 _ rfl rfl).2.1
theorem lw1264 {w : Nat → Nat} {h : AH} (s : So 9 w h) : hL h (w 1264) = 2000 := (s.2 65 _ rfl rfl).2.2.2 (by decide)
theorem kw1265 {w : Nat → Nat} {h : AH} (s : So 9 w h) : hK h (w 1265) = 1000 := (s.2 66 _ rfl rfl).2.1
theorem lw1265 {w : Nat → Nat} {h : AH} (s : So 9 w h) : hL h (w 1265) = 245000 := (s.2 66 _ rfl rfl).2.2.2 (by decide)
theorem kw1266 {w : Nat → Nat} {h : AH} (s : So 9 w h) : hK h (w 1266) = 1000 := (s.2 67 _ rfl rfl).2.1
theorem lw1266 {w : Nat → Nat} {h : AH} (s : So 9 w h) : hL h (w 1266) = 245000 := (s.2 67 _ rfl rfl).2.2.2 (by decide)
theorem kw1267 {w : Nat → Nat} {h : AH} (s : So 9 w h) : hK h (w 1267) = 1000 := (s.2 68 _ rfl rfl).2.1
theorem lw1267 {w : Nat → Nat} {h : AH} (s : So 9 w h) : hL h (w 1267) = 245000 := (s.2 68 _ rfl rfl).2.2.2 (by decide)
theorem kw1269 {w : Nat → Nat} {h : AH} (s : So 9 w h) : hK h (w 1269) = 1000 := (s.2 69 _ rfl rfl).2.1
theorem lw1269 {w : Nat → Nat} {h : AH} (s : So 9 w h) : hL h (w 1269) = 124000 := (s.2 69 _ rfl rfl).2.2.2 (by decide)
theorem kw1270 {w : Nat → Nat} {h : AH} (s : So 9 w h) : hK h (w 1270) = 1000 := (s.2 70 _ rfl rfl).2.1
theorem lw1270 {w : Nat → Nat} {h : AH} (s : So 9 w h) : hL h (w 1270) = 31000 := (s.2 70 _ rfl rfl).2.2.2 (by decide)
theorem kw1284 {w : Nat → Nat} {h : AH} (s : So 9 w h) : hK h (w 1284) = 1000 := (s.2 71 _ rfl rfl).2.1
theorem lw1284 {w : Nat → Nat} {h : AH} (s : So 9 w h) : hL h (w 1284) = 100 := (s.2 71 _ rfl rfl).2.2.2 (by decide)
theorem kw1286 {w : Nat → Nat} {h : AH} (s : So 9 w h) : hK h (w 1286) = 1000 := (s.2 72 _ rfl rfl).2.1
theorem lw1286 {w : Nat → Nat} {h : AH} (s : So 9 w h) : hL h (w 1286) = 8 := (s.2 72 _ rfl rfl).2.2.2 (by decide)
theorem kw1287 {w : Nat → Nat} {h : AH} (s : So 9 w h) : hK h (w 1287) = 1000 := (s.2 73 _ rfl rfl).2.1
theorem lw1287 {w : Nat → Nat} {h : AH} (s : So 9 w h) : hL h (w 1287) = 8 := (s.2 73 _ rfl rfl).2.2.2 (by decide)
theorem kw1288 {w : Nat → Nat} {h : AH} (s : So 9 w h) : hK h (w 1288) = 1000 := (s.2 74 _ rfl rfl).2.1
theorem lw1288 {w : Nat → Nat} {h : AH} (s : So 9 w h) : hL h (w 1288) = 8 := (s.2 74 _ rfl rfl).2.2.2 (by decide)
/-! NUMBERS -/
theorem i_add {a b : Int32} (h1 : -2147483648 ≤ a.toInt + b.toInt) (h2 : a.toInt + b.toInt ≤ 2147483647) : (a + b).toInt = a.toInt + b.toInt := by
  rw [Int32.toInt_add]
  exact Int.bmod_eq_of_le (by omega) (by omega)
theorem i_sub {a b : Int32} (h1 : -2147483648 ≤ a.toInt - b.toInt) (h2 : a.toInt - b.toInt ≤ 2147483647) : (a - b).toInt = a.toInt - b.toInt := by
  rw [Int32.toInt_sub]
  exact Int.bmod_eq_of_le (by omega) (by omega)
theorem i_mul {a b : Int32} (h1 : -2147483648 ≤ a.toInt * b.toInt) (h2 : a.toInt * b.toInt ≤ 2147483647) : (a * b).toInt = a.toInt * b.toInt := by
  rw [Int32.toInt_mul]
  exact Int.bmod_eq_of_le (by omega) (by omega)
theorem i_lo (a : Int32) : -2147483648 ≤ a.toInt := Int32.le_toInt a
theorem i_hi (a : Int32) : a.toInt ≤ 2147483647 := Int32.toInt_le a
theorem i_eq {a b : Int32} : a = b ↔ a.toInt = b.toInt := Int32.toInt_inj.symm
theorem i_cn (a : Int32) : a.toNatClampNeg = a.toInt.toNat := rfl
theorem i_ofNat {n : Nat} (h : n < 2147483648) : (Int32.ofNat n).toInt = n := nI_toInt h

