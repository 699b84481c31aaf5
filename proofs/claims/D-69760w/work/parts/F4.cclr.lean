/-! THE COMPONENT'S RESOLVER: expressions, their forms; clauses -/
def shT : Nat → Tr → Prop
  | 0, _ => False
  | n + 1, x => (∃ (t : Nat) (v : Int), x = n1 57 t (.num v)) ∨ (∃ (t : Nat) (v : Int) (l : List Tr), x = n2 58 t (.num v) (ls l) ∧ ∀ y, y ∈ l → shT n y) ∨ (∃ (t : Nat) (a b : Tr), x = n2 59 t a b ∧ shT n a ∧ shT n b) ∨ (∃ (t : Nat) (l : List Tr), x = n1 60 t (ls l) ∧ ∀ y, y ∈ l → shT n y)
/-- the form of an expression (0), a clause (1), a declaration (2) -/
def shE (V : Nat → Nat) : Nat → Nat → Tr → Prop
  | 0, _, _ => False
  | n + 1, g, x => if g = 0 then
      (∃ (k t : Nat) (v : Int), (k = 1 ∨ k = 2 ∨ k = 3 ∨ k = 4) ∧ x = n1 k t (.num v)) ∨ (∃ (k t : Nat), (k = 5 ∨ k = 6 ∨ k = 7) ∧ x = n0 k t) ∨
      (∃ (k t : Nat) (l : List Tr), (k = 8 ∨ k = 9 ∨ k = 10) ∧ x = n1 k t (ls l) ∧ ∀ y, y ∈ l → shE V n 0 y) ∨
      (∃ (t : Nat) (ds : List Tr) (e : Tr), x = n2 11 t (ls ds) e ∧ (∀ y, y ∈ ds → shE V n 2 y) ∧ shE V n 0 e) ∨
      (∃ (t : Nat) (l : List Tr), x = n1 12 t (ls l) ∧ ∀ y, y ∈ l → shE V n 1 y) ∨ (∃ (t : Nat) (e : Tr) (l : List Tr), x = n2 13 t e (ls l) ∧ shE V n 0 e ∧ ∀ y, y ∈ l → shE V n 1 y) ∨
      (∃ (t : Nat) (a b c : Tr), x = n3 14 t a b c ∧ shE V n 0 a ∧ shE V n 0 b ∧ shE V n 0 c) ∨ (∃ (t : Nat) (e : Tr) (l : List Tr), x = n2 15 t e (ls l) ∧ shE V n 0 e ∧ ∀ y, y ∈ l → shE V n 0 y) ∨
      (∃ (t : Nat) (e : Tr) (ps : List (Nat × Tr)), x = n2 16 t e (ls (ps.map opx)) ∧ shE V n 0 e ∧ ∀ p, p ∈ ps → shE V n 0 p.2) ∨
      (∃ (k t : Nat) (a b : Tr), (k = 17 ∨ k = 18) ∧ x = n2 k t a b ∧ shE V n 0 a ∧ shE V n 0 b) ∨ (∃ (t : Nat) (y : Tr), x = n1 19 t y ∧ shE V n 0 y)
    else if g = 1 then ∃ (t : Nat) (v : Int) (ps : List Tr) (e : Tr), x = n3 50 t (.num v) (ls ps) e ∧ (∀ y, y ∈ ps → shP n y) ∧ shE V n 0 e
    else (∃ (t : Nat) (p e : Tr), x = n2 51 t p e ∧ shP n p ∧ shE V n 0 e) ∨
      (∃ (t : Nat) (fs : List Tr), x = n1 52 t (ls fs) ∧ ∀ f, f ∈ fs → ∃ (t : Nat) (c0 : Tr) (cs : List Tr), f = n2 54 t (.num (V t)) (ls (c0 :: cs)) ∧ tkN c0 = t ∧ ∀ c, c ∈ c0 :: cs → shE V n 1 c ∧ nv1 c = V (tkN c) ∧ V (tkN c) ≠ 0) ∨
      (∃ (t : Nat) (ds : List Tr), x = n1 53 t (ls ds) ∧ ∀ f, f ∈ ds → ∃ (t : Nat) (vs cs : List Tr), f = n3 55 t (.num (V t)) (ls vs) (ls cs) ∧ vs.length ≤ 6 ∧ (∀ y, y ∈ vs → ∃ t : Nat, y = n1 57 t (.num (V t))) ∧ ∀ c, c ∈ cs → ∃ (t : Nat) (y : Tr), c = n2 56 t (.num (V t)) y ∧ (y = .num 0 ∨ shT n y))
/-- names of outside -/
def knO (O : List (Nat × Nat) × List (Nat × Nat)) (v : Nat) : Bool := (lk O.1 v).isSome || (lk O.2 v).isSome
/-- expressions of n levels are resolved -/
def ER (G : Gh) (W : Nat → Prop) (ts : List (Nat × Nat × Nat)) (O : List (Nat × Nat) × List (Nat × Nat)) (n d : Nat) : Prop := ∀ (x : Tr) (lo hi q : Nat) (h : AH) (s : RSt) (Z : Zt) (D : Dm) (nb : Nat), shE (Vl ts) n 0 x → wf (Kd ts) x lo hi → OTG (X0 ts W h) W h x 0 0 q → rI G W ts O h Z D s nb lo hi →
  ∃ k ν, VT ⟨"LetMill$Exp", "resolve", "(LLetMill$Scope;)V"⟩ VMExp_resolve k ν ∧ hK h q = k + 1 ∧ C G ν (d + 6) [.ref q, .ref (gW G 4)] h (rP G W ts O h Z D nb lo hi (rA ts W O lo hi (rs (Pl ts) (knO O) n 0 x s).1 q) (rs (Pl ts) (knO O) n 0 x s).2)
/-- clauses -/
def CR (G : Gh) (W : Nat → Prop) (ts : List (Nat × Nat × Nat)) (O : List (Nat × Nat) × List (Nat × Nat)) (n d : Nat) : Prop := ∀ (x : Tr) (lo0 lo hi q : Nat) (h : AH) (s : RSt) (Z : Zt) (D : Dm) (nb : Nat), shE (Vl ts) n 1 x → wf (Kd ts) x lo0 hi → (lo0 ≤ lo ∧ (lo = lo0 ∨ (nv1 x ≠ 0 ∧ lo ≤ tkN x + 1))) → OTG (X0 ts W h) W h x 0 0 q → rI G W ts O h Z D s nb lo hi →
  C G mX9_clause (d + 6) [.ref (gW G 4), .ref q] h (rP G W ts O h Z D nb lo hi (rA ts W O lo0 hi (rs (Pl ts) (knO O) n 1 x s).1 q) (rs (Pl ts) (knO O) n 1 x s).2)
/-! the law: what is in sight behind a tree -/
section
variable {pl : Nat → Nat} {kn : Nat → Bool}
theorem rLs_sfx {f : Tr → RSt → Tr × RSt} (hf : ∀ x s, rV s <:+ rV (f x s).2) : ∀ l s, rV s <:+ rV (rLs f l s).2 := by
  intro l
  induction l with
  | nil => intro s; exact List.suffix_refl _
  | cons x l ih => intro s; exact (hf x s).trans (ih _)
theorem rLs_eq {f : Tr → RSt → Tr × RSt} (hf : ∀ x s, rV (f x s).2 = rV s) : ∀ l s, rV (rLs f l s).2 = rV s := by
  intro l
  induction l with
  | nil => intro s; rfl
  | cons x l ih => intro s; exact (ih _).trans (hf x s)
theorem rBind_sfx {fr t v : Nat} {s : RSt} : rV s <:+ rV (rBind pl fr t v s) := List.suffix_cons _ _
theorem rPat_sfx : ∀ n fr x s, rV s <:+ rV (rPat pl n fr x s).2 := by
  intro n
  induction n with
  | zero => intro fr x s; exact List.suffix_refl _
  | succ n ih =>
    intro fr x s
    unfold rPat
    split
    · next k t y =>
      split
      · exact rBind_sfx
      split
      · split
        · next v sub =>
          have e1 : rV s <:+ rV (match lk (rC s) (nv v) with | none => rNote pl 2 t.toNat s | some c => rIf pl (cWith s c == isN sub) 4 t.toNat s) := by
            cases lk (rC s) (nv v) with
            | none => exact List.suffix_refl _
            | some c => show _ <:+ rV (rIf pl (cWith s c == isN sub) 4 t.toNat s); rw [rIf_V]; exact List.suffix_refl _
          dsimp only
          split
          · exact e1
          · exact e1.trans (ih _ _ _)
        · exact List.suffix_refl _
      split
      · exact rLs_sfx (fun x s => ih fr x s) _ _
      split
      · split
        · exact (ih _ _ _).trans (ih _ _ _)
        · exact List.suffix_refl _
      split
      · exact ih _ _ _
      · exact List.suffix_refl _
    · exact List.suffix_refl _
theorem rTy_V : ∀ n vs x s, rV (rTy pl n vs x s).2 = rV s := by
  intro n
  induction n with
  | zero => intro vs x s; rfl
  | succ n ih =>
    intro vs x s
    unfold rTy
    split
    · next k t y =>
      split
      · exact rIf_V
      split
      · split
        · next v as =>
          dsimp only
          refine (rLs_eq (fun x s => ih vs x s) _ _).trans ?_
          cases lk (rT s) (nv v) with
          | none => rfl
          | some d => exact rIf_V
        · rfl
      split
      · split
        · exact (ih _ _ _).trans (ih _ _ _)
        · rfl
      split
      · exact rLs_eq (fun x s => ih vs x s) _ _
      · rfl
    · rfl
theorem foldl_V {α : Type} {f : RSt → α → RSt} (hf : ∀ s a, rV (f s a) = rV s) : ∀ (l : List α) (s : RSt), rV (l.foldl f s) = rV s := by
  intro l
  induction l with
  | nil => intro s; rfl
  | cons a l ih => intro s; exact (ih _).trans (hf s a)
theorem rD1_V {t : Nat} : ∀ l old s, rV (rD1 pl t old l s) = rV s := by
  intro l
  induction l with
  | nil => intro old s; rfl
  | cons d l ih =>
    intro old s
    unfold rD1
    refine (ih _ _).trans ?_
    show rV ((List.range (dVs d).length).foldl _ _) = _
    exact (foldl_V (fun s a => rIf_V) _ _).trans rIf_V
theorem rD2c_V {n : Nat} {vs : List Nat} : ∀ l old s, rV (rD2c pl n vs old l s).2 = rV s := by
  intro l
  induction l with
  | nil => intro old s; rfl
  | cons c l ih =>
    intro old s
    unfold rD2c
    dsimp only
    refine (ih _ _).trans ?_
    split
    · exact rIf_V
    · exact (rTy_V _ _ _ _).trans rIf_V
theorem rD2_V {n : Nat} : ∀ l old s, rV (rD2 pl n old l s).2 = rV s := by
  intro l
  induction l with
  | nil => intro old s; rfl
  | cons c l ih =>
    intro old s
    unfold rD2
    exact (ih _ _).trans (rD2c_V _ _ _)
theorem rD3c_V {d : Nat} : ∀ l i hs s, rV (rD3c d i l hs s).2 = rV s := by
  intro l
  induction l with
  | nil => intro i hs s; cases hs <;> rfl
  | cons c l ih =>
    intro i hs s
    cases hs with
    | nil => rfl
    | cons h hs => unfold rD3c; exact ih _ _ _
theorem rD3_V : ∀ l d hs s, rV (rD3 d l hs s).2 = rV s := by
  intro l
  induction l with
  | nil => intro d hs s; cases hs <;> rfl
  | cons c l ih =>
    intro d hs s
    cases hs with
    | nil => rfl
    | cons h hs => unfold rD3; exact (ih _ _ _).trans (rD3c_V _ _ _ _)
theorem back_V {s s' : RSt} (k : rV s <:+ rV s') : rV (rBack (rV s).length s') = rV s := (List.suffix_iff_eq_drop.mp k).symm
theorem foldl_sfx {α : Type} {f : RSt → α → RSt} (hf : ∀ s a, rV s <:+ rV (f s a)) : ∀ (l : List α) (s : RSt), rV s <:+ rV (l.foldl f s) := by
  intro l
  induction l with
  | nil => intro s; exact List.suffix_refl _
  | cons a l ih => intro s; exact (hf s a).trans (ih _)
/-- an expression leaves the names as they are, a declaration adds to them -/
theorem rs_V : ∀ n, (∀ x s, rV (rs pl kn n 0 x s).2 = rV s) ∧ (∀ x s, rV (rs pl kn n 1 x s).2 = rV s) ∧ ∀ x s, rV s <:+ rV (rs pl kn n 2 x s).2 := by
  intro n
  induction n with
  | zero => exact ⟨fun x s => rfl, fun x s => rfl, fun x s => List.suffix_refl _⟩
  | succ n ih =>
    obtain ⟨ih0, ih1, ih2⟩ := ih
    refine ⟨fun x s => ?_, fun x s => ?_, fun x s => ?_⟩
    · cases x with
      | mulL k z =>
        cases z with
        | add u y =>
          cases u with
          | num t =>
            by_cases k1 : k = 1
            · subst k1; exact rIf_V
            by_cases k2 : k = 2
            · subst k2; exact rIf_V
            by_cases k8 : k = 8 ∨ k = 9 ∨ k = 10
            · rcases k8 with rfl | rfl | rfl <;> exact rLs_eq ih0 _ _
            by_cases k11 : k = 11
            · subst k11
              cases y with
              | add ds e =>
                show rV (rBack (rV s).length (rs pl kn n 0 e (rLs (rs pl kn n 2) (unl ds) s).2).2) = rV s
                refine back_V ?_
                rw [ih0]
                exact rLs_sfx ih2 _ _
              | _ => rfl
            by_cases k12 : k = 12
            · subst k12; exact rLs_eq ih1 _ _
            by_cases k13 : k = 13
            · subst k13
              cases y with
              | add e m => exact (rLs_eq ih1 _ _).trans (ih0 _ _)
              | _ => rfl
            by_cases k14 : k = 14
            · subst k14
              cases y with
              | add a w =>
                cases w with
                | add b c => exact (ih0 _ _).trans ((ih0 _ _).trans (ih0 _ _))
                | _ => rfl
              | _ => rfl
            by_cases k15 : k = 15
            · subst k15
              cases y with
              | add f l => exact (rLs_eq ih0 _ _).trans (ih0 _ _)
              | _ => rfl
            by_cases k16 : k = 16
            · subst k16
              cases y with
              | add f l =>
                refine (rLs_eq (fun o s => ?_) _ _).trans (ih0 _ _)
                cases o with
                | add g e => exact ih0 _ _
                | _ => rfl
              | _ => rfl
            by_cases k17 : k = 17 ∨ k = 18
            · cases y with
              | add a b => rcases k17 with rfl | rfl <;> exact (ih0 _ _).trans (ih0 _ _)
              | _ => rcases k17 with rfl | rfl <;> rfl
            by_cases k19 : k = 19
            · subst k19; exact ih0 _ _
            unfold rs
            rw [if_neg (by decide), if_neg (by decide)]
            dsimp only
            rw [if_neg k1, if_neg k2, if_neg k8, if_neg k11, if_neg k12, if_neg k13, if_neg k14, if_neg k15, if_neg k16, if_neg k17, if_neg k19]
          | _ => rfl
        | _ => rfl
      | _ => rfl
    · unfold rs
      rw [if_pos rfl]
      split
      · next k t v ps e =>
        refine back_V ?_
        rw [ih0]
        exact rLs_sfx (fun x s => rPat_sfx _ _ x s) _ _
      · rfl
    · unfold rs
      rw [if_neg (by decide), if_pos rfl]
      split
      · next k t y =>
        split
        · split
          · next p e =>
            have := rPat_sfx (pl := pl) n (rV (rs pl kn n 0 e s).2).length p (rs pl kn n 0 e s).2
            rw [ih0] at this
            dsimp only
            rw [ih0]
            exact this
          · exact List.suffix_refl _
        split
        · dsimp only
          rw [rLs_eq (fun f s => rLs_eq (fun c s => (ih1 _ _).trans (rIf_V.trans rIf_V)) _ _) _ _]
          exact foldl_sfx (fun s a => rBind_sfx) _ _
        · dsimp only
          rw [rD3_V, rD2_V, rD1_V]
          exact List.suffix_refl _
      · exact List.suffix_refl _
end
section
variable {G : Gh} {d : Nat} {W N : Nat → Prop} {h h1 h2 h5 h' : AH} {ts : List (Nat × Nat × Nat)} {t i n nb nb' nb1 nb2 r q g fr ba lo hi m m0 m1 m2 lo1 hi1 b k c arr : Nat} {v : Int} {Z Z' Z1 Z2 : Zt} {D D' D1 D2 : Dm} {O : List (Nat × Nat) × List (Nat × Nat)} {s s' s1 s2 s5 : RSt} {x y e x' a' b' : Tr} {l l1 l2 ps : List Tr} {f : Nat → Option Nat} {A : Zt → Dm → AH → Prop} {K : Nat → Nat}
theorem BNs.back (k : BNs G h Z.1 (rV s) nb) (er : rcap G h' = rcap G h) (hm : m ≤ (rV s).length) (u : UK [13, 1007] h h') (e82 : fR h' (gW G 4) 82 = fR h (gW G 4) 82) (e83 : fI h' (gW G 4) 83 = nI m) (e84 : fI h' (gW G 4) 84 = nI m) : BNs G h' Z.1 ((rV s).drop ((rV s).length - m)) nb := by
  obtain ⟨ba, b1, b2', b3, b5, b6, b7, b8, b9, b10, b11⟩ := k
  obtain ⟨a1, a2, -, -, a5, -⟩ := u ba (by rw [b2']; decide)
  have el : ((rV s).drop ((rV s).length - m)).length = m := by rw [List.length_drop]; omega
  refine ⟨ba, e82.trans b1, a1.trans b2', b3, by rw [a2, er]; exact b5, by rw [a2]; exact b6, by rw [a2]; exact b7, by rw [el, a2]; omega, by rw [el]; exact e83, by rw [el]; exact e84, fun p x hx => ?_⟩
  rw [List.getElem?_drop] at hx
  obtain ⟨g1, g2, g3, g4⟩ := b11 _ x hx
  have hp := (List.getElem?_eq_some_iff.mp hx).1
  obtain ⟨c1, -, -, -, -, c6⟩ := u (Z.1 x.2) (by rw [g2]; decide)
  rw [show (rV s).length - 1 - ((rV s).length - m + p) = m - 1 - p by omega] at g1 g4
  rw [el]
  exact ⟨by rw [a5]; exact g1, c1.trans g2, by rw [(c6 125).2.1, (c6 126).2.1]; exact g3, (c6 129).1.trans g4⟩
theorem r_back (k : RS G W h ts Z O s nb) (hm : m ≤ (rV s).length) : C G mX9_back d [.ref (gW G 4), .int (nI m)] h (fun o h' => o = .returned none ∧ S4 G [83, 84] h h' ∧ RS G W h' ts Z O (rBack m s) nb) := by
  obtain ⟨ba, b1, b2', b3, b5, b6, b7, b8, b9, b10, b11⟩ := k.2.2.2.1
  refine bX9_back G d h _ _ (k.1.1.at (by decide)) ?_
  rw [b9, b10, nI_sub hm (by omega), nI_sub (Nat.sub_le _ _) (by omega), show (rV s).length - ((rV s).length - m) = m by omega]
  intro h1 e1 h2 e2
  have w : S4 G [83, 84] h h2 := by rw [e2, e1]; exact (S4.rf.pI (by decide)).pI (by decide)
  have e83 : fI h2 (gW G 4) 83 = nI m := by rw [e2, fI_pI, if_pos ⟨rfl, rfl⟩]
  have e84 : fI h2 (gW G 4) 84 = nI m := by rw [e2, fI_pI, if_neg (fun e => absurd e.2 (by decide)), e1, fI_pI, if_pos ⟨rfl, rfl⟩]
  have u := w.uK k.1
  exact ⟨rfl, w, k.mvB (k.1.s4 w (by decide)) (u.sub (by decide)) (k.2.2.2.1.back (rcap_uk k.2.2.2.2.1 k.2.2.2.2.2.1 k.2.2.2.2.2.2.1 (u.sub (by decide))) hm (u.sub (by decide)) (w.2 82 (by decide)).2.2 e83 e84) (k.2.1.mv (w.2 91 (by decide)).1 (w.2 92 (by decide)).1) fun a _ => by rw [w.1.2.1.1]⟩
theorem wf_50 {a : Tr} (w : wf K (n3 50 t (.num v) a e) lo hi) : (lo ≤ t ∧ t < hi) ∧ (v ≠ 0 → K t = 280) ∧ ∃ m m2, lo ≤ m ∧ (v ≠ 0 → t + 1 ≤ m) ∧ m ≤ m2 ∧ m2 ≤ hi ∧ wf K a m m2 ∧ wf K e m2 hi := by
  unfold n3 wf at w
  obtain ⟨a1, a2, a3, a4⟩ := w
  change (lo : Int) ≤ (t : Nat) at a1
  change ((t : Nat) : Int) < hi at a2
  have en : fnC (.add (.num t) (.add (.num v) (.add a e))) = !(v == 0) := rfl
  have inner : ∀ l0, wf K (.add (.num t) (.add (.num v) (.add a e))) l0 hi → ∃ m m2, l0 ≤ m ∧ m ≤ m2 ∧ m2 ≤ hi ∧ wf K a m m2 ∧ wf K e m2 hi := by
    intro l0 w
    unfold wf at w
    obtain ⟨p1, q1, q2, -, w⟩ := w
    unfold wf at w
    obtain ⟨p2, q3, q4, -, w⟩ := w
    unfold wf at w
    obtain ⟨p3, q5, q6, w1, w2⟩ := w
    exact ⟨p2, p3, by omega, q5, q6, w1, w2⟩
  refine ⟨⟨by omega, by omega⟩, fun hv => a3.1 (Or.inr (Or.inr (Or.inr (Or.inr (Or.inr ⟨rfl, by rw [en]; simpa using hv⟩))))), ?_⟩
  by_cases hv : v = 0
  · rw [if_neg (by rw [en]; simp [hv]), if_neg (by decide)] at a4
    obtain ⟨m, m2, b1, b2, b3, b4, b5⟩ := inner lo a4
    exact ⟨m, m2, b1, fun q => absurd hv q, b2, b3, b4, b5⟩
  · rw [if_pos (Or.inr (Or.inl ⟨rfl, by rw [en]; simpa using hv⟩))] at a4
    obtain ⟨m, m2, b1, b2, b3, b4, b5⟩ := inner _ a4
    change t + 1 ≤ m at b1
    exact ⟨m, m2, by omega, fun _ => b1, b2, b3, b4, b5⟩
/-- a clause: its patterns, then its body -/
theorem clause_7 (hP : PR G W ts O n (d + 3)) (hE : ER G W ts O n d) {lo0 : Nat} (ri : rI G W ts O h Z D s nb lo hi) (hl0 : lo0 ≤ lo) (ht : lo0 ≤ t ∧ t < hi) (hWq : W q) (hk : hK h q = 29) (ex : EXs W h 50 q (.add (.num t) x)) (eA : ArF W h q 317 arr) (hm0 : lo ≤ m0) (hm1 : m1 ≤ hi) (he : shE (Vl ts) n 0 e) (hwe : wf (Kd ts) e m1 hi) (e18 : fR h q 318 = some b) (oe : OTG (X0 ts W h) W h e 0 0 b) :
    ∀ l2 l1 m h1 s1 Z1 D1 nb1, rM G W ts O h Z D nb lo hi h1 Z1 D1 s1 nb1 m → LZ ts W O (aR h arr) l1 l2 m0 m m1 Z1 D1 h1 → (∀ y, y ∈ l2 → shP n y) → (rV s).length ≤ (rV s1).length → hL h arr = l1.length + l2.length → l1.length + l2.length < 100000 →
    X G mX9_clause (d + 7) none [] 7 [(0, .ref (gW G 4)), (1, .ref q), (2, .int (nI (rV s).length)), (3, .int (nI l1.length))] [] h1 (rP G W ts O h Z D nb lo hi (rA ts W O lo0 hi (n3 50 t (.num v) (ls (l1 ++ (rLs (rPat (Pl ts) n (rV s).length) l2 s1).1)) (rs (Pl ts) (knO O) n 0 e (rLs (rPat (Pl ts) n (rV s).length) l2 s1).2).1) q) (rBack (rV s).length (rs (Pl ts) (knO O) n 0 e (rLs (rPat (Pl ts) n (rV s).length) l2 s1).2).2)) := by
  obtain ⟨eA1, eA2, eA3⟩ := eA
  have hTe : TR m1 hi e := wf.tr _ _ _ hwe
  intro l2
  induction l2 with
  | nil =>
    intro l1 m h1 s1 Z1 D1 nb1 M L hs hfr hlen hlt
    have u1 := (M.2.2.2.1.2 q hWq).1
    have ua := (M.2.2.2.1.2 arr eA3).1
    have hmm : m ≤ m1 := L.2.2.2.2
    refine bX9_clause_7 G (d + 6) h1 _ _ _ _ (M.1.1.1.at (by decide)) ⟨u1.1.trans hk, arr, ((u1.2.2.2.2.2 317 (by decide)).2.2).trans eA1, ua.1.trans eA2, ?_⟩
    rw [ua.2.1, hlen, show Int32.ofNat (l1.length + ([] : List Tr).length) = nI (l1.length + ([] : List Tr).length) from rfl, nI_leI (by simp at hlt ⊢; omega) (by simp at hlt ⊢; omega)]
    refine ⟨fun _ => ?_, fun z => absurd (by simp) z⟩
    show ∃ b6, _
    have M1 := M.wd hmm hm1
    obtain ⟨kc1, ν1, v1, v2, v3⟩ := hE e m1 hi b h1 s1 Z1 D1 nb1 he hwe (oe.k0 M.2.2.2.1 ri.2.1.1 hTe) (M1.ri ri hm1 (Nat.le_refl _))
    refine ⟨b, ((u1.2.2.2.2.2 318 (by decide)).2.2).trans e18, kc1, ν1, v1, v2, C.mono v3 ?_⟩
    rintro _ h2 ⟨rfl, Z2, D2, nb2, a1, a2, a3, ⟨a4, a4'⟩, a5, a6, a7, a8, a9, a10, a11⟩
    have M2 := M1.stp hm1 (Nat.le_refl _) a1 a2 a3 a5 a6 a7 a8 a9 a10 a11
    obtain ⟨tg, tr⟩ := L.fin
    have ub : (rV s).length ≤ (rV (rs (Pl ts) (knO O) n 0 e s1).2).length := by rw [(rs_V n).1]; exact hfr
    refine KV.i (C.mono (r_back a1 ub) ?_)
    rintro _ h3 ⟨rfl, w3, r3⟩
    have eV : (rV (rBack (rV s).length (rs (Pl ts) (knO O) n 0 e s1).2)).length = (rV s).length := by
      show ((rV (rs (Pl ts) (knO O) n 0 e s1).2).drop _).length = _
      rw [List.length_drop]
      change _ - ((rV (rs (Pl ts) (knO O) n 0 e s1).2).length - _) = _
      omega
    have hlh := ri.2.2.2.1.2
    have M3 := M2.stp (Nat.le_refl _) (Nat.le_refl _) r3 (w3.wb a2 (by decide)) (D2 := D2) ⟨fun x hx => a3.1 x (List.mem_of_mem_drop hx), a3.2⟩ (w3.kw a2) Ext.rf (fun t ht => Or.inl ht) (a8.sfx (List.drop_suffix _ _)) a9 (by unfold pU; rw [w3.1.un]; omega) (w3.le (by decide))
    have u3 := (M3.2.2.2.1.2 q hWq).1
    have ua3 := (M3.2.2.2.1.2 arr eA3).1
    have w00 : KW W 0 0 h2 h3 := w3.kw a2
    refine KV.i (M3.fin ⟨?_, ?_⟩)
    · show TR lo0 hi (n1 50 t (.add (.num v) (.add (ls (l1 ++ [])) _)))
      rw [List.append_nil]
      exact TR_nd ht.1 ht.2 ⟨trivial, TR.mono _ _ _ _ _ tr (Nat.le_trans hl0 hm0) hm1, TR.mono _ _ _ _ _ a4 (by have := L.2.2.2.1; omega) (Nat.le_refl _)⟩
    · show OTG _ W h3 (n1 50 t (.add (.num v) (.add (ls (l1 ++ [])) _))) 0 0 q
      rw [List.append_nil]
      refine (OTG_nd (k := 50) (by decide)).mpr ⟨hWq, by rw [u3.1, hk]; decide, ⟨(ex.mv (fun a ha _ => (M3.2.2.2.1.2 a ha).1) u3).ch (by decide), ANN_no (by decide)⟩, (OTG_c2 (by decide) (by decide)).mpr ⟨OTG_7 (Or.inl ⟨_, rfl⟩), (OTG_c2 (by decide) (by decide)).mpr ⟨OTG_arr.mpr ⟨arr, ⟨((u3.2.2.2.2.2 317 (by decide)).2.2).trans eA1, ua3.1.trans eA2, eA3⟩, by rw [ua3.2.1, hlen]; simp, ?_⟩, (OTG_ef (m' := 1) (i' := 318) (by decide) (by decide)).mpr (OTG_f.mpr ⟨b, ((u3.2.2.2.2.2 318 (by decide)).2.2).trans e18, a4'.k1 w00 Ext.rf (Or.inr (Nat.zero_le _)) a4⟩)⟩⟩⟩
      rw [ua3.2.2.2.2.1]
      intro j y hy
      obtain ⟨c1, c, c2, c3⟩ := L.1 j y hy
      exact ⟨c, c2, (c3.k1 a5 a6 (Or.inl hmm) c1).k1 w00 Ext.rf (Or.inr (Nat.zero_le _)) c1⟩
  | cons x2 l2 IH =>
    intro l1 m h1 s1 Z1 D1 nb1 M L hs hfr hlen hlt
    have u1 := (M.2.2.2.1.2 q hWq).1
    have ua := (M.2.2.2.1.2 arr eA3).1
    simp only [List.length_cons] at hlen hlt
    obtain ⟨m2, b', hm, hm2, hw2, fb, ob, nxt⟩ := L.nxt
    refine bX9_clause_7 G (d + 6) h1 _ _ _ _ (M.1.1.1.at (by decide)) ⟨u1.1.trans hk, arr, ((u1.2.2.2.2.2 317 (by decide)).2.2).trans eA1, ua.1.trans eA2, ?_⟩
    rw [ua.2.1, hlen, show Int32.ofNat (l1.length + (l2.length + 1)) = nI (l1.length + (l2.length + 1)) from rfl, nI_leI (by omega) (by omega)]
    refine ⟨fun z => by omega, fun _ => ?_⟩
    rw [nI_cn (by omega)]
    obtain ⟨kc1, ν1, v1, v2, v3⟩ := hP x2 m m2 b' (rV s).length h1 s1 Z1 D1 nb1 (hs x2 (List.mem_cons_self ..)) hw2 ob (M.ri ri hm (Nat.le_trans hm2 hm1)) hfr
    refine ⟨arr, ((u1.2.2.2.2.2 317 (by decide)).2.2).trans eA1, ua.1.trans eA2, (by rw [ua.2.1]; exact vp_in_nI (by omega) (by omega)), b', by rw [ua.2.2.2.2.1]; exact fb, kc1, ν1, v1, v2, C.mono v3 ?_⟩
    rintro _ h2 ⟨rfl, Z2, D2, nb2, a1, a2, a3, ⟨a4, a4'⟩, a5, a6, a7, a8, a9, a10, a11⟩
    have M2 := M.stp hm (Nat.le_trans hm2 hm1) a1 a2 a3 a5 a6 a7 a8 a9 a10 a11
    have L2 := nxt h2 Z2 D2 _ M.2.1.1 a5 a6 a4 a4'
    refine KV.i ?_
    rintro _ rfl
    rw [nI_1]
    have := IH (l1 ++ [(rPat (Pl ts) n (rV s).length x2 s1).1]) m2 h2 (rPat (Pl ts) n (rV s).length x2 s1).2 Z2 D2 nb2 M2 L2 (fun y hy => hs y (List.mem_cons_of_mem _ hy)) (Nat.le_trans hfr (rPat_len ..)) (by rw [List.length_append, List.length_singleton]; omega) (by rw [List.length_append, List.length_singleton]; omega)
    rw [List.length_append, List.length_singleton, List.append_assoc, List.singleton_append] at this
    exact this
theorem c_clr (hP : PR G W ts O n (d + 3)) (hE : ER G W ts O n d) : CR G W ts O (n + 1) (d + 1) := by
  intro x lo0 lo hi q h s Z D nb hs hw hll0 ot ri
  unfold shE at hs
  rw [if_neg (by decide), if_pos rfl] at hs
  obtain ⟨t, v, ps, e, rfl, hps, he⟩ := hs
  obtain ⟨ht, -, m, m1, hm10, hmv, hm2, hm3, hwp, hwe⟩ := wf_50 hw
  have hm1 : lo ≤ m := by
    rcases hll0.2 with z | ⟨z1, z2⟩
    · omega
    · have e1 : nv1 (n3 50 t (.num v) (ls ps) e) = v.toNat := rfl
      have e2 : tkN (n3 50 t (.num v) (ls ps) e) = t := rfl
      have := hmv (fun z => z1 (by rw [e1, z]; rfl))
      omega
  obtain ⟨hWq, hkq, ⟨ex, -⟩, oy⟩ := (OTG_nd (k := 50) (y := .add (.num v) (.add (ls ps) e)) (by decide)).mp ot
  have hk : hK h q = 29 := by simpa [kc] using hkq
  rw [OTG_c2 (by decide) (by decide)] at oy
  have oy2 := (OTG_c2 (by decide) (by decide)).mp oy.2
  obtain ⟨arr, eA, hlen, tg⟩ := OTG_arr.mp oy2.1
  obtain ⟨b, eb, ob⟩ := OTG_f.mp ((OTG_ef (m' := 1) (i' := 318) (by decide) (by decide)).mp oy2.2)
  have hts := ri.1.1.2.2.2.1
  have h4 := ri.2.2.2.1
  have hll := wf_len ps m m1 (fun y hy => shP_node (hps y hy)) hwp hm2
  obtain ⟨ba, b1, b2', b3, b5, b6, b7, b8, b9, b10, b11⟩ := ri.1.2.2.2.1
  refine bX9_clause G (d + 6) h _ _ (ri.1.1.1.at (by decide)) ?_
  rintro _ rfl
  rw [b9]
  have := clause_7 (v := v) hP hE ri hll0.1 ht hWq hk ex eA hm1 hm3 he hwe eb ob ps [] m h s Z D nb (rM.ini ri hm1 (by omega)) (LZ.ini (fun j x hx => tg j x hx) hwp hm2) hps (Nat.le_refl _) (by rw [hlen]; simp) (by simp; omega)
  have eR : rs (Pl ts) (knO O) (n + 1) 1 (n3 50 t (.num v) (ls ps) e) s = (n3 50 t (.num v) (ls (rLs (rPat (Pl ts) n (rV s).length) (unl (ls ps)) s).1) (rs (Pl ts) (knO O) n 0 e (rLs (rPat (Pl ts) n (rV s).length) (unl (ls ps)) s).2).1, rBack (rV s).length (rs (Pl ts) (knO O) n 0 e (rLs (rPat (Pl ts) n (rV s).length) (unl (ls ps)) s).2).2) := rfl
  rw [eR, unl_ls]
  exact this
end
