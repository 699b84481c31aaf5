/-! THE LAW OF NAMES: constructors and types in sight; let and its end -/
def CTe (s s' : RSt) : Prop := rC s' = rC s ∧ rT s' = rT s
def CTs (s s' : RSt) : Prop := rC s <:+ rC s' ∧ rT s <:+ rT s'
section
variable {pl : Nat → Nat} {kn : Nat → Bool} {s s1 s2 : RSt}
theorem CTe.rf : CTe s s := ⟨rfl, rfl⟩
theorem CTe.tr (a : CTe s s1) (b : CTe s1 s2) : CTe s s2 := ⟨b.1.trans a.1, b.2.trans a.2⟩
theorem CTs.rf : CTs s s := ⟨List.suffix_refl _, List.suffix_refl _⟩
theorem CTs.tr (a : CTs s s1) (b : CTs s1 s2) : CTs s s2 := ⟨a.1.trans b.1, a.2.trans b.2⟩
theorem CTe.sf (a : CTe s s1) : CTs s s1 := ⟨by rw [a.1]; exact List.suffix_refl _, by rw [a.2]; exact List.suffix_refl _⟩
theorem rLs_ct {f : Tr → RSt → Tr × RSt} (hf : ∀ x s, CTe s (f x s).2) : ∀ l s, CTe s (rLs f l s).2 := by
  intro l
  induction l with
  | nil => intro s; exact CTe.rf
  | cons x l ih => intro s; exact (hf x s).tr (ih _)
theorem rLs_cts {f : Tr → RSt → Tr × RSt} (hf : ∀ x s, CTs s (f x s).2) : ∀ l s, CTs s (rLs f l s).2 := by
  intro l
  induction l with
  | nil => intro s; exact CTs.rf
  | cons x l ih => intro s; exact (hf x s).tr (ih _)
theorem rIf_ct {b : Bool} {n t : Nat} : CTe s (rIf pl b n t s) := by cases b <;> exact CTe.rf
theorem rBind_ct {fr t v : Nat} : CTe s (rBind pl fr t v s) := by
  have := rIf_ct (pl := pl) (s := s) (b := (s.1.take (s.1.length - fr)).any fun p => p.1 == v) (n := 3) (t := t)
  exact this
theorem foldl_ct {α : Type} {f : RSt → α → RSt} (hf : ∀ s a, CTe s (f s a)) : ∀ (l : List α) (s : RSt), CTe s (l.foldl f s) := by
  intro l
  induction l with
  | nil => intro s; exact CTe.rf
  | cons a l ih => intro s; exact (hf s a).tr (ih _)
theorem rPat_ct : ∀ n fr x s, CTe s (rPat pl n fr x s).2 := by
  intro n
  induction n with
  | zero => intro fr x s; exact CTe.rf
  | succ n ih =>
    intro fr x s
    unfold rPat
    split
    · next k t y =>
      split
      · exact rBind_ct
      split
      · split
        · next v sub =>
          have e1 : CTe s (match lk (rC s) (nv v) with | none => rNote pl 2 t.toNat s | some c => rIf pl (cWith s c == isN sub) 4 t.toNat s) := by
            cases lk (rC s) (nv v) with
            | none => exact CTe.rf
            | some c => exact rIf_ct
          dsimp only
          split
          · exact e1
          · exact e1.tr (ih _ _ _)
        · exact CTe.rf
      split
      · exact rLs_ct (fun x s => ih fr x s) _ _
      split
      · split
        · exact (ih _ _ _).tr (ih _ _ _)
        · exact CTe.rf
      split
      · exact ih _ _ _
      · exact CTe.rf
    · exact CTe.rf
theorem rTy_ct : ∀ n vs x s, CTe s (rTy pl n vs x s).2 := by
  intro n
  induction n with
  | zero => intro vs x s; exact CTe.rf
  | succ n ih =>
    intro vs x s
    unfold rTy
    split
    · next k t y =>
      split
      · exact rIf_ct
      split
      · split
        · next v as =>
          dsimp only
          refine CTe.tr ?_ (rLs_ct (fun x s => ih vs x s) _ _)
          cases lk (rT s) (nv v) with
          | none => exact CTe.rf
          | some d => exact rIf_ct
        · exact CTe.rf
      split
      · split
        · exact (ih _ _ _).tr (ih _ _ _)
        · exact CTe.rf
      split
      · exact rLs_ct (fun x s => ih vs x s) _ _
      · exact CTe.rf
    · exact CTe.rf
theorem rD1_ct {t : Nat} : ∀ l old s, CTs s (rD1 pl t old l s) := by
  intro l
  induction l with
  | nil => intro old s; exact CTs.rf
  | cons d l ih =>
    intro old s
    unfold rD1
    refine CTs.tr ?_ (ih _ _)
    have := (rIf_ct (pl := pl) (s := s) (b := old.any (· == nv1 d)) (n := 3) (t := tkN d)).tr (foldl_ct (f := fun s i => rIf pl (((dVs d).take i).any fun v => nv1 v == nv1 ((dVs d).getD i (.num 0))) 3 (tkN ((dVs d).getD i (.num 0))) s) (fun s a => rIf_ct) (List.range (dVs d).length) _)
    refine ⟨this.sf.1, this.sf.2.trans (List.suffix_cons _ _)⟩
theorem rD2c_ct {n : Nat} {vs : List Nat} : ∀ l old s, CTe s (rD2c pl n vs old l s).2 := by
  intro l
  induction l with
  | nil => intro old s; exact CTe.rf
  | cons c l ih =>
    intro old s
    unfold rD2c
    dsimp only
    refine CTe.tr ?_ (ih _ _)
    split
    · exact rIf_ct
    · exact rIf_ct.tr (rTy_ct _ _ _ _)
theorem rD2_ct {n : Nat} : ∀ l old s, CTe s (rD2 pl n old l s).2 := by
  intro l
  induction l with
  | nil => intro old s; exact CTe.rf
  | cons c l ih =>
    intro old s
    unfold rD2
    exact (rD2c_ct _ _ _).tr (ih _ _)
theorem rD3c_ct {d : Nat} : ∀ l i hs s, CTs s (rD3c d i l hs s).2 := by
  intro l
  induction l with
  | nil => intro i hs s; cases hs <;> exact CTs.rf
  | cons c l ih =>
    intro i hs s
    cases hs with
    | nil => exact CTs.rf
    | cons h hs =>
      unfold rD3c
      exact CTs.tr (s1 := (s.1, (nv1 c, (rCt s).length) :: s.2.1, s.2.2.1, rCt s ++ [(nv1 c, d, i, h)], s.2.2.2.2)) ⟨List.suffix_cons _ _, List.suffix_refl _⟩ (ih _ _ _)
theorem rD3_ct : ∀ l d hs s, CTs s (rD3 d l hs s).2 := by
  intro l
  induction l with
  | nil => intro d hs s; cases hs <;> exact CTs.rf
  | cons c l ih =>
    intro d hs s
    cases hs with
    | nil => exact CTs.rf
    | cons h hs => unfold rD3; exact CTs.tr (s1 := dSet d (dCs c).length s) ⟨List.suffix_refl _, List.suffix_refl _⟩ ((rD3c_ct _ _ _ _).tr (ih _ _ _))
/-- an expression leaves constructors and types in sight as they are, a declaration adds to them -/
theorem rs_ct : ∀ n, (∀ x s, CTe s (rs pl kn n 0 x s).2) ∧ (∀ x s, CTe s (rs pl kn n 1 x s).2) ∧ ∀ x s, CTs s (rs pl kn n 2 x s).2 := by
  intro n
  induction n with
  | zero => exact ⟨fun x s => CTe.rf, fun x s => CTe.rf, fun x s => CTs.rf⟩
  | succ n ih =>
    obtain ⟨ih0, ih1, ih2⟩ := ih
    refine ⟨fun x s => ?_, fun x s => ?_, fun x s => ?_⟩
    · cases x with
      | mulL k z =>
        cases z with
        | add u y =>
          cases u with
          | num t =>
            by_cases k1 : k = 1
            · subst k1; exact rIf_ct
            by_cases k2 : k = 2
            · subst k2; exact rIf_ct
            by_cases k8 : k = 8 ∨ k = 9 ∨ k = 10
            · rcases k8 with rfl | rfl | rfl <;> exact rLs_ct ih0 _ _
            by_cases k11 : k = 11
            · subst k11
              cases y with
              | add ds e => exact ⟨rfl, rfl⟩
              | _ => exact CTe.rf
            by_cases k12 : k = 12
            · subst k12; exact rLs_ct ih1 _ _
            by_cases k13 : k = 13
            · subst k13
              cases y with
              | add e m => exact (ih0 _ _).tr (rLs_ct ih1 _ _)
              | _ => exact CTe.rf
            by_cases k14 : k = 14
            · subst k14
              cases y with
              | add a w =>
                cases w with
                | add b c => exact ((ih0 _ _).tr (ih0 _ _)).tr (ih0 _ _)
                | _ => exact CTe.rf
              | _ => exact CTe.rf
            by_cases k15 : k = 15
            · subst k15
              cases y with
              | add f l => exact (ih0 _ _).tr (rLs_ct ih0 _ _)
              | _ => exact CTe.rf
            by_cases k16 : k = 16
            · subst k16
              cases y with
              | add f l =>
                refine (ih0 _ _).tr (rLs_ct (fun o s => ?_) _ _)
                cases o with
                | add g e => exact ih0 _ _
                | _ => exact CTe.rf
              | _ => exact CTe.rf
            by_cases k17 : k = 17 ∨ k = 18
            · cases y with
              | add a b => rcases k17 with rfl | rfl <;> exact (ih0 _ _).tr (ih0 _ _)
              | _ => rcases k17 with rfl | rfl <;> exact CTe.rf
            by_cases k19 : k = 19
            · subst k19; exact ih0 _ _
            unfold rs
            rw [if_neg (by decide), if_neg (by decide)]
            dsimp only
            rw [if_neg k1, if_neg k2, if_neg k8, if_neg k11, if_neg k12, if_neg k13, if_neg k14, if_neg k15, if_neg k16, if_neg k17, if_neg k19]
            exact CTe.rf
          | _ => exact CTe.rf
        | _ => exact CTe.rf
      | _ => exact CTe.rf
    · unfold rs
      rw [if_pos rfl]
      split
      · next k t v ps e =>
        have := (rLs_ct (fun x s => rPat_ct (pl := pl) n (rV s).length x s) (unl ps) s)
        exact CTe.tr (rLs_ct (fun x s' => rPat_ct (pl := pl) n (rV s).length x s') (unl ps) s) (ih0 _ _)
      · exact CTe.rf
    · unfold rs
      rw [if_neg (by decide), if_pos rfl]
      split
      · next k t y =>
        split
        · split
          · exact ((ih0 _ _).tr (rPat_ct _ _ _ _)).sf
          · exact CTs.rf
        split
        · exact ((foldl_ct (fun s a => rBind_ct) _ _).tr (rLs_ct (fun f s => rLs_ct (fun c s => (rIf_ct.tr rIf_ct).tr (ih1 _ _)) _ _) _ _)).sf
        · exact ((rD1_ct _ _ _).tr (rD2_ct _ _ _).sf).tr (rD3_ct _ _ _ _)
      · exact CTs.rf
end
/-- declarations -/
def DR (G : Gh) (W : Nat → Prop) (ts : List (Nat × Nat × Nat)) (O : List (Nat × Nat) × List (Nat × Nat)) (n d : Nat) : Prop := ∀ (x : Tr) (lo hi q : Nat) (h : AH) (s : RSt) (Z : Zt) (D : Dm) (nb : Nat), shE (Vl ts) n 2 x → wf (Kd ts) x lo hi → OTG (X0 ts W h) W h x 0 0 q → rI G W ts O h Z D s nb lo hi →
  ∃ k ν, VT ⟨"LetMill$Dec", "resolve", "(LLetMill$Scope;)V"⟩ VMDec_resolve k ν ∧ hK h q = k + 1 ∧ C G ν (d + 6) [.ref q, .ref (gW G 4)] h (rP G W ts O h Z D nb lo hi (rA ts W O lo hi (rs (Pl ts) (knO O) n 2 x s).1 q) (rs (Pl ts) (knO O) n 2 x s).2)
section
variable {G : Gh} {d : Nat} {W N : Nat → Prop} {h h1 h2 h3 h5 h' : AH} {ts : List (Nat × Nat × Nat)} {t i n nb nb' nb1 nb2 r q g fr ba lo hi m m0 m1 m2 lo1 hi1 b k c arr : Nat} {v : Int} {Z Z' Z1 Z2 : Zt} {D D' D1 D2 : Dm} {O : List (Nat × Nat) × List (Nat × Nat)} {s s0 s' s1 s2 s5 : RSt} {x y e x' a' b' : Tr} {l l1 l2 : List Tr} {f : Nat → Option Nat} {A : Zt → Dm → AH → Prop} {K : Nat → Nat}
/-- a row is cut back -/
theorem RowC.cut {l p : List Nat} (k : RowC h r (l ++ p) n) (u : ∀ a, a ≠ r → Uf h h' a) (e77 : fR h' r 77 = fR h r 77) (e78 : fI h' r 78 = nI l.length) (ek : hK h' r = hK h r) : RowC h' r l n := by
  obtain ⟨k1, k2, k3, k7, k8, arr, k4, k5, k6, k9⟩ := k
  rw [List.length_append] at k3
  have ua := u arr fun e => by rw [e, k1] at k5; cases k5
  refine ⟨ek.trans k1, e78, by omega, k7, k8, arr, e77.trans k4, ua.1.trans k5, ua.2.1.trans k6, fun i x hx => ?_⟩
  obtain ⟨sp, c1, c2, c3⟩ := k9 i x (by rw [List.getElem?_append_left (List.getElem?_eq_some_iff.mp hx).1]; exact hx)
  have us := u sp fun e => by rw [e, k1] at c2; cases c2
  exact ⟨sp, by rw [ua.2.2.2.2.1]; exact c1, us.1.trans c2, by rw [(us.2.2.2.2.2 79).2.2]; exact c3⟩
/-- but for the row r and its array all stays -/
def RwF (h h' : AH) (r : Nat) : Prop := ∀ a, hK h a ≠ 0 → a ≠ r → fR h r 77 ≠ some a → Uf h h' a
theorem RwF.uk {ks l : List Nat} (u : RwF h h' r) (k : RowC h r l n) (hk : ks.contains 0 = false ∧ ks.contains 6 = false ∧ ks.contains 1004 = false) : UK ks h h' := by
  obtain ⟨k1, k2, k3, k7, k8, ar, k4, k5, k6, k9⟩ := k
  obtain ⟨z1, z2, z3⟩ := hk
  intro a ha
  refine u a (fun e => ?_) (fun e => ?_) fun e => ?_
  · rw [e] at ha; simp_all
  · rw [e, k1] at ha; simp_all
  · cases k4.symm.trans e; rw [k5] at ha; simp_all
theorem RowC.oth {l l0 : List Nat} {r' n' : Nat} (k : RowC h r' l n) (k0 : RowC h r l0 n') (u : RwF h h' r) (hr : r' ≠ r) (ha : ∀ a, fR h r' 77 = some a → fR h r 77 ≠ some a) : RowC h' r' l n ∧ fR h' r' 77 = fR h r' 77 ∧ (RowP G W h r' → RowP G W h' r') := by
  obtain ⟨k1, k2, k3, k7, k8, ar, k4, k5, k6, k9⟩ := k
  obtain ⟨q1, q2, q3, q7, q8, aq, q4, q5, q6, q9⟩ := k0
  have ur := u r' (by rw [k1]; decide) hr fun e => by cases q4.symm.trans e; rw [q5] at k1; cases k1
  have ua := u ar (by rw [k5]; decide) (fun e => (by rw [e, q1] at k5; cases k5)) (ha ar k4)
  have us : ∀ sp, hK h sp = 7 → Uf h h' sp := fun sp e7 => u sp (by rw [e7]; decide) (fun e => (by rw [e, q1] at e7; cases e7)) fun e => by cases q4.symm.trans e; rw [q5] at e7; cases e7
  refine ⟨⟨ur.1.trans k1, ((ur.2.2.2.2.2 78).1).trans k2, k3, k7, k8, ar, ((ur.2.2.2.2.2 77).2.2).trans k4, ua.1.trans k5, ua.2.1.trans k6, fun i x hx => ?_⟩, (ur.2.2.2.2.2 77).2.2, fun hp a e => ?_⟩
  · obtain ⟨sp, c1, c2, c3⟩ := k9 i x hx
    exact ⟨sp, by rw [ua.2.2.2.2.1]; exact c1, (us sp c2).1.trans c2, by rw [((us sp c2).2.2.2.2.2 79).2.2]; exact c3⟩
  · rw [(ur.2.2.2.2.2 77).2.2] at e
    obtain ⟨p1, p2, p3⟩ := hp a e
    cases k4.symm.trans e
    refine ⟨⟨p1.1, by rw [ua.2.1]; exact p1.2⟩, p2, fun i sp e => ?_⟩
    rw [ua.2.2.2.2.1] at e
    have := p3 i sp e
    exact (us sp this).1.trans this
/-- one of the scope's rows was written: what stays -/
theorem RS.row {l0 : List Nat} {n' i0 δ : Nat} (k : RS G W h ts Z O s nb) (hi : i0 = 1085 ∨ i0 = 1086 ∨ i0 = 1059) (k0 : RowC h (gW G i0) l0 n') (u : RwF h h' (gW G i0)) (le : Le h h' none) (e77 : ∀ a, fR h' (gW G i0) 77 = some a → fR h (gW G i0) 77 = some a ∨ hK h a = 0) (hp : RowP G W h' (gW G i0)) (hcp : rwc h' (gW G i0) = rwc h (gW G i0) + δ) :
    (TkC G h' ts ∧ NF G h' (rN s) ∧ OU G h' O.1 O.2 ∧ BNs G h' Z.1 (rV s) (nb + δ)) ∧ ((i0 ≠ 1086 → CNs G h' Z.2.1 Z.2.2 (rC s) (rCt s)) ∧ ∀ (c : Nat) (x : Nat × Nat × Nat × Tr), (rCt s)[c]? = some x → CO h' Z.2.2 c (Z.2.1 c) x) ∧ ((i0 ≠ 1085 → ∃ U, rT s = U ++ BT ∧ (∃ n, RowC h' (gW G 1085) ((U.map fun x => Z.2.2 x.2).reverse) n) ∧ ∀ x, x ∈ U → ∃ y, (rDt s)[x.2]? = some y ∧ y.1 = x.1) ∧ (∀ (d : Nat) (x : Nat × Nat × Nat × Nat), (rDt s)[d]? = some x → TO1 h' (Z.2.2 d) d x) ∧ (∀ d, d < (rDt s).length → d < 205 → aR h' (gW G 1040) (d + 7) = some (Z.2.2 d)) ∧ fI h' (gW G 2) 41 = nI (if (rDt s).length < 205 then (rDt s).length + 7 else 212) ∧ (∀ d x, BT[d]? = some x → ∃ n, (rDt s)[d]? = some (x.1, BTa.getD d 0, n)) ∧ TNi Z.2.2 (rDt s)) ∧ (i0 ≠ 1059 → CRs G h' Z.2.1 (rCt s)) ∧ (RowP G W h' (gW G 1085) ∧ RowP G W h' (gW G 1086) ∧ RowP G W h' (gW G 1059) ∧ RowD G h' ∧ JD W h' (rDt s)) ∧ Uf h h' (gW G 4) := by
  obtain ⟨k1, k2, k3, k4, k5, k6, k7, k8, k9, k10, k11, k12⟩ := k
  have s4 := k1.1.at (i := 4) (by decide)
  have hi5 : i0 ∈ SRs := by rcases hi with rfl | rfl | rfl <;> decide
  have tk := tk_kind (k1.1.at (i := 1) (by decide))
  have A4 : ∃ a, fR h (gW G i0) 77 = some a ∧ hK h a = 1004 := by
    obtain ⟨q1, q2, q3, q7, q8, aq, q4, q5, q6, q9⟩ := k0
    exact ⟨aq, q4, q5⟩
  obtain ⟨aq, q4, q5⟩ := A4
  have q1 := k0.1
  have uf : ∀ a, hK h a ≠ 0 → hK h a ≠ 6 → hK h a ≠ 1004 → Uf h h' a := fun a z1 z2 z3 => u a z1 (fun e => z2 (by rw [e]; exact q1)) fun e => z3 (by cases q4.symm.trans e; exact q5)
  have ne : ∀ j, j ∈ SRs → j ≠ i0 → gW G j ≠ gW G i0 := fun j hj hn e => hn (k11.1 j i0 (by unfold SRs at hj; simp only [List.mem_cons, List.not_mem_nil, or_false] at hj; rcases hj with rfl | rfl | rfl | rfl | rfl <;> decide) (by rcases hi with rfl | rfl | rfl <;> decide) e)
  have oth : ∀ j, j ∈ SRs → j ≠ i0 → ∀ (l : List Nat) (n : Nat), RowC h (gW G j) l n → RowC h' (gW G j) l n ∧ fR h' (gW G j) 77 = fR h (gW G j) 77 ∧ (RowP G W h (gW G j) → RowP G W h' (gW G j)) := fun j hj hn l n rc => rc.oth k0 u (ne j hj hn) fun a e e' => hn (k11.2 j i0 a hj hi5 e e')
  have u4 : Uf h h' (gW G 4) := uf _ (by rw [s4.1]; decide) (by rw [s4.1]; decide) (by rw [s4.1]; decide)
  have s2 := k1.1.at (i := 2) (by decide)
  have u2 : Uf h h' (gW G 2) := uf _ (by rw [s2.1]; decide) (by rw [s2.1]; decide) (by rw [s2.1]; decide)
  have u40 : Uf h h' (gW G 1040) := uf _ (by rw [kw1040 s2]; decide) (by rw [kw1040 s2]; decide) (by rw [kw1040 s2]; decide)
  have c54 : ∀ (c : Nat) (x : Nat × Nat × Nat × Tr), (rCt s)[c]? = some x → CO h' Z.2.2 c (Z.2.1 c) x := fun c x hx => by
    obtain ⟨b1, b2, b3, b4, b5, b6⟩ := k5.2.2 c x hx
    obtain ⟨a1, -, -, -, -, a6⟩ := uf (Z.2.1 c) (by rw [b1]; decide) (by rw [b1]; decide) (by rw [b1]; decide)
    exact ⟨a1.trans b1, by rw [(a6 366).2.1, (a6 367).2.1]; exact b2, (a6 368).2.2.trans b3, (a6 369).1.trans b4, (a6 370).1.trans b5, (a6 371).1.trans b6⟩
  obtain ⟨n86, r86⟩ := k5.1
  obtain ⟨⟨U, t1, ⟨n85, r85⟩, t3⟩, t4, t5, t6, t7⟩ := k6
  obtain ⟨n59, r59⟩ := k7
  obtain ⟨⟨n87, r87⟩, ⟨n88, r88⟩, bo⟩ := k3
  have er : rcap G h' = rcap G h + δ := by
    have c1 : 1085 ≠ i0 → rwc h' (gW G 1085) = rwc h (gW G 1085) := fun e => by rw [(oth 1085 (by decide) e _ _ r85).1.cap, r85.cap]
    have c2 : 1086 ≠ i0 → rwc h' (gW G 1086) = rwc h (gW G 1086) := fun e => by rw [(oth 1086 (by decide) e _ _ r86).1.cap, r86.cap]
    have c3 : 1059 ≠ i0 → rwc h' (gW G 1059) = rwc h (gW G 1059) := fun e => by rw [(oth 1059 (by decide) e _ _ r59).1.cap, r59.cap]
    unfold rcap
    rcases hi with rfl | rfl | rfl
    · rw [c2 (by decide), c3 (by decide), hcp]; omega
    · rw [c1 (by decide), c3 (by decide), hcp]; omega
    · rw [c1 (by decide), c2 (by decide), hcp]; omega
  refine ⟨⟨k1.le le fun j hj => (uf _ (tk j hj).1 (tk j hj).2.2.2.2.1 (tk j hj).2.2.2.2.2.1).uk, k2.mv (u4.2.2.2.2.2 91).1 (u4.2.2.2.2.2 92).1, ⟨⟨n87, (oth 1087 (by decide) (by rcases hi with rfl | rfl | rfl <;> decide) _ _ r87).1⟩, ⟨n88, (oth 1088 (by decide) (by rcases hi with rfl | rfl | rfl <;> decide) _ _ r88).1⟩, fun x hx => ?_⟩, k4.mvd er (u.uk k0 (by decide)) (u4.2.2.2.2.2 82).2.2 (u4.2.2.2.2.2 83).1 (u4.2.2.2.2.2 84).1⟩, ⟨fun hn => ⟨⟨n86, (oth 1086 (by decide) (Ne.symm hn) _ _ r86).1⟩, k5.2.1, c54⟩, c54⟩, ⟨fun hn => ⟨U, t1, ⟨n85, (oth 1085 (by decide) (Ne.symm hn) _ _ r85).1⟩, t3⟩, fun d x hx => ?_, fun d hd hd2 => ?_, (u2.2.2.2.2.2 41).1.trans t6, t7⟩, fun hn => ⟨n59, (oth 1059 (by decide) (Ne.symm hn) _ _ r59).1⟩, ⟨?_, ?_, ?_, ⟨k11.1, fun i j a hi1 hj1 e1 e2 => ?_⟩, k12.mv (u.uk k0 (by decide)) fun a ha => (le.2 a ha).1⟩, u4⟩
  · obtain ⟨b1, b2, b3⟩ := bo x hx
    obtain ⟨a1, -, -, -, -, a6⟩ := uf x.2 (by rw [b1]; decide) (by rw [b1]; decide) (by rw [b1]; decide)
    exact ⟨a1.trans b1, by rw [(a6 125).2.1, (a6 126).2.1]; exact b2, (a6 129).1.trans b3⟩
  · obtain ⟨b1, b2, b3, b4, b5, b6⟩ := t4 d x hx
    obtain ⟨a1, -, -, -, -, a6⟩ := uf (Z.2.2 d) (by rw [b1]; decide) (by rw [b1]; decide) (by rw [b1]; decide)
    exact ⟨a1.trans b1, by rw [(a6 49).2.1, (a6 50).2.1]; exact b2, (a6 51).1.trans b3, b4, fun q => (a6 52).1.trans (b5 q), (a6 54).1.trans b6⟩
  · rw [u40.2.2.2.2.1]; exact t5 d hd hd2
  · by_cases e : 1085 = i0
    · rw [e]; exact hp
    · exact (oth 1085 (by decide) e _ _ r85).2.2 k8
  · by_cases e : 1086 = i0
    · rw [e]; exact hp
    · exact (oth 1086 (by decide) e _ _ r86).2.2 k9
  · by_cases e : 1059 = i0
    · rw [e]; exact hp
    · exact (oth 1059 (by decide) e _ _ r59).2.2 k10
  · have al : ∀ j, j ∈ SRs → ∃ (l : List Nat) (n : Nat), RowC h (gW G j) l n := by
      intro j hj
      unfold SRs at hj
      simp only [List.mem_cons, List.not_mem_nil, or_false] at hj
      rcases hj with rfl | rfl | rfl | rfl | rfl
      · exact ⟨_, _, r85⟩
      · exact ⟨_, _, r86⟩
      · exact ⟨_, _, r87⟩
      · exact ⟨_, _, r88⟩
      · exact ⟨_, _, r59⟩
    have old : ∀ j, j ∈ SRs → j ≠ i0 → fR h' (gW G j) 77 = fR h (gW G j) 77 := fun j hj hn => by
      obtain ⟨l, n, rc⟩ := al j hj
      exact (oth j hj hn _ _ rc).2.1
    have liv : ∀ j, j ∈ SRs → ∀ a, fR h (gW G j) 77 = some a → hK h a ≠ 0 := fun j hj a e => by
      obtain ⟨l, n, rc⟩ := al j hj
      obtain ⟨c1, c2, c3, c7, c8, ac, c4, c5, c6, c9⟩ := rc
      cases c4.symm.trans e
      rw [c5]; decide
    by_cases ei : i = i0
    · by_cases ej : j = i0
      · rw [ei, ej]
      · rw [old j hj1 ej] at e2
        rw [ei] at e1
        rcases e77 a e1 with z | z
        · rw [ei]; exact k11.2 i0 j a hi5 hj1 z e2
        · exact absurd z (liv j hj1 a e2)
    · rw [old i hi1 ei] at e1
      by_cases ej : j = i0
      · rw [ej] at e2
        rcases e77 a e2 with z | z
        · rw [ej]; exact k11.2 i i0 a hi1 hi5 e1 z
        · exact absurd z (liv i hi1 a e1)
      · rw [old j hj1 ej] at e2
        exact k11.2 i j a hi1 hj1 e1 e2
end
/-! LET -/
section
variable {G : Gh} {d : Nat} {W N : Nat → Prop} {h h1 h2 h3 h5 h' : AH} {ts : List (Nat × Nat × Nat)} {t i n nb nb' nb1 nb2 r q g fr ba lo hi m m0 m1 m2 lo1 hi1 b k c arr : Nat} {v : Int} {Z Z' Z1 Z2 : Zt} {D D' D1 D2 : Dm} {O : List (Nat × Nat) × List (Nat × Nat)} {s s0 s' s1 s2 s5 : RSt} {x y e x' a' b' : Tr} {l l1 l2 : List Tr} {f : Nat → Option Nat} {A : Zt → Dm → AH → Prop} {K : Nat → Nat}
theorem c_rdec {l : List Nat} (k : RowC h r l n) (hb : l[i]? = some b) (hk : hK h b = 28 ∨ hK h b = 46 ∨ hK h b = 53) : C G mX7_dec (d + 1) [.ref r, .int (nI i)] h (Ret (.ref b) h) := by
  refine bX7_dec G d h _ _ _ ⟨k.1, C.mono (c_get k hb) ?_⟩
  rintro _ _ ⟨rfl, rfl⟩
  refine KR.i ⟨?_, rfl, rfl⟩
  rcases hk with e | e | e
  · exact CT_dec (k := 27) e (by decide)
  · exact CT_dec (k := 45) e (by decide)
  · exact CT_dec (k := 52) e (by decide)
theorem dec_kind (hs : shE (Vl ts) n 2 x) (ot : OTG (X0 ts W h) W h x 0 0 q) : hK h q = 28 ∨ hK h q = 46 ∨ hK h q = 53 := by
  cases n with
  | zero => exact hs.elim
  | succ n =>
    unfold shE at hs
    rw [if_neg (by decide), if_neg (by decide)] at hs
    rcases hs with ⟨t, p, e, rfl, -⟩ | ⟨t, fs, rfl, -⟩ | ⟨t, ds, rfl, -⟩
    · exact Or.inl (by simpa [kc] using ((OTG_nd (k := 51) (y := .add p e) (by decide)).mp ot).2.1)
    · exact Or.inr (Or.inl (by simpa [kc] using ((OTG_nd (k := 52) (by decide)).mp ot).2.1))
    · exact Or.inr (Or.inr (by simpa [kc] using ((OTG_nd (k := 53) (by decide)).mp ot).2.1))
theorem RowP.wq (k : RowP G W h r) (w : WQ r h h') (e77 : fR h' r 77 = fR h r 77) : RowP G W h' r := by
  intro ar e
  rw [e77] at e
  obtain ⟨a1, a2, a3⟩ := k ar e
  refine ⟨⟨a1.1, by rw [w.2.1.2.1]; exact a1.2⟩, a2, fun i sp e => ?_⟩
  rw [w.2.1.1]
  rw [w.2.1.2.2.2.2] at e
  exact a3 i sp e
/-- types out of sight -/
theorem r_cutT {U0 : List (Nat × Nat)} (k : RS G W h ts Z O s nb) (hs : U0 ++ BT <:+ rT s) (e : h' = pI h (gW G 1085) 78 (nI U0.length)) : RS G W h' ts Z O (s.1, s.2.1, U0 ++ BT, s.2.2.2) nb := by
  obtain ⟨⟨U, t1, ⟨n, r85⟩, t3⟩, -⟩ := k.2.2.2.2.2.1
  have w : WQ (gW G 1085) h h' := by rw [e]; exact WQ.rf.pI
  have le : Le h h' none := by rw [e]; exact pI_le (Or.inl (by decide))
  have e77 : fR h' (gW G 1085) 77 = fR h (gW G 1085) 77 := by rw [e, fR_pI]
  have e78 : fI h' (gW G 1085) 78 = nI U0.length := by rw [e, fI_pI, if_pos ⟨rfl, rfl⟩]
  obtain ⟨p, hp⟩ := hs
  have eU : U = p ++ U0 := by rw [t1, ← List.append_assoc] at hp; exact (List.append_cancel_right hp).symm
  obtain ⟨p1, p2, p3, p4, p5, -⟩ := k.row (i0 := 1085) (Or.inl rfl) r85 (fun a _ hn _ => w.uf hn) le (fun a e => Or.inl (by rw [← e77]; exact e)) (k.2.2.2.2.2.2.2.1.wq w e77) (δ := 0) (by unfold rwc; rw [e77, w.2.1.2.1]; rfl)
  rw [eU, List.map_append, List.reverse_append] at r85
  refine ⟨p1.1, p1.2.1, p1.2.2.1, p1.2.2.2, p2.1 (by decide), ⟨⟨U0, rfl, ⟨n, r85.cut (fun a hn => w.uf hn) e77 (by rw [e78]; simp) (by rw [w.2.1.1])⟩, fun x hx => t3 x (by rw [eU]; exact List.mem_append_right _ hx)⟩, p3.2⟩, p4 (by decide), p5⟩
/-- constructors out of sight -/
theorem r_cutC {U0 : List (Nat × Nat)} (k : RS G W h ts Z O s nb) (hs : U0 <:+ rC s) (e : h' = pI h (gW G 1086) 78 (nI U0.length)) : RS G W h' ts Z O (s.1, U0, s.2.2) nb := by
  obtain ⟨n, r86⟩ := k.2.2.2.2.1.1
  have t3 := k.2.2.2.2.1.2.1
  have w : WQ (gW G 1086) h h' := by rw [e]; exact WQ.rf.pI
  have le : Le h h' none := by rw [e]; exact pI_le (Or.inl (by decide))
  have e77 : fR h' (gW G 1086) 77 = fR h (gW G 1086) 77 := by rw [e, fR_pI]
  have e78 : fI h' (gW G 1086) 78 = nI U0.length := by rw [e, fI_pI, if_pos ⟨rfl, rfl⟩]
  obtain ⟨p, hp⟩ := hs
  obtain ⟨p1, p2, p3, p4, p5, -⟩ := k.row (i0 := 1086) (Or.inr (Or.inl rfl)) r86 (fun a _ hn _ => w.uf hn) le (fun a e => Or.inl (by rw [← e77]; exact e)) (k.2.2.2.2.2.2.2.2.1.wq w e77) (δ := 0) (by unfold rwc; rw [e77, w.2.1.2.1]; rfl)
  rw [← hp, List.map_append, List.reverse_append] at r86
  exact ⟨p1.1, p1.2.1, p1.2.2.1, p1.2.2.2, ⟨⟨n, r86.cut (fun a hn => w.uf hn) e77 (by rw [e78]; simp) (by rw [w.2.1.1])⟩, fun x hx => t3 x (by rw [← hp]; exact List.mem_append_right _ hx), p2.2⟩, ⟨p3.1 (by decide), p3.2⟩, p4 (by decide), p5⟩
theorem r_backT {U0 C0 : List (Nat × Nat)} (k : RS G W h ts Z O s nb) (hT : U0 ++ BT <:+ rT s) (hC : C0 <:+ rC s) : C G mX9_backTypes d [.ref (gW G 4), .int (nI U0.length), .int (nI C0.length)] h (fun o h' => o = .returned none ∧ (∀ a, a ≠ gW G 1085 → a ≠ gW G 1086 → Uf h h' a) ∧ Le h h' none ∧ un h' = un h ∧ RS G W h' ts Z O (s.1, C0, U0 ++ BT, s.2.2.2) nb) := by
  refine bX9_backTypes G d h _ _ _ (k.1.1.at (by decide)) ?_
  intro h1 e1 h2 e2
  have w1 : WQ (gW G 1085) h h1 := by rw [e1]; exact WQ.rf.pI
  have w2 : WQ (gW G 1086) h1 h2 := by rw [e2]; exact WQ.rf.pI
  have l1 : Le h h1 none := by rw [e1]; exact pI_le (Or.inl (by decide))
  have l2 : Le h1 h2 none := by rw [e2]; exact pI_le (Or.inl (by decide))
  exact ⟨rfl, fun a h1 h2 => (w1.uf h1).tr (w2.uf h2), l1.tr l2, by rw [w2.un, w1.un], r_cutC (s := (s.1, s.2.1, U0 ++ BT, s.2.2.2)) (r_cutT k hT e1) hC e2⟩
theorem row17 {N0 : Nat} (hC : DR G W ts O n d) {x2 x3 x4 : Int32} (ri : rI G W ts O h Z D s nb lo hi) (hWq : W q) (hk : hK h q = 17) (eF0 : fR h q 298 = some r) (rl : RowL W h r N0) {Q : Outcome → AH → Prop} {F : List Tr} {sF : RSt}
    (hQ : ∀ m h1 Z1 D1 nb1, rM G W ts O h Z D nb lo hi h1 Z1 D1 sF nb1 m → LZ ts W O (rowAt h r) F [] m0 m hi Z1 D1 h1 → OC (fR h1 q 299) (Q (.returned none) h1) (fun _ => OC (fR h1 q 299) (False) (fun b8 => ∃ (k : Nat) (ν : Mu), VT ⟨"LetMill$Exp", "resolve", "(LLetMill$Scope;)V"⟩ VMExp_resolve k ν ∧ hK h1 b8 = k + 1 ∧ C G ν (d + 6) [.ref (b8), .ref (gW G 4)] h1 (KV Q (fun h10 => C G mX9_back (d + 6) [.ref (gW G 4), .int (x2)] h10 (KV Q (fun h12 => C G mX9_backTypes (d + 6) [.ref (gW G 4), .int (x3), .int (x4)] h12 (KV Q (fun h14 => Q (.returned none) h14))))))))) :
    ∀ l2 l1 m h1 s1 Z1 D1 nb1, rM G W ts O h Z D nb lo hi h1 Z1 D1 s1 nb1 m → LZ ts W O (rowAt h r) l1 l2 m0 m hi Z1 D1 h1 → (∀ y, y ∈ l2 → shE (Vl ts) n 2 y) → N0 = l1.length + l2.length → F = l1 ++ (rLs (rs (Pl ts) (knO O) n 2) l2 s1).1 → sF = (rLs (rs (Pl ts) (knO O) n 2) l2 s1).2 →
    X G mX17_resolve (d + 7) none [] 19 [(0, .ref q), (1, .ref (gW G 4)), (2, .int x2), (3, .int x3), (4, .int x4), (5, .int (nI l1.length))] [] h1 Q := by
  intro l2
  induction l2 with
  | nil =>
    intro l1 m h1 s1 Z1 D1 nb1 M L hs hlen eF eS
    have u1 := (M.2.2.2.1.2 q hWq).1
    obtain ⟨rl1, ra1, -⟩ := rl.mvs (N' := W) (h' := h1) fun a ha _ => ⟨(M.2.2.2.1.2 a ha).1, ha⟩
    obtain ⟨z1, z2, z3, z4⟩ := row_sz rl1
    refine bX17_resolve_19 G (d + 6) h1 _ _ _ _ _ _ (M.1.1.1.at (by decide)) ⟨u1.1.trans hk, r, ((u1.2.2.2.2.2 298 (by decide)).2.2).trans eF0, z1, ?_⟩
    rw [z2, nI_leI (by omega) (by simp at hlen; omega)]
    refine ⟨fun _ => ?_, fun z => absurd (by simp at hlen; omega) z⟩
    change F = l1 ++ [] at eF
    change sF = s1 at eS
    rw [List.append_nil] at eF
    subst eF eS
    exact hQ m h1 Z1 D1 nb1 M L
  | cons y2 l2 IH =>
    intro l1 m h1 s1 Z1 D1 nb1 M L hs hlen eF eS
    have u1 := (M.2.2.2.1.2 q hWq).1
    obtain ⟨rl1, ra1, -⟩ := rl.mvs (N' := W) (h' := h1) fun a ha _ => ⟨(M.2.2.2.1.2 a ha).1, ha⟩
    obtain ⟨z1, z2, z3, z4⟩ := row_sz rl1
    simp only [List.length_cons] at hlen
    obtain ⟨m2, b, hm, hm2, hw2, fb, ob, nxt⟩ := L.nxt
    obtain ⟨rl0, rn, rc, -, rb⟩ := row_get (i := l1.length) rl1 (by rw [ra1]; exact fb) (by omega)
    have hs2 := hs y2 (List.mem_cons_self ..)
    refine bX17_resolve_19 G (d + 6) h1 _ _ _ _ _ _ (M.1.1.1.at (by decide)) ⟨u1.1.trans hk, r, ((u1.2.2.2.2.2 298 (by decide)).2.2).trans eF0, z1, ?_⟩
    rw [z2, nI_leI (by omega) (by omega)]
    refine ⟨fun z => by omega, fun _ => ⟨r, ((u1.2.2.2.2.2 298 (by decide)).2.2).trans eF0, z1, C.rr (c_rdec (d := d + 5) rc rb (dec_kind hs2 ob)) ?_⟩⟩
    obtain ⟨kc1, ν1, v1, v2, v3⟩ := hC y2 m m2 b h1 s1 Z1 D1 nb1 hs2 hw2 ob (M.ri ri hm hm2)
    refine ⟨kc1, ν1, v1, v2, C.mono v3 ?_⟩
    rintro _ h2 ⟨rfl, Z2, D2, nb2, a1, a2, a3, ⟨a4, a4'⟩, a5, a6, a7, a8, a9, a10, a11⟩
    have M2 := M.stp hm hm2 a1 a2 a3 a5 a6 a7 a8 a9 a10 a11
    have L2 := nxt h2 Z2 D2 _ M.2.1.1 a5 a6 a4 a4'
    refine KV.i ?_
    rintro _ rfl
    rw [nI_1]
    have := IH (l1 ++ [(rs (Pl ts) (knO O) n 2 y2 s1).1]) m2 h2 (rs (Pl ts) (knO O) n 2 y2 s1).2 Z2 D2 nb2 M2 L2 (fun y hy => hs y (List.mem_cons_of_mem _ hy)) (by rw [List.length_append, List.length_singleton]; omega) (by rw [eF, List.append_assoc, List.singleton_append]; rfl) eS
    rw [List.length_append, List.length_singleton] at this
    exact this
theorem exp_let {ds : List Tr} (hE : ER G W ts O n d) (hDr : DR G W ts O n d) (hw : wf (Kd ts) (n2 11 t (ls ds) e) lo hi) (he : shE (Vl ts) n 0 e) (hl : ∀ y, y ∈ ds → shE (Vl ts) n 2 y) (ot : OTG (X0 ts W h) W h (n2 11 t (ls ds) e) 0 0 q) (ri : rI G W ts O h Z D s nb lo hi) : C G mX17_resolve (d + 7) [.ref q, .ref (gW G 4)] h (rP G W ts O h Z D nb lo hi (rA ts W O lo hi (rs (Pl ts) (knO O) (n + 1) 0 (n2 11 t (ls ds) e) s).1 q) (rs (Pl ts) (knO O) (n + 1) 0 (n2 11 t (ls ds) e) s).2) ∧ hK h q = 17 := by
  obtain ⟨ht, -, m0, hm1, hm2, hw0⟩ := wf_nd (k := 11) (y := .add (ls ds) e) (by decide) hw
  unfold wf at hw0
  obtain ⟨mE, hm3, hm4, hwa, hwb⟩ := hw0
  obtain ⟨hWq, hkq, ⟨ex, -⟩, oy⟩ := (OTG_nd (k := 11) (by decide)).mp ot
  have hk : hK h q = 17 := by simpa [kc] using hkq
  rw [OTG_c2 (by decide) (by decide)] at oy
  obtain ⟨r, e0, rl, tg⟩ := OTG_row.mp oy.1
  obtain ⟨b1, e1, o1⟩ := OTG_f.mp ((OTG_ef (m' := 1) (i' := 299) (by decide) (by decide)).mp oy.2)
  have eR : rs (Pl ts) (knO O) (n + 1) 0 (n2 11 t (ls ds) e) s = (n2 11 t (ls (rLs (rs (Pl ts) (knO O) n 2) ds s).1) (rs (Pl ts) (knO O) n 0 e (rLs (rs (Pl ts) (knO O) n 2) ds s).2).1, ((rBack (rV s).length (rs (Pl ts) (knO O) n 0 e (rLs (rs (Pl ts) (knO O) n 2) ds s).2).2).1, s.2.1, s.2.2.1, (rs (Pl ts) (knO O) n 0 e (rLs (rs (Pl ts) (knO O) n 2) ds s).2).2.2.2.2)) := by
    have e0 : rs (Pl ts) (knO O) (n + 1) 0 (n2 11 t (ls ds) e) s = (n2 11 t (ls (rLs (rs (Pl ts) (knO O) n 2) (unl (ls ds)) s).1) (rs (Pl ts) (knO O) n 0 e (rLs (rs (Pl ts) (knO O) n 2) (unl (ls ds)) s).2).1, ((rBack (rV s).length (rs (Pl ts) (knO O) n 0 e (rLs (rs (Pl ts) (knO O) n 2) (unl (ls ds)) s).2).2).1, s.2.1, s.2.2.1, (rs (Pl ts) (knO O) n 0 e (rLs (rs (Pl ts) (knO O) n 2) (unl (ls ds)) s).2).2.2.2.2)) := rfl
    rw [e0, unl_ls]
  rw [eR]
  have hct := (rLs_cts (rs_ct (pl := Pl ts) (kn := knO O) n).2.2 ds s).tr ((rs_ct (pl := Pl ts) (kn := knO O) n).1 e (rLs (rs (Pl ts) (knO O) n 2) ds s).2).sf
  have hV : (rV s).length ≤ (rV (rs (Pl ts) (knO O) n 0 e (rLs (rs (Pl ts) (knO O) n 2) ds s).2).2).length := by
    rw [(rs_V n).1]
    exact (rLs_sfx (rs_V (pl := Pl ts) (kn := knO O) n).2.2 ds s).length_le
  have hBV : rV (rBack (rV s).length (rs (Pl ts) (knO O) n 0 e (rLs (rs (Pl ts) (knO O) n 2) ds s).2).2) = rV s := by
    refine back_V ?_
    rw [(rs_V n).1]
    exact rLs_sfx (rs_V (pl := Pl ts) (kn := knO O) n).2.2 ds s
  generalize hsE : rs (Pl ts) (knO O) n 0 e (rLs (rs (Pl ts) (knO O) n 2) ds s).2 = rE at *
  obtain ⟨ba, b1', b2', b3, b5, b6, b7, b8, b9, b10, b11⟩ := ri.1.2.2.2.1
  obtain ⟨⟨U, t1, ⟨n85, r85⟩, t3⟩, -⟩ := ri.1.2.2.2.2.2.1
  obtain ⟨n86, r86⟩ := ri.1.2.2.2.2.1.1
  refine ⟨bX17_resolve G (d + 6) h _ _ (ri.1.1.1.at (by decide)) ?_, hk⟩
  rintro _ rfl
  refine bX9_namesMany G (d + 6) h _ (ri.1.1.1.at (by decide)) (KI.i ?_)
  refine bX9_consMany G (d + 6) h _ (ri.1.1.1.at (by decide)) (KI.i ?_)
  rw [b9, r85.2.1, r86.2.1]
  have ri1 := ri.nar hm1 hm3 hm4
  refine row17 (m0 := m0) hDr ri1 hWq hk e0 rl (fun m h1 Z1 D1 nb1 M L => ?_) ds [] m0 h s Z D nb (rM.ini ri1 (Nat.le_refl _) hm3) (LZ.ini (fun j x hx => tg j x hx) hwa hm3) hl (by simp) rfl rfl
  have u1 := (M.2.2.2.1.2 q hWq).1
  have hb1 := ((u1.2.2.2.2.2 299 (by decide)).2.2).trans e1
  obtain ⟨tgF, trF⟩ := L.fin
  have hmm : m ≤ mE := L.2.2.2.2
  obtain ⟨c1, c2, c3, c4, c5, c6, c7, c8, c9, c10, c11, c12⟩ := M
  have M1 := (rM.ini ri hm1 hm2).stp hm3 hm4 c1 c2 c3 c4 c5 (fun t ht => (c6 t ht).imp_right fun z => ⟨z.1, by omega⟩) (by omega) c8 (by omega) c10
  have o1' := o1.k0 c4 ri.2.1.1 (wf.tr _ _ _ hwb)
  obtain ⟨kc1, ν1, v1, v2, v3⟩ := hE e mE hi b1 h1 _ Z1 D1 nb1 he hwb o1' (M1.ri ri hm4 (Nat.le_refl _))
  refine ⟨fun z => (by rw [hb1] at z; cases z), fun b z => ?_⟩
  cases hb1.symm.trans z
  refine ⟨fun z => (by rw [hb1] at z; cases z), fun b z => ?_⟩
  cases hb1.symm.trans z
  refine ⟨kc1, ν1, v1, v2, C.mono v3 ?_⟩
  rintro _ h2 ⟨rfl, Z2, D2, nb2, a1, a2, a3, ⟨a4, a4'⟩, a5, a6, a7, a8, a9, a10, a11⟩
  have M2 := M1.stp hm4 (Nat.le_refl _) a1 a2 a3 a5 a6 a7 a8 a9 a10 a11
  rw [hsE] at a1 a3 a4 a4' a8 M2
  refine KV.i (C.mono (r_back a1 hV) ?_)
  rintro _ h3 ⟨rfl, w3, r3⟩
  refine KV.i ?_
  have r4 := r_backT (d := d + 6) (U0 := U) (C0 := rC s) r3 (by rw [← t1]; exact hct.2) hct.1
  simp only [List.length_reverse, List.length_map]
  refine C.mono r4 ?_
  rintro _ h4 ⟨rfl, u4, le4, un4, r4⟩
  rw [← t1] at r4
  have wb3 := w3.wb a2 (by decide)
  have uW : ∀ a, W a → Uf h2 h4 a := fun a ha => (w3.1.uf fun e => a2.2.1 (by rw [← e]; exact ha)).tr (u4 a ((wb3.2.2.2 a ha).2 1085 (by decide)) ((wb3.2.2.2 a ha).2 1086 (by decide)))
  have le24 : Le h2 h4 none := (w3.le (by decide)).tr le4
  have w00 : KW W 0 0 h2 h4 := KW.of le24.1 uW
  have wHH : KW W hi hi h2 h4 := KW.of le24.1 uW
  have h4ne : gW G 4 ≠ gW G 1085 ∧ gW G 4 ≠ gW G 1086 := by
    have e8 := (a1.1.1.at (i := 4) (by decide)).1
    constructor <;> intro e
    · rw [e, kw1085 (a1.1.1.at (by decide))] at e8; cases e8
    · rw [e, kw1086 (a1.1.1.at (by decide))] at e8; cases e8
  have wb4 : WB G W h4 := wb3.mv r3.1 (fun a ha => (u4 a ((wb3.2.2.2 a ha).2 1085 (by decide)) ((wb3.2.2.2 a ha).2 1086 (by decide))).us) ((u4 _ h4ne.1 h4ne.2).2.2.2.2.2 82).2.2
  have M3 := M2.stp (s2 := ((rBack (rV s).length rE.2).1, s.2.1, s.2.2.1, rE.2.2.2.2)) (Nat.le_refl _) (Nat.le_refl _) r4 wb4 ⟨fun x hx => ?_, a3.2.1, a3.2.2.1, a3.2.2.2.mv (fun _ h => h) ⟨rfl, rfl⟩ ⟨hct.1.length_le, hct.2.length_le⟩⟩ wHH Ext.rf (fun t ht => Or.inl ht) ?_ a9 (by unfold pU; rw [un4, w3.1.un]; omega) le24
  · have uq := (M3.2.2.2.1.2 q hWq).1
    obtain ⟨rl1, ra1, -⟩ := rl.mvs (N' := W) (h' := h4) fun a ha _ => ⟨(M3.2.2.2.1.2 a ha).1, ha⟩
    have trL := TR.ls_at trF
    refine KV.i (M3.fin ⟨TR_nd (y := .add _ _) ht.1 ht.2 ⟨TR.mono _ _ _ _ _ trF hm1 hm4, TR.mono _ _ _ _ _ a4 (by omega) (Nat.le_refl _)⟩, ?_⟩)
    refine (OTG_nd (k := 11) (by decide)).mpr ⟨hWq, by rw [uq.1]; exact hkq, ⟨(ex.mv (fun a ha _ => (M3.2.2.2.1.2 a ha).1) uq).ch (by decide), ANN_no (by decide)⟩, (OTG_c2 (by decide) (by decide)).mpr ⟨OTG_row.mpr ⟨r, ((uq.2.2.2.2.2 298 (by decide)).2.2).trans e0, (rLs_ln (F := rs (Pl ts) (knO O) n 2) ds s) ▸ rl1, ?_⟩, (OTG_ef (m' := 1) (i' := 299) (by decide) (by decide)).mpr (OTG_f.mpr ⟨b1, ((uq.2.2.2.2.2 299 (by decide)).2.2).trans e1, a4'.k1 w00 Ext.rf (Or.inr (Nat.zero_le _)) a4⟩)⟩⟩
    rw [funext ra1]
    intro j y hy
    obtain ⟨b, z1, z2⟩ := tgF j y hy
    exact ⟨b, z1, (z2.k1 a5 a6 (Or.inl (Nat.le_refl _)) (trL y (List.mem_of_getElem? hy))).k1 w00 Ext.rf (Or.inr (Nat.zero_le _)) (trL y (List.mem_of_getElem? hy))⟩
  · change x ∈ rV (rBack (rV s).length rE.2) at hx
    rw [hBV] at hx
    exact ((c5.tr a6).1 x.2 (ri.2.2.1.1 x hx)).1
  · exact ri.2.2.2.2.1.of hBV
end
