/-! THE COMPONENT'S READER: all of it -/
/-- a text was read -/
def cR (G : Gh) (h : AH) (ts : List (Nat × Nat × Nat)) (r : Except Nat (List Tr × St)) : Outcome → AH → Prop := fun o h' => KP h h' ∧ match r with
  | .ok (l, s') => ∃ a bs n, o = .returned (some (.ref a)) ∧ CS G h' ts 0 s' ∧ RB G h h' ts "LetMill$Dec" l a bs n ∧ un h' ≤ un h + 38 + 200 * s'.1
  | .error k => ∃ a, o = .threw a ∧ FA h' ts a k ∧ un h' ≤ un h + 200 * ts.length + 100
theorem bd_inv {α β : Type} {x : Except Nat (α × St)} {f : α → St → Except Nat (β × St)} {r : β × St} (e : bd x f = .ok r) : ∃ a s, x = .ok (a, s) ∧ f a s = .ok r := by
  cases x with
  | error k => cases e
  | ok y => exact ⟨y.1, y.2, rfl, e⟩
section
variable {K V : Nat → Nat}
theorem tk_round {P : Nat → Nat → St → Except Nat (Tr × St)} {t D : Nat} {s s' : St} {x : Tr} (e : pRound K P t D s = .ok (x, s')) : tk0 x = t := by
  unfold pRound at e
  split at e
  · obtain ⟨a, s1, -, e⟩ := bd_inv e
    cases e; rfl
  · obtain ⟨a, s1, -, e⟩ := bd_inv e
    obtain ⟨b, s2, -, e⟩ := bd_inv e
    obtain ⟨c, s3, -, e⟩ := bd_inv e
    cases e
    cases b with
    | nil => rfl
    | cons b r => rfl
theorem tk_list {P : Nat → Nat → St → Except Nat (Tr × St)} {t D : Nat} {s s' : St} {x : Tr} (e : pList K P t D s = .ok (x, s')) : tk0 x = t := by
  unfold pList at e
  split at e
  · obtain ⟨a, s1, -, e⟩ := bd_inv e
    cases e; rfl
  · obtain ⟨a, s1, -, e⟩ := bd_inv e
    obtain ⟨b, s2, -, e⟩ := bd_inv e
    cases e; rfl
theorem tk_let {P : Nat → Nat → St → Except Nat (Tr × St)} {t D : Nat} {s s' : St} {x : Tr} (e : pLet K P t D s = .ok (x, s')) : tk0 x = t := by
  unfold pLet at e
  obtain ⟨a, s1, -, e⟩ := bd_inv e
  obtain ⟨b, s2, -, e⟩ := bd_inv e
  obtain ⟨c, s3, -, e⟩ := bd_inv e
  obtain ⟨c', s4, -, e⟩ := bd_inv e
  cases e
  cases c with
  | nil => rfl
  | cons b r =>
    cases r with
    | nil => rfl
    | cons b' r => rfl
theorem tk_atom {P : Nat → Nat → St → Except Nat (Tr × St)} {D : Nat} {s s' : St} {x : Tr} (e : pAtom K V P D s = .ok (x, s')) : tk0 x = s.1 := by
  unfold pAtom at e
  split at e
  · cases e
  obtain ⟨t, s1, e1, e⟩ := bd_inv e
  obtain ⟨et, -⟩ := pTake_ok e1
  rw [← et]
  clear et e1
  split at e
  · cases e; rfl
  split at e
  · cases e; rfl
  split at e
  · cases e; rfl
  split at e
  · cases e; rfl
  split at e
  · cases e; rfl
  split at e
  · cases e; rfl
  split at e
  · cases e; rfl
  split at e
  · exact tk_let e
  split at e
  · exact tk_round e
  · exact tk_list e
/-- the token of an expression is where it begins -/
theorem tk_all : ∀ n g D (s : St) x s', (g = 0 ∨ g = 7 ∨ g = 8 ∨ (11 ≤ g ∧ g ≤ 17)) → pAll K V n g D s = .ok (x, s') → tk0 x = s.1 := by
  intro n
  induction n with
  | zero => intro g D s x s' hg e; cases e
  | succ n ih =>
    intro g D s x s' hg e
    rw [pAll] at e
    rcases hg with rfl | rfl | rfl | hg
    · rw [if_pos rfl] at e
      unfold pExp at e
      split at e
      · obtain ⟨t, s1, e1, e⟩ := bd_inv e
        obtain ⟨m, s2, -, e⟩ := bd_inv e
        cases e
        rw [← (pTake_ok e1).1]; rfl
      split at e
      · obtain ⟨t, s1, e1, e⟩ := bd_inv e
        obtain ⟨m, s2, -, e⟩ := bd_inv e
        obtain ⟨m', s3, -, e⟩ := bd_inv e
        obtain ⟨m'', s4, -, e⟩ := bd_inv e
        cases e
        rw [← (pTake_ok e1).1]; rfl
      split at e
      · obtain ⟨t, s1, e1, e⟩ := bd_inv e
        obtain ⟨m, s2, -, e⟩ := bd_inv e
        obtain ⟨m', s3, -, e⟩ := bd_inv e
        obtain ⟨m'', s4, -, e⟩ := bd_inv e
        obtain ⟨m3, s5, -, e⟩ := bd_inv e
        obtain ⟨m4, s6, -, e⟩ := bd_inv e
        cases e
        rw [← (pTake_ok e1).1]; rfl
      · exact ih 11 D s x s' (by omega) e
    · rw [if_neg (by decide), if_neg (by decide), if_neg (by decide), if_neg (by decide), if_neg (by decide), if_neg (by decide), if_neg (by decide), if_pos rfl] at e
      unfold pApp at e
      obtain ⟨y, s1, e1, e⟩ := bd_inv e
      split at e
      · cases e
        exact ih 8 D s _ _ (by omega) e1
      · obtain ⟨m, s2, -, e⟩ := bd_inv e
        cases e; rfl
    · rw [if_neg (by decide), if_neg (by decide), if_neg (by decide), if_neg (by decide), if_neg (by decide), if_neg (by decide), if_neg (by decide), if_neg (by decide), if_pos rfl] at e
      exact tk_atom e
    · rw [if_neg (by omega), if_neg (by omega), if_neg (by omega), if_neg (by omega), if_neg (by omega), if_neg (by omega), if_neg (by omega), if_neg (by omega), if_neg (by omega)] at e
      unfold pLevel at e
      obtain ⟨y, s1, e1, e⟩ := bd_inv e
      split at e
      · cases e
        unfold pSub at e1
        split at e1
        · exact ih 7 D s _ _ (by omega) e1
        · exact ih (11 + (g - 10)) D s _ _ (by omega) e1
      split at e
      · obtain ⟨m, s2, -, e⟩ := bd_inv e
        obtain ⟨m', s3, -, e⟩ := bd_inv e
        cases e; rfl
      · obtain ⟨m, s2, -, e⟩ := bd_inv e
        cases e; rfl
end
section
variable {G : Gh} {d d' : Nat} {h hb h0 h1 h2 h3 h4 h' : AH} {ts : List (Nat × Nat × Nat)} {s s1 s2 s4 : St} {D k i q a b t r n m p f : Nat} {E : String} {μ : Mu} {av : List Value} {x y e p0 : Tr} {l : List Tr} {bs : List Nat} {P : Nat → Nat → St → Except Nat (Tr × St)} {pF : St → Except Nat (Tr × St)}
theorem CH.ct (k : CH G d ts D E μ av pF) (e : d = d') : CH G d' ts D E μ av pF := by subst e; exact k
theorem rk_l : ∀ l, l < 8 → 1 ≤ l → rk (10 + l) = 13 - l := by decide
theorem cexps_ok (hts : TsOK ts) : ∀ n d D, D ≤ 31 → (nd 0 D ≤ n → CH G (d + 4 * n) ts D "LetMill$Exp" mX12_exp [] (pAll (Kd ts) (Vl ts) n 0 D)) ∧
    (∀ l, 1 ≤ l → l ≤ 7 → nd (10 + l) D ≤ n → CH G (d + 4 * n) ts D "LetMill$Exp" mX12_level [.int (nI l)] (pAll (Kd ts) (Vl ts) n (10 + l) D)) ∧
    (nd 7 D ≤ n → CH G (d + 4 * n) ts D "LetMill$Exp" mX12_application [] (pAll (Kd ts) (Vl ts) n 7 D)) ∧
    (nd 8 D ≤ n → CH G (d + 4 * n) ts D "LetMill$Exp" mX12_atom [] (pAll (Kd ts) (Vl ts) n 8 D)) ∧
    (nd 6 D ≤ n → CH G (d + 4 * n) ts D "LetMill$Dec" mX12_dec [] (pAll (Kd ts) (Vl ts) n 6 D)) := by
  intro n
  induction n with
  | zero =>
    intro d D hd
    exact ⟨fun hn => by unfold nd at hn; omega, fun l _ _ hn => by unfold nd at hn; omega, fun hn => by unfold nd at hn; omega, fun hn => by unfold nd at hn; omega, fun hn => by unfold nd at hn; omega⟩
  | succ n ih =>
    intro d D hd
    refine ⟨fun hn => ?_, fun l hl1 hl7 hn => ?_, fun hn => ?_, fun hn => ?_, fun hn => ?_⟩
    · exact (c_cexp (d := d + 4 * n + 2) (P := pAll (Kd ts) (Vl ts) n) (((ih (d + 3) D hd).2.1 1 (by decide) (by decide) (nd_same hn (by decide))).ct (by omega)) (fun h30 => ((ih (d + 3) (D + 1) (by omega)).1 (nd_next hn h30 (by decide))).ct (by omega)) (fun h30 => ((ih (d + 2) (D + 1) (by omega)).1 (nd_next hn h30 (by decide))).ct (by omega)) (fun h30 => ((cpats_ok hts n (d + 2) (D + 1) (by omega)).1 (nd_next hn h30 (by decide))).ct (by omega))).ct (by omega)
    · have e : pAll (Kd ts) (Vl ts) (n + 1) (10 + l) D = pLevel (Kd ts) (pAll (Kd ts) (Vl ts) n) l D := by
        funext s
        rw [pAll, if_neg (by omega), if_neg (by omega), if_neg (by omega), if_neg (by omega), if_neg (by omega), if_neg (by omega), if_neg (by omega), if_neg (by omega), if_neg (by omega), show 10 + l - 10 = l by omega]
      rw [e]
      have hr1 : rk (10 + l) = 13 - l := rk_l l (by omega) hl1
      refine (c_clevel (d := d + 4 * n + 3) (P := pAll (Kd ts) (Vl ts) n) ⟨hl1, hl7⟩ ?_ (fun h5 h30 => ((ih (d + 3) (D + 1) (by omega)).2.1 5 (by decide) (by decide) (nd_next hn h30 (by rw [hr1]; show 8 < _; omega))).ct (by omega))).ct (by omega)
      by_cases h7 : l = 7
      · have e2 : pSub (pAll (Kd ts) (Vl ts) n) l D = pAll (Kd ts) (Vl ts) n 7 D := by
          funext s
          unfold pSub
          rw [if_pos h7]
        rw [e2, h7]
        exact (c_clevel8 (d := d + 4 * n + 2) (P := pAll (Kd ts) (Vl ts) n) (((ih (d + 2) D hd).2.2.1 (nd_same hn (by rw [hr1]; show 5 < _; omega))).ct (by omega))).ct (by omega)
      · have e2 : pSub (pAll (Kd ts) (Vl ts) n) l D = pAll (Kd ts) (Vl ts) n (10 + (l + 1)) D := by
          funext s
          unfold pSub
          rw [if_neg h7, show 11 + l = 10 + (l + 1) by omega]
        have hr2 : rk (10 + (l + 1)) < rk (10 + l) := by
          rw [hr1, rk_l (l + 1) (by omega) (by omega)]
          omega
        rw [e2]
        exact ((ih (d + 3) D hd).2.1 (l + 1) (by omega) (by omega) (nd_same hn hr2)).ct (by omega)
    · exact (c_capp (d := d + 4 * n + 3) (P := pAll (Kd ts) (Vl ts) n) (((ih (d + 3) D hd).2.2.2.1 (nd_same hn (by decide))).ct (by omega))).ct (by omega)
    · have he : ∀ j, D ≤ 30 → CH G (d + j + 4 * n) ts (D + 1) "LetMill$Exp" mX12_exp [] (pAll (Kd ts) (Vl ts) n 0 (D + 1)) := fun j h30 => (ih (d + j) (D + 1) (by omega)).1 (nd_next hn h30 (by decide))
      have hdc : D ≤ 30 → CH G (d + 2 + 4 * n) ts (D + 1) "LetMill$Dec" mX12_dec [] (pAll (Kd ts) (Vl ts) n 6 (D + 1)) := fun h30 => (ih (d + 2) (D + 1) (by omega)).2.2.2.2 (nd_next hn h30 (by decide))
      exact (c_catom (d := d + 4 * n + 2) (P := pAll (Kd ts) (Vl ts) n) (c_cround fun h30 => (he 2 h30).ct (by omega)) (c_clet (fun h30 => (he 2 h30).ct (by omega)) (fun h30 => (hdc h30).ct (by omega)) fun s x s' e => tk_all n 0 (D + 1) s x s' (Or.inl rfl) e) (fun h30 => (he 3 h30).ct (by omega))).ct (by omega)
    · have he : ∀ j, CH G (d + j + 4 * n) ts D "LetMill$Exp" mX12_exp [] (pAll (Kd ts) (Vl ts) n 0 D) := fun j => (ih (d + j) D hd).1 (nd_same hn (by decide))
      have hp := fun j => cpats_ok (G := G) hts n (d + j) D hd
      exact (c_cdec (d := d + 4 * n + 3) (P := pAll (Kd ts) (Vl ts) n) (((hp 3).1 (nd_same hn (by decide))).ct (by omega)) ((he 3).ct (by omega)) ((c_cfun (d := d + 4 * n + 2) (((hp 2).2 (nd_same hn (by decide))).ct (by omega)) ((he 2).ct (by omega))).ct (by omega)) ((c_cdata (d := d + 4 * n + 2) fun h30 => ((ctys_ok (G := G) n (d + 2) (D + 1) (by omega)).1 (nd_next hn h30 (by decide))).ct (by omega)).ct (by omega))).ct (by omega)
theorem cread_23 (hdc : CH G d ts 0 "LetMill$Dec" mX12_dec [] (P 6 0)) (hB : un h + 200 * ts.length + 140 ≤ UB) :
    ∀ f (s : St) l bs n h1 R, ts.length - s.1 < f → RB G h h1 ts "LetMill$Dec" l r bs n → CS G h1 ts 0 s → bs.length ≤ s.1 → un h1 + (12 * bs.length - 6 * n) ≤ un h + 38 + 200 * s.1 →
    R = bd (pWhile (fun s => isDc (Kd ts s.1)) (pDecS (Kd ts) P 0) f s) (fun r s => if Kd ts s.1 ≠ 291 then .error s.1 else .ok (l ++ r, s)) →
    X G mX12_read (d + 17) none [] 23 [(0, .ref (gW G 7)), (1, .ref r)] [] h1 (cR G h ts R) := by
  intro f
  induction f with
  | zero => intro s l bs n h1 R hf; omega
  | succ f IH =>
    intro s l bs n h1 R hf k c hbs hU hR
    have hl := c.len
    have hsl := c.2.2.2.1.2
    have er : ∀ {a e : Nat} {h2 : AH}, KP h h2 → FA h2 ts a e → un h2 ≤ un h + 200 * ts.length + 100 → cR G h ts (.error e) (.threw a) h2 := fun p f u => ⟨p, _, rfl, f, u⟩
    refine bX12_read_23 G (d + 16) h1 _ _ (c.1.at (by decide)) (C.ri (c_isDc (d := d + 15) c) ?_)
    rw [b2_0]
    rw [pWhile_b] at hR
    refine ⟨fun z => ?_, fun z => ?_⟩
    · rw [if_neg (show ¬ (isDc (Kd ts s.1) = true) by rw [z]; decide), List.append_nil] at hR
      refine C.ri (c_kind c) ?_
      rw [show (291 : Int32) = nI 291 from rfl, kd_E c (by decide)]
      refine ⟨fun z2 => ?_, fun z2 => ?_⟩
      · rw [if_neg (by simp [z2])] at hR
        rw [hR]
        exact ⟨k.1, r, bs, n, rfl, c, k, by omega⟩
      · rw [if_pos z2] at hR
        refine C.mono (c_wrong (d := d + 10) c (by omega)) ?_
        rintro _ h3 ⟨a, rfl, p3, f, u⟩
        rw [hR]
        exact KR.i (er (k.1.tr p3) f (by omega))
    · rw [if_pos (show isDc (Kd ts s.1) = true from bt z)] at hR
      rw [show pDecS (Kd ts) P 0 s = bd (P 6 0 s) fun x s => bd (pExpect (Kd ts) 59 0 s) fun _ s => .ok (x, s) from rfl] at hR
      rw [bd_assoc] at hR
      refine C.mono (hdc h1 s c (by omega)) ?_
      rintro o h2 ⟨p2, q2⟩
      have pk2 := (k.1).tr p2
      cases hr2 : P 6 0 s with
      | error e =>
        rw [hr2] at q2 hR
        obtain ⟨a, rfl, f, u⟩ := q2
        change R = .error e at hR
        rw [hR]
        exact KR.t (er pk2 f (by omega))
      | ok y2 =>
      obtain ⟨x2, s2⟩ := y2
      rw [hr2] at q2 hR
      rw [bd_ok] at hR
      obtain ⟨b2, rfl, c2, ot2, ct2, hs2, u2⟩ := q2
      have sl2 := c2.2.2.2.1.2
      refine KR.i ?_
      refine ⟨(k.kp p2).2.1.1, C.mono (r_add (d := d + 14) k p2 c2 ot2 ct2 (by omega) (Nat.le_refl _) (by omega)) ?_⟩
      rintro _ h3 ⟨rfl, c3, n', k3, u3⟩
      refine KV.i ?_
      rw [bd_assoc] at hR
      refine C.mono (c_cexpect (d := d + 8) (w := 59) c3 (by decide) (by omega)) ?_
      rintro o h4 ⟨p4, q4⟩
      have pk4 := (k3.1).tr p4
      cases hr4 : pExpect (Kd ts) 59 0 s2 with
      | error e =>
        rw [hr4] at q4 hR
        obtain ⟨a, rfl, f, u⟩ := q4
        change R = .error e at hR
        rw [hR]
        exact KI.t (er pk4 f (by omega))
      | ok y4 =>
      obtain ⟨x4, s4⟩ := y4
      rw [hr4] at q4 hR
      rw [bd_ok] at hR
      obtain ⟨rfl, c4, u4⟩ := q4
      have sl4 := c4.2.2.2.1.2
      refine KI.i ?_
      obtain ⟨-, es4⟩ := pExpect_ok hr4
      rw [bd_ok] at hR
      refine IH s4 (l ++ [x2]) (bs ++ [b2]) n' h4 R (by omega) (k3.kp p4) c4 (by simp; omega) (by simp; omega) ?_
      rw [hR]
      simp only [List.append_assoc, List.singleton_append]
/-- THE COMPONENT READS what the law of the readers says -/
theorem c_cread {n d k : Nat} (hn : 398 ≤ n) (sA : SoA G h) (hT : Tks G h ts) (hts : TsOK ts) (h0 : 0 < ts.length) (hk : fI h (gW G 7) 118 = nI k) (hk2 : k ≤ 24) (hB : un h + 200 * ts.length + 140 ≤ UB) : C G mX12_read (d + 4 * n + 17) [.ref (gW G 7)] h (cR G h ts (pText (Kd ts) (Vl ts) n (0, 0, k))) := by
  refine bX12_read G (d + 4 * n + 16) h _ (sA.at (by decide)) ?_
  rintro _ rfl _ rfl _ rfl
  have p : KP h (pI (pI (pI h (gW G 7) 115 0) (gW G 7) 116 0) (gW G 7) 117 0) := ((KP.rf.pI (Or.inr (by decide))).pI (Or.inr (by decide))).pI (Or.inr (by decide))
  have c : CS G (pI (pI (pI h (gW G 7) 115 0) (gW G 7) 116 0) (gW G 7) 117 0) ts 0 (0, 0, k) := by
    refine ⟨sA.le p.le, hT.kp (sA.at (by decide)) p, hts, ⟨?_, h0⟩, ⟨?_, by decide⟩, ⟨?_, Nat.zero_le _⟩, ⟨?_, hk2⟩⟩
    · rw [fI_pI, if_neg (fun e => absurd e.2 (by decide)), fI_pI, if_neg (fun e => absurd e.2 (by decide)), fI_pI, if_pos ⟨rfl, rfl⟩]; rfl
    · rw [fI_pI, if_neg (fun e => absurd e.2 (by decide)), fI_pI, if_pos ⟨rfl, rfl⟩]; rfl
    · rw [fI_pI, if_pos ⟨rfl, rfl⟩]; rfl
    · rw [fI_pI, if_neg (fun e => absurd e.2 (by decide)), fI_pI, if_neg (fun e => absurd e.2 (by decide)), fI_pI, if_neg (fun e => absurd e.2 (by decide))]; exact hk
  have u : un (pI (pI (pI h (gW G 7) 115 0) (gW G 7) 116 0) (gW G 7) 117 0) = un h := rfl
  generalize pI (pI (pI h (gW G 7) 115 0) (gW G 7) 116 0) (gW G 7) 117 0 = h1 at *
  have hl := c.len
  have hrm := un_rm (n := 2) (h := h1) (by omega)
  refine ⟨hrm.1, hrm.2, fun r hr => ?_⟩
  rintro _ rfl
  refine C.mono (r_row (d := d + 4 * n + 15) (E := "LetMill$Dec") c p hr (by omega)) ?_
  rintro _ h2 ⟨rfl, k2, c2, u2, p2, -⟩
  refine KV.i (cread_23 (P := pAll (Kd ts) (Vl ts) n) ((cexps_ok hts n d 0 (by decide)).2.2.2.2 (by unfold nd rk; simp; omega)) hB FU (0, 0, k) [] [] 4 h2 _ (by unfold FU; show ts.length - 0 < 5000; omega) k2 c2 (Nat.zero_le _) (by simp; omega) rfl)
end
