theorem KX.q {Q K : Outcome → AH → Prop} {T : Nat → AH → Prop} {A : AH → Prop} {B : Option Value → AH → Prop} {P : Nat → AH → Prop} {o : Outcome} {h : AH} (k : KX K T o h) (h1 : ∀ o, K o h → KG Q (fun v h => A h → B v h) o h) (h2 : ∀ a h, T a h → A h → P a h) (hA : A h) :
    (∀ v, o = .returned v → B v h) ∧ (∀ a, o = .threw a → P a h) := KX.g h1 h2 k hA
theorem So.leX {i q n : Nat} {w : Nat → Nat} {h h' : AH} (hi : swC.getD i 0 ≠ 0) (s : So i w h) (l : Le h h' (some q)) (hq : hK h q = n) (hn : n ≠ swC.getD i 0) : So i w h' := by
  obtain ⟨a1, a2, a3⟩ := l.2 (w i) (by rw [s.1]; exact hi)
  refine ⟨a1.trans s.1, fun j r hj hf => ?_⟩
  obtain ⟨b1, b2, b3, b4⟩ := s.2 j r hj hf
  obtain ⟨c1, c2, -⟩ := l.2 (w r.2.1) (by rw [b2]; exact b3)
  exact ⟨((a3 (fun e => by cases e; exact hn (hq.symm.trans s.1)) r.1 hf).2.2).trans b1, c1.trans b2, b3, fun h1 => c2.trans (b4 h1)⟩
/-- a call within a try -/
theorem C.kx {G : Gh} {μ ν : Mu} {d pc pc' : Nat} {ex : Option Nat} {Fr : List Nat} {L : List (Nat × Value)} {st : List Value} {h : AH} {Q K : Outcome → AH → Prop} {T : Nat → AH → Prop} {av : List Value} (hf : C G ν d av h (KX K T))
    (h1 : ∀ o h', K o h' → KG Q (fun v h' => Le h h' (exOf ν av) → X G μ (d + 1) ex Fr pc' L (v.toList ++ st) h' Q) o h') (h2 : ∀ a h', T a h' → XT G μ (d + 1) ex Fr pc L a h' Q) :
    C G ν d av h (fun o h' => Le h h' (exOf ν av) → (∀ v, o = .returned v → X G μ (d + 1) ex Fr pc' L (v.toList ++ st) h' Q) ∧ (∀ a, o = .threw a → XT G μ (d + 1) ex Fr pc L a h' Q)) :=
  C.mono hf fun _ h' kx hle => KX.g (A := fun h' => Le h h' (exOf ν av)) (fun o k => h1 o h' k) (fun a h' t _ => h2 a h' t) kx hle
theorem Le.nx {ν : Mu} {h h' : AH} {av : List Value} (hn : (mY ν).name ≠ "<init>") (l : Le h h' (exOf ν av)) : Le h h' none := by
  unfold exOf at l
  rw [if_neg hn] at l
  exact l
