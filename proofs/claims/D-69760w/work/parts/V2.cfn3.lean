/-! THE COMPONENT'S TYPER: functions one behind another -/
def fB (l : List Tr) : List Nat := (l.map fun y => bT (ls (fCs y))).flatten
section
variable {G : Gh} {c : Cx} {P : Nat → Prop} {s : Sx} {V : List Nat} {D q r0 l2' n lo hi rc' bE' : Nat} {Q : Outcome → AH → Prop} {fs : List Tr}
theorem fn_len {g : Nat → Tr → Nat → Prop} (hg : ∀ rc y rc', g rc y rc' → ∃ (t : Nat) (v : Tr) (cs : List Tr), y = n2 54 t v (ls cs)) : ∀ (l : List Tr) (rc rc' : Nat), sLn g l rc rc' → l.length ≤ nw (ls l) := by
  intro l
  induction l with
  | nil => intro rc rc' _; exact Nat.zero_le _
  | cons y l ih =>
    rintro rc rc' ⟨r1, h1, h2⟩
    obtain ⟨t, v, cs, rfl⟩ := hg _ _ _ h1
    have h3 := ih _ _ h2
    have h4 : nw (ls (n2 54 t v (ls cs) :: l)) = nw (n2 54 t v (ls cs)) + nw (ls l) := rfl
    rw [h4, nw_54, List.length_cons]
    omega
theorem fns_57 (hC : CtF c.N c.Ct c.Dt) (hE : ExI G c n) (k : XS G c P s) (hhi : hi ≤ c.ts.length) (hWq : c.W q) (hk : hK s.h q = 46) (e48 : fR s.h q 348 = some r0) (rl : RowL c.W s.h r0 fs.length) (tg : TG (XA c.ts c.W c.O c.Z c.D s.h) c.W s.h (rowAt s.h r0) fs) (hTl : ∀ y, y ∈ fs → TR lo hi y) (hV : ∀ t, t ∈ V → ∃ σ, (t, σ) ∈ s.E) (hD : ∀ y, y ∈ fs → fw y + 601 ≤ D + 1) (hnm : ∀ y, y ∈ fs → ∃ v, (tkN y, Int.Internal.Linear.Expr.var v) ∈ s.E ∧ cln s.M s.t v) :
    ∀ (f2 f1 : List Tr) (b : Nat) (s1 : Sx) (L : List Nat) (A : En → Prop), fs = f1 ++ f2 → Rn G c P s (fun t => t ∈ L) s1 [] b (fun γ u => A γ ∧ u = []) → sLn (fun rc f rc' => ∃ (t' : Nat) (v : Tr) (cs : List Tr), f = n2 54 t' v (ls cs) ∧ (1 ≤ cs.length ∧ cs.length ≤ 8) ∧ (∀ c c', c ∈ cs → c' ∈ cs → (clP c).length = (clP c').length) ∧ sLn (fun rc y rc' => sCl c.N c.Ct c.Dt n (fun V rc e rc' => sEx c.ts c.O c.N c.Ct c.Dt n 0 V rc e rc') V rc y rc') cs rc rc') f2 s1.rc rc' → BdX c s (b + 2 * nw (ls f2) - f2.length) → b + 2 * nw (ls f2) - f2.length ≤ bE' → Frs s.h c.Z c.D s.E (L ++ fB f2) →
    (∀ f o h', tFs c.N c.Ct c.Dt n (tW c.N c.Ct c.Dt (Vl c.ts) c.kn n) f2 A = .error f → Ft G c s (fun t => t ∈ L ++ fB f2) bE' f o h' → Q o h') →
    (∀ A' s2, tFs c.N c.Ct c.Dt n (tW c.N c.Ct c.Dt (Vl c.ts) c.kn n) f2 A = .ok A' → Rn G c P s (fun t => t ∈ L ++ fB f2) s2 [] (b + 2 * nw (ls f2) - f2.length) (fun γ u => A' γ ∧ u = []) → s2.ws = wAll s1.ws (f2.map fun f => ((fCs f).map fun k => wW c.Ct c.Dt (Pl c.ts) n 0 (clE k)).flatten ++ ckM c.Ct c.Dt (Pl c.ts) (tkN f) (fCs f)).flatten → s2.rc = rc' → X G mX49_infer (D + 1) none [] 57 [(0, .ref q), (1, .ref (gW G 6)), (2, .int (nI l2')), (3, .int (nI fs.length))] [] s2.h Q) →
    X G mX49_infer (D + 1) none [] 57 [(0, .ref q), (1, .ref (gW G 6)), (2, .int (nI l2')), (3, .int (nI f1.length))] [] s1.h Q := by
  intro f2
  induction f2 with
  | nil =>
    intro f1 b s1 L A he r hs hb hbE hf hft hgo
    rw [List.append_nil] at he
    rw [← he]
    exact hgo A s1 rfl (r.wk (Nat.le_refl _) fun t ht => List.mem_append_left _ ht) rfl hs.symm
  | cons y f2 IH =>
    rintro f1 b s1 L A he r ⟨r1, ⟨t, tv, cs, ey, hl8, hcc, hsc⟩, hs2⟩ hb hbE hf hft hgo
    have hj : fs[f1.length]? = some y := by rw [he, List.getElem?_append_right (Nat.le_refl _), Nat.sub_self]; rfl
    have hy := List.mem_of_getElem? hj
    have ecs : fCs y = cs := by rw [ey]; exact unl_ls cs
    have et : tkN y = t := by rw [ey]; rfl
    have hny : 8 ≤ nw y := by rw [ey, nw_54]; omega
    obtain ⟨v, hv1, hv2⟩ := hnm y hy
    rw [et] at hv1
    obtain ⟨k0, hk0⟩ : ∃ k0, cs[0]? = some k0 := ⟨_, List.getElem?_eq_getElem (by omega)⟩
    have ew : nw (ls (y :: f2)) = nw y + nw (ls f2) := rfl
    have efB : fB (y :: f2) = bT (ls cs) ++ fB f2 := by
      show bT (ls (fCs y)) ++ fB f2 = _
      rw [ecs]
    have hln := fn_len (fun rc y rc' ⟨t, v, cs, e, _⟩ => ⟨t, v, cs, e⟩) f2 _ _ hs2
    rw [ew, List.length_cons] at hb hbE
    rw [efB, ← List.append_assoc] at hf hft hgo
    have lawT : tFs c.N c.Ct c.Dt n (tW c.N c.Ct c.Dt (Vl c.ts) c.kn n) (y :: f2) A = bE (bE (tMt c.N c.Ct c.Dt n (tW c.N c.Ct c.Dt (Vl c.ts) c.kn n) cs A) fun Qm => eqE t (∃ γ ins o, Qm γ ins o ∧ γ t (ins.foldr tFun o)) fun γ => A γ ∧ ∃ ins o, Qm γ ins o ∧ γ t (ins.foldr tFun o)) fun A' => tFs c.N c.Ct c.Dt n (tW c.N c.Ct c.Dt (Vl c.ts) c.kn n) f2 A' := by
      rw [bE_as, ← ecs, ← et]
      rfl
    refine fn_one (i := f1.length) (l2 := l2') hC hE k hhi hWq hk e48 rl tg hj ey (hTl y hy) hl8 (fun y' hy' => hcc y' k0 hy' (List.mem_of_getElem? hk0)) hV (hD y hy) hv1 hv2 r hsc (hb.le (by omega)) hf.l ?_ ?_
    · intro f o h' e z
      exact hft f o h' (by rw [lawT, e, bE_er]) (z.wk (by omega) fun t ht => List.mem_append_left _ ht)
    · intro A' s2 e r2 w2 c2
      have ih := IH (f1 ++ [y]) (b + 2 * nw y - 1) s2 (L ++ bT (ls cs)) A' (by rw [he, List.append_assoc]; rfl) r2 (by rw [c2]; exact hs2) (hb.le (by omega)) (by omega) hf (fun f o h' e2 z => hft f o h' (by rw [lawT, e, bE_ok, e2]) z) (fun A2 s3 e2 r3 w3 c3 => hgo A2 s3 (by rw [lawT, e, bE_ok, e2]) (r3.wk (by rw [ew, List.length_cons]; omega) fun _ h => h) (by
        rw [w3, w2, List.map_cons, List.flatten_cons, wAll_ap, ecs, et, wAll_ap, wAll_ap]) c3)
      rw [List.length_append] at ih
      exact ih
end
