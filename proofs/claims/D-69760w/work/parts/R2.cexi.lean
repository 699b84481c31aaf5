/-! THE COMPONENT'S TYPER: forms of expressions, the form of their contracts -/
/-- all names that a tree binds, by their tokens -/
def bT : Tr → List Nat
  | .mulL k x => (if k = 32 ∨ k = 54 then [(tkn x).toNat] else []) ++ bT x
  | .add a b => bT a ++ bT b
  | _ => []
/-- numbers of patterns are in their ranges -/
def sVal : Tr → Prop
  | .mulL k x => (k = 34 → ∀ (t v : Int), x = .add (.num t) (.num v) → -2147483648 ≤ v ∧ v < 2147483648) ∧ (k = 35 → ∀ (t v : Int), x = .add (.num t) (.num v) → 0 ≤ v ∧ v < 2) ∧ sVal x
  | .add a b => sVal a ∧ sVal b
  | _ => True
/-- how deep the frames go -/
def fw : Tr → Nat
  | .mulL k x => fw x + (if k = 12 ∨ k = 13 then 2 else 1)
  | .add a b => max (fw a) (fw b)
  | _ => 0
def sLn (f : Nat → Tr → Nat → Prop) : List Tr → Nat → Nat → Prop
  | [], rc, rc' => rc' = rc
  | x :: l, rc, rc' => ∃ r1, f rc x r1 ∧ sLn f l r1 rc'
/-- types that are resolved: names at most mx, variables below ar -/
def sTp (Dt : Dtb) (mx ar : Nat) : Nat → Tr → Prop
  | 0, _ => False
  | n + 1, x => (∃ (t i : Nat), x = n1 57 t (.num i) ∧ i < ar) ∨ (∃ (t d : Nat) (l : List Tr) (y : Nat × Nat × Nat × Nat), x = n2 58 t (.num d) (ls l) ∧ d ≤ mx ∧ Dt[d]? = some y ∧ y.2.1 = l.length ∧ ∀ z, z ∈ l → sTp Dt mx ar n z) ∨
    (∃ (t : Nat) (a b : Tr), x = n2 59 t a b ∧ sTp Dt mx ar n a ∧ sTp Dt mx ar n b) ∨ ∃ (t : Nat) (l : List Tr), x = n1 60 t (ls l) ∧ (2 ≤ l.length ∧ l.length ≤ 6) ∧ ∀ z, z ∈ l → sTp Dt mx ar n z
/-- datatypes: their constructors are the next ones -/
def sDs (N : Nat) (Ct : Ctb) (Dt : Dtb) (ds : List Tr) (rc rc' : Nat) : Prop := ∃ mx, (∀ d, d ∈ ds → nv1 d ≤ mx) ∧ (∃ d, d ∈ ds ∧ nv1 d = mx) ∧ sLn (fun rc d rc' => ∃ (t id : Nat) (vs cs : List Tr) (y : Nat × Nat × Nat × Nat), d = n3 55 t (.num id) (ls vs) (ls cs) ∧ Dt[id]? = some y ∧ y.2.1 = vs.length ∧ vs.length ≤ 6 ∧
    sLn (fun rc k rc' => ∃ (t' : Nat) (has : Tr) (x : Nat × Nat × Nat × Tr), k = n2 56 t' (.num rc) has ∧ rc' = rc + 1 ∧ Ct[rc]? = some x ∧ x.2.1 = id ∧ x.2.2.2 = has ∧ (has = .num 0 ∨ sTp Dt mx vs.length N has)) cs rc rc') ds rc rc'
/-- the names that a declaration brings -/
def dNm : Tr → List Nat
  | .mulL k (.add _ y) => if k = 51 then (match y with
      | .add p _ => pNm 30 p
      | _ => []) else if k = 52 then (unl y).map tkN else []
  | _ => []
def sDc (f : List Nat → Nat → Tr → Nat → Prop) : List Tr → List Nat → Nat → List Nat → Nat → Prop
  | [], V, rc, V', rc' => V' = V ∧ rc' = rc
  | d :: ds, V, rc, V', rc' => ∃ r1, f V rc d r1 ∧ sDc f ds (V ++ dNm d) r1 V' rc'
section
variable (ts : List (Nat × Nat × Nat)) (O : List (Nat × Nat) × List (Nat × Nat)) (N : Nat) (Ct : Ctb) (Dt : Dtb)
/-- a clause; n is the fuel of its patterns' law -/
def sCl (n : Nat) (f : List Nat → Nat → Tr → Nat → Prop) (V : List Nat) (rc : Nat) (x : Tr) (rc' : Nat) : Prop := ∃ (t : Nat) (v : Int) (ps : List Tr) (e : Tr), x = n3 50 t (.num v) (ls ps) e ∧ 1 ≤ ps.length ∧ 30 ≤ n ∧ (∀ p, p ∈ ps → sPt N Ct rc 30 p) ∧ (ps.map (shp Ct Dt 30)).length + pqs (ps.map (shp Ct Dt 30)) ≤ 24 ∧ (∀ p, p ∈ ps → sVal p) ∧ f (V ++ (ps.map (pNm 30)).flatten) rc e rc'
/-- resolved trees: 0 expressions, 2 declarations; V the names in sight, rc and rc' the constructors that are known before and behind -/
def sEx : Nat → Nat → List Nat → Nat → Tr → Nat → Prop
  | 0, _, _, _, _, _ => False
  | n + 1, g, V, rc, x, rc' =>
    if g = 2 then
      (∃ (t : Nat) (p e : Tr), x = n2 51 t p e ∧ sEx n 0 V rc e rc' ∧ 30 ≤ n ∧ sVal p ∧ sPt N Ct rc' 30 p ∧ 1 + pq (shp Ct Dt 30 p) ≤ 24) ∨
      (∃ (t : Nat) (fs : List Tr), x = n1 52 t (ls fs) ∧ 1 ≤ fs.length ∧ sLn (fun rc f rc' => ∃ (t' : Nat) (v : Tr) (cs : List Tr), f = n2 54 t' v (ls cs) ∧ (1 ≤ cs.length ∧ cs.length ≤ 8) ∧ (∀ c c', c ∈ cs → c' ∈ cs → (clP c).length = (clP c').length) ∧ sLn (fun rc c rc' => sCl N Ct Dt n (fun V rc e rc' => sEx n 0 V rc e rc') (V ++ fs.map tkN) rc c rc') cs rc rc') fs rc rc') ∨
      ∃ (t : Nat) (ds : List Tr), x = n1 53 t (ls ds) ∧ sDs N Ct Dt ds rc rc'
    else
      (∃ (t : Nat) (rf up : Int), x = n2 1 t (.num rf) (.num up) ∧ rc' = rc ∧ (0 ≤ rf → rf.toNat ∈ V) ∧ (rf < 0 → ∃ B, (lk O.1 (Vl ts t)).or (lk O.2 (Vl ts t)) = some B)) ∨
      (∃ (t k : Nat), x = n1 2 t (.num k) ∧ rc' = rc ∧ k < rc) ∨ (∃ (t : Nat) (v : Int), x = n1 3 t (.num v) ∧ rc' = rc) ∨ (∃ (t : Nat) (v : Int), x = n1 4 t (.num v) ∧ rc' = rc) ∨
      (∃ t : Nat, x = n0 5 t ∧ rc' = rc) ∨ (∃ t : Nat, x = n0 6 t ∧ rc' = rc) ∨ (∃ t : Nat, x = n0 7 t ∧ rc' = rc) ∨
      (∃ (t : Nat) (l : List Tr), x = n1 8 t (ls l) ∧ (2 ≤ l.length ∧ l.length ≤ 6) ∧ sLn (fun rc e rc' => sEx n 0 V rc e rc') l rc rc') ∨
      (∃ (t : Nat) (l : List Tr), x = n1 9 t (ls l) ∧ 1 ≤ l.length ∧ sLn (fun rc e rc' => sEx n 0 V rc e rc') l rc rc') ∨
      (∃ (t : Nat) (l : List Tr), x = n1 10 t (ls l) ∧ sLn (fun rc e rc' => sEx n 0 V rc e rc') l rc rc') ∨
      (∃ (t : Nat) (ds : List Tr) (e : Tr) (V' : List Nat) (r1 : Nat), x = n2 11 t (ls ds) e ∧ sDc (fun V rc d rc' => sEx n 2 V rc d rc') ds V rc V' r1 ∧ sEx n 0 V' r1 e rc') ∨
      (∃ (t : Nat) (cs : List Tr), x = n1 12 t (ls cs) ∧ (1 ≤ cs.length ∧ cs.length ≤ 8) ∧ (∀ k, k ∈ cs → (clP k).length = 1) ∧ sLn (fun rc k rc' => sCl N Ct Dt n (fun V rc e rc' => sEx n 0 V rc e rc') V rc k rc') cs rc rc') ∨
      (∃ (t : Nat) (e : Tr) (cs : List Tr) (r1 : Nat), x = n2 13 t e (ls cs) ∧ (1 ≤ cs.length ∧ cs.length ≤ 8) ∧ (∀ k, k ∈ cs → (clP k).length = 1) ∧ sEx n 0 V rc e r1 ∧ sLn (fun rc k rc' => sCl N Ct Dt n (fun V rc e rc' => sEx n 0 V rc e rc') V rc k rc') cs r1 rc') ∨
      (∃ (t : Nat) (a b d : Tr) (r1 r2 : Nat), x = n3 14 t a b d ∧ sEx n 0 V rc a r1 ∧ sEx n 0 V r1 b r2 ∧ sEx n 0 V r2 d rc') ∨
      (∃ (t : Nat) (f : Tr) (l : List Tr) (r1 : Nat), x = n2 15 t f (ls l) ∧ 1 ≤ l.length ∧ sEx n 0 V rc f r1 ∧ sLn (fun rc e rc' => sEx n 0 V rc e rc') l r1 rc') ∨
      (∃ (t : Nat) (f : Tr) (ps : List (Nat × Tr)) (r1 : Nat), x = n2 16 t f (ls (ps.map opx)) ∧ (1 ≤ ps.length ∧ ∀ y, y ∈ ps → y.1 < 100000) ∧ sEx n 0 V rc f r1 ∧ sLn (fun rc e rc' => sEx n 0 V rc e rc') (ps.map (·.2)) r1 rc') ∨
      (∃ (t : Nat) (a b : Tr) (r1 : Nat), x = n2 17 t a b ∧ sEx n 0 V rc a r1 ∧ sEx n 0 V r1 b rc') ∨ (∃ (t : Nat) (a b : Tr) (r1 : Nat), x = n2 18 t a b ∧ sEx n 0 V rc a r1 ∧ sEx n 0 V r1 b rc') ∨
      ∃ (t : Nat) (y : Tr), x = n1 19 t y ∧ sEx n 0 V rc y rc'
variable (pl : Nat → Nat)
/-- the warnings of a match -/
def ckM (t : Nat) (cs : List Tr) : List (Nat × Nat) := ckU pl [] (cs.map fun k => (tkN k, (clP k).map (shp Ct Dt 30))) ++ ckO pl t (cs.map fun k => (clP k).map (shp Ct Dt 30)) ((cs.map fun k => (clP k).length).headD 0)
/-- all warnings, as they come -/
def wW : Nat → Nat → Tr → List (Nat × Nat)
  | 0, _, _ => []
  | n + 1, g, x => if g = 2 then (match x with
      | .mulL k (.add (.num t) y) => if k = 51 then (match y with
          | .add p e => wW n 0 e ++ ckO pl t.toNat [[shp Ct Dt 30 p]] 1
          | _ => []) else if k = 52 then ((unl y).map fun f => ((fCs f).map fun k => wW n 0 (clE k)).flatten ++ ckM Ct Dt pl (tkN f) (fCs f)).flatten else []
      | _ => [])
    else (match x with
      | .mulL k (.add (.num t) y) =>
        if k = 8 ∨ k = 9 ∨ k = 10 then ((unl y).map (wW n 0)).flatten
        else if k = 11 then (match y with
          | .add ds e => ((unl ds).map (wW n 2)).flatten ++ wW n 0 e
          | _ => [])
        else if k = 12 then ((unl y).map fun k => wW n 0 (clE k)).flatten ++ ckM Ct Dt pl t.toNat (unl y)
        else if k = 13 then (match y with
          | .add e m => wW n 0 e ++ (((unl m).map fun k => wW n 0 (clE k)).flatten ++ ckM Ct Dt pl t.toNat (unl m))
          | _ => [])
        else if k = 14 then (match y with
          | .add a (.add b d) => wW n 0 a ++ (wW n 0 b ++ wW n 0 d)
          | _ => [])
        else if k = 15 then (match y with
          | .add f l => wW n 0 f ++ ((unl l).map (wW n 0)).flatten
          | _ => [])
        else if k = 16 then (match y with
          | .add f l => wW n 0 f ++ ((unl l).map fun z => match z with
            | .add _ e => wW n 0 e
            | _ => []).flatten
          | _ => [])
        else if k = 17 ∨ k = 18 then (match y with
          | .add a b => wW n 0 a ++ wW n 0 b
          | _ => [])
        else if k = 19 then wW n 0 y
        else []
      | _ => [])
end
/-- the end of an expression -/
def ExQ (G : Gh) (c : Cx) (P : Nat → Prop) (s : Sx) (B : Nat → Prop) (b : Nat) (r : Except Fa (En → Tr → Prop)) (w : List (Nat × Nat)) (rc' : Nat) : Outcome → AH → Prop := fun o h' => match r with
  | .error f => Ft G c s B b f o h'
  | .ok R => ∃ t s1, o = .returned (some (.int (nI t))) ∧ Sx.h s1 = h' ∧ Sx.ws s1 = wAll s.ws w ∧ Sx.rc s1 = rc' ∧ Rn G c P s B s1 [t] b (fun γ u => ∃ v, u = [v] ∧ R γ v)
/-- expressions of n levels are typed as the law says -/
def ExI (G : Gh) (c : Cx) (n : Nat) : Prop := ∀ (P : Nat → Prop) (e : Tr) (q lo hi rc' D : Nat) (V : List Nat) (s : Sx), sEx c.ts c.O c.N c.Ct c.Dt n 0 V s.rc e rc' → TR lo hi e → hi ≤ c.ts.length → OTG (XA c.ts c.W c.O c.Z c.D s.h) c.W s.h e 0 0 q → XS G c P s → BdX c s (2 * nw e) → Frs s.h c.Z c.D s.E (bT e) → (∀ t, t ∈ V → ∃ σ, (t, σ) ∈ s.E) → fw e + 600 ≤ D →
  ∃ (k : Nat) (ν : Mu), VT ⟨"LetMill$Exp", "infer", "(LLetMill$Typer;)I"⟩ VMExp_infer k ν ∧ hK s.h q = k + 1 ∧ C G ν D [.ref q, .ref (gW G 6)] s.h (ExQ G c P s (fun t => t ∈ bT e) (2 * nw e - 1) (eX (tW c.N c.Ct c.Dt (Vl c.ts) c.kn n) e (eA s.M s.t s.E)) (wW c.Ct c.Dt (Pl c.ts) n 0 e) rc')
section
variable {G : Gh} {c : Cx} {P P0 : Nat → Prop} {s s1 s2 : Sx} {B B' : Nat → Prop} {us us' L : List Nat} {b b' b2 d n q lo hi rc' D : Nat} {S S' : En → List Tr → Prop} {h h' : AH} {V : List Nat} {e x : Tr} {A1 : En → Prop}
theorem Rn.ot (k : XS G c P0 s) (r : Rn G c P s B s1 us b S) (hT : TR lo hi x) (o : OTG (XA c.ts c.W c.O c.Z c.D s.h) c.W s.h x 0 0 q) : OTG (XA c.ts c.W c.O c.Z c.D s1.h) c.W s1.h x 0 0 q := k.1.ot r.1 hT o
theorem Rn.uf (k : XS G c P0 s) (r : Rn G c P s B s1 us b S) {a : Nat} (ha : c.W a) : Uf s.h s1.h a := r.1.2.1 a (k.fix a ha)
theorem Ft.wk {f : Fa} {o : Outcome} (k : Ft G c s B b f o h') (hb : b ≤ b') (hB : ∀ t, B t → B' t) : Ft G c s B' b' f o h' := by
  obtain ⟨k1, x, k2, k3, k4⟩ := k
  exact ⟨k1.wk hB, x, k2, k3, by omega⟩
/-- a fault behind what was done -/
theorem Ft.nx {f : Fa} {o : Outcome} (k : XS G c P0 s) (r : Rn G c P s B s1 us b S) (q : Ft G c s1 B b2 f o h') : Ft G c s B (b + b2) f o h' := by
  obtain ⟨q1, x, q2, q3, q4⟩ := q
  obtain ⟨r1, r2, r3, r4, r5, r6, r7⟩ := r
  exact ⟨r1.tr k.sA (q1.rc_le r5), x, q2, q3, by omega⟩
/-- an expression behind what was done -/
theorem Rn.expP (hE : ExI G c n) (k : XS G c P0 s) (r : Rn G c P s (fun t => t ∈ L) s1 us b S) (hs : sEx c.ts c.O c.N c.Ct c.Dt n 0 V s1.rc e rc') (hT : TR lo hi e) (hhi : hi ≤ c.ts.length) (ot : OTG (XA c.ts c.W c.O c.Z c.D s.h) c.W s.h e 0 0 q) (hb : BdX c s (b + 2 * nw e)) (hf : Frs s.h c.Z c.D s.E (L ++ bT e)) (hV : ∀ t, t ∈ V → ∃ σ, (t, σ) ∈ s.E) (hD : fw e + 600 ≤ D) (hA : ∀ γ, A1 γ ↔ ∃ u, S γ u) :
    ∃ (k : Nat) (ν : Mu), VT ⟨"LetMill$Exp", "infer", "(LLetMill$Typer;)I"⟩ VMExp_infer k ν ∧ hK s1.h q = k + 1 ∧ C G ν D [.ref q, .ref (gW G 6)] s1.h (fun o h' => match eX (tW c.N c.Ct c.Dt (Vl c.ts) c.kn n) e A1 with
      | .error f => Ft G c s (fun t => t ∈ L ++ bT e) (b + (2 * nw e - 1)) f o h'
      | .ok R => ∃ t s2, o = .returned (some (.int (nI t))) ∧ Sx.h s2 = h' ∧ Sx.ws s2 = wAll s1.ws (wW c.Ct c.Dt (Pl c.ts) n 0 e) ∧ Sx.rc s2 = rc' ∧ Rn G c P s (fun t => t ∈ L ++ bT e) s2 (us ++ [t]) (b + (2 * nw e - 1)) (fun γ u => ∃ u1 v, u = u1 ++ [v] ∧ S γ u1 ∧ R γ v) ∧ (∀ γ v, R γ v → A1 γ) ∧ ∀ a, P a → Uf s1.h (Sx.h s2) a) := by
  have eA1 : A1 = eA s1.M s1.t s1.E := by
    rw [r.ea k]
    funext γ
    exact propext (hA γ)
  have f1 : Frs s1.h c.Z c.D s1.E (bT e) := by
    have := hf.nx (us := []) r.1 k.bd
    rw [List.zip_nil_right, List.append_nil] at this
    rw [r.2.2.2.1]
    exact this
  obtain ⟨k2, ν2, v1, v2, v3⟩ := hE P e q lo hi rc' D V s1 hs hT hhi (r.ot k hT ot) r.2.2.1 (hb.nx r) f1 (by rw [r.2.2.2.1]; exact hV) hD
  refine ⟨k2, ν2, v1, v2, C.mono v3 ?_⟩
  intro o h' z
  rw [eA1]
  unfold ExQ at z
  cases hr : eX (tW c.N c.Ct c.Dt (Vl c.ts) c.kn n) e (eA s1.M s1.t s1.E) with
  | error f =>
    rw [hr] at z
    exact Ft.nx k (r.wk (Nat.le_refl _) fun t ht => List.mem_append_left _ ht) (z.wk (Nat.le_refl _) fun t ht => List.mem_append_right _ ht)
  | ok R =>
    rw [hr] at z
    obtain ⟨t, s2, z1, z2, z3, z4, z5⟩ := z
    refine ⟨t, s2, z1, z2, z3, z4, ?_, fun γ v h => z5.2.2.2.2.2.2 γ [v] ⟨v, rfl, h⟩, fun a ha => z5.1.2.1 a (r.2.2.1.2.2.2.2.2.2.1 a ha).1⟩
    refine ((r.wk (Nat.le_refl _) fun t ht => List.mem_append_left _ ht).sq k (z5.wk (Nat.le_refl _) fun t ht => List.mem_append_right _ ht)).imp fun γ u => ⟨?_, ?_⟩
    · rintro ⟨u1, u2, rfl, h1, v, rfl, h2⟩
      exact ⟨u1, v, rfl, h1, h2⟩
    · rintro ⟨u1, v, rfl, h1, h2⟩
      exact ⟨u1, [v], rfl, h1, v, rfl, h2⟩
/-- an expression behind what was done -/
theorem Rn.exp (hE : ExI G c n) (k : XS G c P0 s) (r : Rn G c P s (fun t => t ∈ L) s1 us b S) (hs : sEx c.ts c.O c.N c.Ct c.Dt n 0 V s1.rc e rc') (hT : TR lo hi e) (hhi : hi ≤ c.ts.length) (ot : OTG (XA c.ts c.W c.O c.Z c.D s.h) c.W s.h e 0 0 q) (hb : BdX c s (b + 2 * nw e)) (hf : Frs s.h c.Z c.D s.E (L ++ bT e)) (hV : ∀ t, t ∈ V → ∃ σ, (t, σ) ∈ s.E) (hD : fw e + 600 ≤ D) (hA : ∀ γ, A1 γ ↔ ∃ u, S γ u) :
    ∃ (k : Nat) (ν : Mu), VT ⟨"LetMill$Exp", "infer", "(LLetMill$Typer;)I"⟩ VMExp_infer k ν ∧ hK s1.h q = k + 1 ∧ C G ν D [.ref q, .ref (gW G 6)] s1.h (fun o h' => match eX (tW c.N c.Ct c.Dt (Vl c.ts) c.kn n) e A1 with
      | .error f => Ft G c s (fun t => t ∈ L ++ bT e) (b + (2 * nw e - 1)) f o h'
      | .ok R => ∃ t s2, o = .returned (some (.int (nI t))) ∧ Sx.h s2 = h' ∧ Sx.ws s2 = wAll s1.ws (wW c.Ct c.Dt (Pl c.ts) n 0 e) ∧ Sx.rc s2 = rc' ∧ Rn G c P s (fun t => t ∈ L ++ bT e) s2 (us ++ [t]) (b + (2 * nw e - 1)) (fun γ u => ∃ u1 v, u = u1 ++ [v] ∧ S γ u1 ∧ R γ v) ∧ ∀ γ v, R γ v → A1 γ) := by
  obtain ⟨k2, ν2, v1, v2, v3⟩ := Rn.expP hE k r hs hT hhi ot hb hf hV hD hA
  refine ⟨k2, ν2, v1, v2, C.mono v3 ?_⟩
  intro o h' z
  cases hr : eX (tW c.N c.Ct c.Dt (Vl c.ts) c.kn n) e A1 with
  | error f =>
    rw [hr] at z
    exact z
  | ok R =>
    rw [hr] at z
    obtain ⟨t, s2, z1, z2, z3, z4, z5, z6, -⟩ := z
    exact ⟨t, s2, z1, z2, z3, z4, z5, z6⟩
/-- one node is the answer -/
theorem Rn.fin {t i : Nat} {R : En → Tr → Prop} {w : List (Nat × Nat)} (r : Rn G c P s B s1 us b S) (hi : us[i]? = some t) (hb : b ≤ b') (hR : ∀ γ v, R γ v ↔ ∃ u, S γ u ∧ u[i]? = some v) (hw : s1.ws = wAll s.ws w) (hrc : s1.rc = rc') : ExQ G c P s B b' (.ok R) w rc' (.returned (some (.int (nI t)))) s1.h := by
  refine ⟨t, s1, rfl, rfl, hw, hrc, ?_⟩
  obtain ⟨r1, r2, r3, r4, r5, r6, r7⟩ := r.wk hb fun _ h => h
  have hl : ∀ ρ, Sl s1.M s1.t ρ → [t].map ρ = (fun u : List Tr => [u.getD i (.num 0)]) (us.map ρ) := fun ρ _ => by
    show [ρ t] = [(us.map ρ).getD i _]
    rw [List.getD, List.getElem?_map, hi]
    rfl
  have r2' := r2.prj (ts' := [t]) (fun u => [u.getD i (.num 0)]) (fun x hx => r2.2.2.1 x (by rw [(List.mem_cons.mp hx).resolve_right fun z => by cases z]; exact List.mem_of_getElem? hi)) hl
  have len : ∀ ρ, Sl s.M s.t ρ → ∀ u, S (gE s.E ρ) u → ∃ v, u[i]? = some v := fun ρ hρ u hu => by
    obtain ⟨ρ', h1, -, h3⟩ := r2.2.2.2.2.2 ρ hρ u hu
    rw [← h3, List.getElem?_map, hi]
    exact ⟨_, rfl⟩
  refine ⟨r1, r2'.imp fun ρ hρ u => ⟨?_, ?_⟩, r3, r4, r5, r6, fun γ u ⟨v, _, h1⟩ => ?_⟩
  · rintro ⟨v, h1, rfl⟩
    obtain ⟨y, hy⟩ := len ρ hρ v h1
    refine ⟨y, ?_, (hR _ _).mpr ⟨v, h1, hy⟩⟩
    show [v.getD i _] = [y]
    rw [List.getD, hy]
    rfl
  · rintro ⟨v, rfl, h1⟩
    obtain ⟨u, h2, h3⟩ := (hR _ _).mp h1
    refine ⟨u, h2, ?_⟩
    show [u.getD i _] = [v]
    rw [List.getD, h3]
    rfl
  · obtain ⟨u', h2, -⟩ := (hR _ _).mp h1
    exact r7 γ u' h2
end
