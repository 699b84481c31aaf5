/-! THE ABSTRACT HEAP: kinds and lengths of cells, fields by their numbers, array places; how many cells and slots were made. Cells are named by their addresses. -/
abbrev AH : Type := (Nat → Nat) × (Nat → Nat) × (Nat → Nat → Int32) × (Nat → Nat → Int64) × (Nat → Nat → Option Nat) × (Nat → Nat → Int32) × (Nat → Nat → Int64) × (Nat → Nat → Option Nat) × Nat × Nat × Option Nat
/-- 0: no cell; c + 1: an object of class c; 1000 + t: an array of the t-th type -/
def hK (h : AH) : Nat → Nat := h.1
def hL (h : AH) : Nat → Nat := h.2.1
def fI (h : AH) : Nat → Nat → Int32 := h.2.2.1
def fJ (h : AH) : Nat → Nat → Int64 := h.2.2.2.1
def fR (h : AH) : Nat → Nat → Option Nat := h.2.2.2.2.1
def aI (h : AH) : Nat → Nat → Int32 := h.2.2.2.2.2.1
def aJ (h : AH) : Nat → Nat → Int64 := h.2.2.2.2.2.2.1
def aR (h : AH) : Nat → Nat → Option Nat := h.2.2.2.2.2.2.2.1
def hc (h : AH) : Nat := h.2.2.2.2.2.2.2.2.1
def hs (h : AH) : Nat := h.2.2.2.2.2.2.2.2.2.1
/-- the newest object, as long as nothing was written since -/
def hN (h : AH) : Option Nat := h.2.2.2.2.2.2.2.2.2.2
def up1 {α : Type} (f : Nat → α) (a : Nat) (v : α) : Nat → α := fun x => if x = a then v else f x
def up2 {α : Type} (f : Nat → Nat → α) (a k : Nat) (v : α) : Nat → Nat → α := fun x y => if x = a ∧ y = k then v else f x y
def upr {α : Type} (f : Nat → Nat → α) (a : Nat) (z : α) : Nat → Nat → α := fun x y => if x = a then z else f x y
def pI (h : AH) (a g : Nat) (v : Int32) : AH := (hK h, hL h, up2 (fI h) a g v, fJ h, fR h, aI h, aJ h, aR h, hc h, hs h, none)
def pJ (h : AH) (a g : Nat) (v : Int64) : AH := (hK h, hL h, fI h, up2 (fJ h) a g v, fR h, aI h, aJ h, aR h, hc h, hs h, none)
def pR (h : AH) (a g : Nat) (v : Option Nat) : AH := (hK h, hL h, fI h, fJ h, up2 (fR h) a g v, aI h, aJ h, aR h, hc h, hs h, none)
def sI (h : AH) (a i : Nat) (v : Int32) : AH := (hK h, hL h, fI h, fJ h, fR h, up2 (aI h) a i v, aJ h, aR h, hc h, hs h, none)
def sJ (h : AH) (a i : Nat) (v : Int64) : AH := (hK h, hL h, fI h, fJ h, fR h, aI h, up2 (aJ h) a i v, aR h, hc h, hs h, none)
def sR (h : AH) (a i : Nat) (v : Option Nat) : AH := (hK h, hL h, fI h, fJ h, fR h, aI h, aJ h, up2 (aR h) a i v, hc h, hs h, none)
/-- a new object of class c at q -/
def nO (h : AH) (q c : Nat) : AH := (up1 (hK h) q (c + 1), hL h, upr (fI h) q 0, upr (fJ h) q 0, upr (fR h) q none, aI h, aJ h, aR h, hc h + 1, hs h + (ftab c).length, some q)
/-- a new array of the t-th type, of n places, at q -/
def nA (h : AH) (q t n : Nat) : AH := (up1 (hK h) q (1000 + t), up1 (hL h) q n, fI h, fJ h, fR h, upr (aI h) q 0, upr (aJ h) q 0, upr (aR h) q none, hc h + 1, hs h + n, none)
/-! ghosts: the first address of ours; classes and slots; array classes; the String constants' addresses and their bytes' -/
abbrev Gh : Type := Nat × va_G × List (ClassId × FieldType) × (Nat → Nat) × (Nat → Nat) × (Nat → Nat)
def gA (G : Gh) : Nat → Prop := fun q => G.1 ≤ q
def gD (G : Gh) : va_G := G.2.1
def gT (G : Gh) : List (ClassId × FieldType) := G.2.2.1
/-- where the objects of which there is one lie, and what their final fields hold -/
def gW (G : Gh) : Nat → Nat := G.2.2.2.2.2
def fval (h : AH) (a : Nat) (q : Nat × Nat) : Value := if q.2 = 1 then .long (fJ h a q.1) else if q.2 = 2 then va_rf (fR h a q.1) else .int (fI h a q.1)
def flds (h : AH) (a c : Nat) : List Value := (ftab c).map (fval h a)
def acon (h : AH) (a t : Nat) : (Nat → Int32) ⊕ (Nat → Int64) ⊕ (Nat → UInt32) ⊕ (Nat → UInt64) ⊕ (Nat → Option Nat) :=
  if t < 3 then .inl (aI h a) else if t = 3 then .inr (.inl (aJ h a)) else .inr (.inr (.inr (.inr (aR h a))))
def ent (G : Gh) (h : AH) (a : Nat) : va_E :=
  if hK h a < 1000 then .inr (hK h a - 1, flds h a (hK h a - 1)) else .inl (((gT G).getD (hK h a - 1000) (0, .int)).1, hL h a, acon h a (hK h a - 1000))
def wl (G : Gh) (dom : List Nat) (h : AH) : va_W := dom.map (fun a => (a, ent G h a))
/-- nobody holds the newest object's monitor -/
def Mo (h : AH) (H : Heap) : Prop := ∀ a, hN h = some a → ∃ cell : Cell, H[a]? = some cell ∧ cell.monitor.owner = none ∧ cell.monitor.count = 0
theorem Mo.no {h : AH} {H : Heap} (hn : hN h = none) : Mo h H := fun a ha => by rw [hn] at ha; cases ha
/-- the heap H holds h -/
def Rp (G : Gh) (h : AH) (H : Heap) : Prop := ∃ dom : List Nat, (∀ a, a ∈ dom ↔ hK h a ≠ 0) ∧ va_P (gD G) cl (wl G dom h) H ∧ va_D (gA G) (wl G dom h) ∧ Mo h H
theorem wl_at {G : Gh} {dom : List Nat} {h : AH} {a : Nat} (ha : a ∈ dom) : ∃ k : Nat, dom[k]? = some a ∧ (wl G dom h)[k]? = some (a, ent G h a) := by
  obtain ⟨k, hk⟩ := List.getElem?_of_mem ha
  exact ⟨k, hk, by simp [wl, hk]⟩
theorem wl_nodup {G : Gh} {dom : List Nat} {h : AH} (hD : va_D (gA G) (wl G dom h)) {i j a : Nat} (hi : dom[i]? = some a) (hj : dom[j]? = some a) : i = j :=
  hD.1 i j (a, ent G h a) (a, ent G h a) (by simp [wl, hi]) (by simp [wl, hj]) rfl
theorem wl_set {G : Gh} {dom : List Nat} {h h' : AH} {k a : Nat} (hD : va_D (gA G) (wl G dom h)) (hk : dom[k]? = some a) (ho : ∀ x, x ≠ a → ent G h' x = ent G h x) : wl G dom h' = (wl G dom h).set k (a, ent G h' a) := by
  apply List.ext_getElem?
  intro i
  rw [List.getElem?_set]
  by_cases hi : k = i
  · subst hi
    have hl : k < dom.length := (List.getElem?_eq_some_iff.mp hk).1
    simp [wl, hl, (List.getElem?_eq_some_iff.mp hk).2]
  · rw [if_neg hi]
    cases hx : dom[i]? with
    | none => simp [wl, hx]
    | some x =>
      have hne : x ≠ a := fun e => hi (wl_nodup (G := G) (h := h) hD hk (e ▸ hx))
      simp [wl, hx, ho x hne]
/-- a store: the world behind it -/
theorem Rp.of_set {G : Gh} {h h' : AH} {H : Heap} {dom : List Nat} {k a : Nat} (hm : ∀ a, a ∈ dom ↔ hK h a ≠ 0) (hD : va_D (gA G) (wl G dom h)) (hk : dom[k]? = some a) (ho : ∀ x, x ≠ a → ent G h' x = ent G h x) (hK' : hK h' = hK h)
    (hP : va_P (gD G) cl ((wl G dom h).set k (a, ent G h' a)) H) (hD' : va_D (gA G) ((wl G dom h).set k (a, ent G h' a))) (hmo : Mo h' H) : Rp G h' H := by
  rw [← wl_set hD hk ho] at hP hD'
  exact ⟨dom, by rw [hK']; exact hm, hP, hD', hmo⟩
theorem wl_push {G : Gh} {dom : List Nat} {h h' : AH} {q : Nat} (ho : ∀ x, x ∈ dom → ent G h' x = ent G h x) : wl G (dom ++ [q]) h' = wl G dom h ++ [(q, ent G h' q)] := by
  simp only [wl, List.map_append, List.map_cons, List.map_nil]
  congr 1
  exact List.map_congr_left fun x hx => by rw [ho x hx]
theorem va_D.fresh {A : Nat → Prop} {ws : va_W} {q : Nat} {e : va_E} (hD : va_D A (ws ++ [(q, e)])) : ∀ x ∈ ws, x.1 ≠ q := by
  intro x hx he
  obtain ⟨i, hi⟩ := List.getElem?_of_mem hx
  have hl : i < ws.length := (List.getElem?_eq_some_iff.mp hi).1
  have := hD.1 i ws.length x (q, e) (by rw [List.getElem?_append_left hl]; exact hi) (by simp) he
  omega
theorem Rp.of_push {G : Gh} {h h' : AH} {H : Heap} {dom : List Nat} {q : Nat} (hm : ∀ a, a ∈ dom ↔ hK h a ≠ 0) (hKq : hK h' q ≠ 0) (hKo : ∀ x, x ≠ q → hK h' x = hK h x) (ho : ∀ x, x ≠ q → ent G h' x = ent G h x)
    (hP : va_P (gD G) cl (wl G dom h ++ [(q, ent G h' q)]) H) (hD : va_D (gA G) (wl G dom h ++ [(q, ent G h' q)])) (hmo : Mo h' H) : Rp G h' H ∧ hK h q = 0 := by
  have hq : q ∉ dom := fun hq => hD.fresh (q, ent G h q) (List.mem_map.mpr ⟨q, hq, rfl⟩) rfl
  have hx : ∀ x, x ∈ dom → x ≠ q := fun x hx e => hq (e ▸ hx)
  rw [← wl_push (h' := h') (q := q) fun x h => ho x (hx x h)] at hP hD
  refine ⟨⟨dom ++ [q], fun a => ?_, hP, hD, hmo⟩, ?_⟩
  · rw [List.mem_append, List.mem_singleton, hm a]
    by_cases e : a = q
    · subst e
      exact ⟨fun _ => hKq, fun _ => Or.inr rfl⟩
    · rw [hKo a e]
      exact ⟨fun z => z.elim id fun z => absurd z e, Or.inl⟩
  · exact Classical.byContradiction fun hn => hq ((hm q).mpr hn)
/-! an object's field -/
/-- the cell a is an object that has the field g of the kind t -/
def HF (h : AH) (a g t : Nat) : Prop := ∃ c : Nat, c < 56 ∧ hK h a = c + 1 ∧ (g, t) ∈ ftab c
theorem ent_obj {G : Gh} {h : AH} {a c : Nat} (hc : c < 56) (hk : hK h a = c + 1) : ent G h a = .inr (c, flds h a c) := by
  unfold ent
  rw [hk, if_pos (by omega)]
  rfl
theorem ctab_at {c k g t : Nat} (hk : (ftab c)[k]? = some (g, t)) : ctab c k = gtab g := by
  simp [ctab, List.getD, hk]
theorem flds_at {h : AH} {a c k g t : Nat} (hk : (ftab c)[k]? = some (g, t)) : (flds h a c)[k]? = some (fval h a (g, t)) := by
  simp [flds, hk]
/-- fields of one class have numbers of their own -/
theorem ftab_inj {c i j g t u : Nat} (hc : c < 56) (hi : (ftab c)[i]? = some (g, t)) (hj : (ftab c)[j]? = some (g, u)) : i = j := by
  refine Classical.byContradiction fun hn => ?_
  have li := (List.getElem?_eq_some_iff.mp hi).1
  have lj := (List.getElem?_eq_some_iff.mp hj).1
  exact cl_nm hc i li j lj hn (by rw [ctab_at hi, ctab_at hj])
theorem flds_set {h h' : AH} {a c k g t : Nat} (hc : c < 56) (hk : (ftab c)[k]? = some (g, t)) (ho : ∀ q : Nat × Nat, q.1 ≠ g → fval h' a q = fval h a q) : flds h' a c = (flds h a c).set k (fval h' a (g, t)) := by
  apply List.ext_getElem?
  intro i
  rw [List.getElem?_set]
  by_cases hi : k = i
  · subst hi
    have hl := (List.getElem?_eq_some_iff.mp hk).1
    rw [if_pos rfl, if_pos (by simpa [flds] using hl), flds_at hk]
  · rw [if_neg hi]
    cases hx : (ftab c)[i]? with
    | none => simp [flds, hx]
    | some q =>
      obtain ⟨g', t'⟩ := q
      have hne : g' ≠ g := fun e => hi (ftab_inj hc hk (e ▸ hx))
      rw [flds_at hx, flds_at hx, ho (g', t') hne]
theorem ent_other {G : Gh} {h h' : AH} {x : Nat} (h1 : hK h' x = hK h x) (h2 : hL h' x = hL h x) (h3 : fI h' x = fI h x) (h4 : fJ h' x = fJ h x) (h5 : fR h' x = fR h x) (h6 : aI h' x = aI h x) (h7 : aJ h' x = aJ h x) (h8 : aR h' x = aR h x) : ent G h' x = ent G h x := by
  have hf : fval h' x = fval h x := by funext q; unfold fval; rw [h3, h4, h5]
  unfold ent flds acon
  rw [h1, h2, h6, h7, h8, hf]
