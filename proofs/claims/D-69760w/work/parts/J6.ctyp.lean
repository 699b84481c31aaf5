/-! THE COMPONENT'S TYPES: pairs on the pile -/
/-- the pile holds the pairs L, the first on top -/
def PL (G : Gh) (h : AH) (L : List (Nat × Nat)) : Prop := ∀ (i : Nat) (p : Nat × Nat), L[i]? = some p → aI h (gW G 1039) (2 * (L.length - 1 - i)) = nI p.1 ∧ aI h (gW G 1039) (2 * (L.length - 1 - i) + 1) = nI p.2
section
variable {G : Gh} {d M Pn x y a b j : Nat} {h h1 h2 h' : AH} {τ : Tb} {fs rt dp : Nat → Nat} {L : List (Nat × Nat)} {v : Int32}
theorem TyS.pl (k : TyS G h M Pn τ fs) (hD : DW (gW G)) (e : h' = sI h (gW G 1039) j v) : TyS G h' M Pn τ fs ∧ FTy G h h' := by
  obtain ⟨sA, e36, e37, hM, hPn, hA⟩ := k
  have T : FTy G h h' := by rw [e]; exact FTy.rf.sI (by decide)
  have ne : ∀ i, (i = 1030 ∨ i = 1031 ∨ i = 1032 ∨ i = 1035) → gW G i ≠ gW G 1039 := fun i hi z => by
    have := hD i 1039 (by rcases hi with rfl | rfl | rfl | rfl <;> decide) (by decide) z
    omega
  have A : ∀ i, (i = 1030 ∨ i = 1031 ∨ i = 1032 ∨ i = 1035) → ∀ j, aI h' (gW G i) j = aI h (gW G i) j := fun i hi j => by rw [e, aI_sI, if_neg (fun z => ne i hi z.1)]
  have f : fI h' = fI h := by rw [e]; rfl
  refine ⟨⟨sA.le T.2.2, by rw [f]; exact e36, by rw [f]; exact e37, hM, hPn, fun z hz => ?_⟩, T⟩
  obtain ⟨b1, b2, b3, b4, b5, b6⟩ := hA z hz
  rw [A 1030 (by decide), A 1031 (by decide), A 1032 (by decide)]
  exact ⟨b1, b2, b3, b4, b5, fun k p hp => by rw [A 1035 (by decide)]; exact b6 k p hp⟩
theorem PL.push (k : PL G h L) (e1 : h1 = sI h (gW G 1039) (2 * L.length) (nI a)) (e2 : h2 = sI h1 (gW G 1039) (2 * L.length + 1) (nI b)) : PL G h2 ((a, b) :: L) := by
  intro i p hp
  have A : ∀ j, aI h2 (gW G 1039) j = if j = 2 * L.length + 1 then nI b else if j = 2 * L.length then nI a else aI h (gW G 1039) j := fun j => by
    rw [e2, aI_sI]
    by_cases c1 : j = 2 * L.length + 1
    · rw [if_pos ⟨rfl, c1⟩, if_pos c1]
    · rw [if_neg (fun z => c1 z.2), if_neg c1, e1, aI_sI]
      by_cases c2 : j = 2 * L.length
      · rw [if_pos ⟨rfl, c2⟩, if_pos c2]
      · rw [if_neg (fun z => c2 z.2), if_neg c2]
  rw [List.length_cons, A, A]
  cases i with
  | zero =>
    cases hp
    rw [show 2 * (L.length + 1 - 1 - 0) = 2 * L.length by omega, if_neg (by omega), if_pos rfl, if_pos rfl]
    exact ⟨rfl, rfl⟩
  | succ i =>
    have hp' : L[i]? = some p := by simpa using hp
    have hi := (List.getElem?_eq_some_iff.mp hp').1
    obtain ⟨b1, b2⟩ := k i p hp'
    rw [show 2 * (L.length + 1 - 1 - (i + 1)) = 2 * (L.length - 1 - i) by omega, if_neg (by omega), if_neg (by omega), if_neg (by omega), if_neg (by omega)]
    exact ⟨b1, b2⟩
/-- the parts of two nodes go onto the pile -/
theorem jn_144 (hD : DW (gW G)) (hx : x < M) (hy : y < M) (hn : (uP τ x).length = (uP τ y).length) {Q : Outcome → AH → Prop} (L0 : List (Nat × Nat))
    (hQ : ∀ h2, TyS G h2 M Pn τ fs → PL G h2 (((uP τ x).zip (uP τ y)).reverse ++ L0) → FTy G h h2 → (∀ z, aI h2 (gW G 1032) z = aI h (gW G 1032) z) → X G mX3_joined (d + 1) none [] 18 [(0, .ref (gW G 2)), (3, .int (nI (2 * (L0.length + (uP τ x).length))))] [] h2 Q) (hB : 2 * (L0.length + (uP τ x).length) ≤ 300000) :
    ∀ f i h1, (uP τ x).length - i < f → i ≤ (uP τ x).length → TyS G h1 M Pn τ fs → PL G h1 ((((uP τ x).zip (uP τ y)).take i).reverse ++ L0) → FTy G h h1 → (∀ z, aI h1 (gW G 1032) z = aI h (gW G 1032) z) →
    X G mX3_joined (d + 1) none [] 144 [(0, .ref (gW G 2)), (3, .int (nI (2 * (L0.length + i)))), (4, .int (nI x)), (5, .int (nI y)), (6, .int (nI (uP τ x).length)), (7, .int (nI i))] [] h1 Q := by
  intro f
  induction f with
  | zero => intro i h1 hf; omega
  | succ f IH =>
    intro i h1 hf hi k pl T e32
    obtain ⟨sA, e36, e37, hM, hPn, hA⟩ := id k
    refine bX3_joined_144 G d h1 _ _ _ _ _ _ (sA.at (by decide)) ?_
    rw [nI_leI (by omega) (by omega)]
    have hzl : ((uP τ x).zip (uP τ y)).length = (uP τ x).length := by rw [List.length_zip]; omega
    refine ⟨fun z => ?_, fun z => ?_⟩
    · have ei : i = (uP τ x).length := by omega
      rw [List.take_of_length_le (by omega)] at pl
      rw [ei]
      exact hQ h1 k pl T e32
    · have hil : i < (uP τ x).length := by omega
      obtain ⟨-, -, -, a4, a5, a6⟩ := hA x hx
      obtain ⟨-, -, -, c4, c5, c6⟩ := hA y hy
      obtain ⟨p, hp⟩ : ∃ p, (uP τ x)[i]? = some p := ⟨_, List.getElem?_eq_getElem hil⟩
      obtain ⟨q, hq⟩ : ∃ q, (uP τ y)[i]? = some q := ⟨_, List.getElem?_eq_getElem (by omega)⟩
      obtain ⟨a61, a62⟩ := a6 i p hp
      obtain ⟨c61, c62⟩ := c6 i q hq
      have sm : ∀ u w : Nat, u ≤ 400000 → w ≤ 400000 → nI u + nI w = nI (u + w) := fun u w h1 h2 => by
        rw [i_eq, i_add, nI_toInt (by omega), nI_toInt (by omega), nI_toInt (by omega)]
        · omega
        · rw [nI_toInt (by omega), nI_toInt (by omega)]; omega
        · rw [nI_toInt (by omega), nI_toInt (by omega)]; omega
      rw [nI_cn (by omega), nI_cn (by omega), a4, sm _ _ (by omega) (by omega), nI_cn (by omega), a61]
      refine ⟨vp_in_nI (by omega) (by decide), vp_in_nI (by omega) (by decide), vp_in_nI (by omega) (by decide), ?_⟩
      intro h5 e5
      obtain ⟨k5, T5⟩ := k.pl hD e5
      obtain ⟨-, -, -, g4, g5, g6⟩ := k5.2.2.2.2.2 y hy
      obtain ⟨g61, -⟩ := g6 i q hq
      rw [nI_cn (by omega), g4, sm _ _ (by omega) (by omega), nI_cn (by omega), g61]
      refine ⟨vp_in_nI (by omega) (by decide), vp_in_nI (by omega) (by decide), ?_⟩
      have e21 : nI (2 * (L0.length + i)) + 1 = nI (2 * (L0.length + i) + 1) := nI_1 _
      rw [e21, nI_cn (by omega)]
      refine ⟨vp_in_nI (by omega) (by decide), ?_⟩
      intro h10 e10
      obtain ⟨k10, T10⟩ := k5.pl hD e10
      rintro _ rfl _ rfl
      rw [nI_1, show (2 : Int32) = nI 2 from rfl, sm _ _ (by omega) (by omega), show 2 * (L0.length + i) + 2 = 2 * (L0.length + (i + 1)) by omega]
      have hlen : ((((uP τ x).zip (uP τ y)).take i).reverse ++ L0).length = L0.length + i := by
        rw [List.length_append, List.length_reverse, List.length_take]; omega
      have pl2 := pl.push (a := p) (b := q) (h1 := h5) (h2 := h10) (by rw [hlen]; exact e5) (by rw [hlen]; exact e10)
      refine IH (i + 1) h10 (by omega) (by omega) k10 ?_ ((T.tr T5).tr T10) (fun z => by rw [e10, aI_sI, if_neg (fun w => absurd (hD 1032 1039 (by decide) (by decide) w.1) (by decide)), e5, aI_sI, if_neg (fun w => absurd (hD 1032 1039 (by decide) (by decide) w.1) (by decide))]; exact e32 z)
      have hz : ((uP τ x).zip (uP τ y))[i]? = some (p, q) := by rw [List.getElem?_zip_eq_some]; exact ⟨hp, hq⟩
      rw [List.take_add_one, hz, List.reverse_append]
      exact pl2
end
