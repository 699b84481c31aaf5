section
variable {G : Gh} {μ : Mu} {d pc : Nat} {ex : Option Nat} {Fr : List Nat} {L : List (Nat × Value)} {st : List Value} {h : AH} {Q : Outcome → AH → Prop}
theorem nar_z {v : Int32} (h : v = 0 ∨ v = 1) : narrow .boolean (.int v) = .int v := by
  rcases h with rfl | rfl <;> decide
theorem i32_ne {x : Int32} {v : Int} (hv : (Int32.ofInt v).toInt = v) (hx : ¬ x = Int32.ofInt v) : ¬ x.toInt = v := by
  intro e
  apply hx
  rw [← e, Int32.ofInt_toInt]
theorem x_ts {dflt lo hi v : Int} {offs : Array Int} {len tgt : Nat} {x : Int32} (hd : decode (mC μ) pc = .ok (.tableswitch dflt lo hi offs, len)) (hx : x.toInt = v) (q1 : ¬ v < lo) (q2 : ¬ hi < v) (ho : offs[(v - lo).toNat]? = some ((tgt : Int) - (pc : Int))) (kk : X G μ d ex Fr tgt L st h Q) : X G μ d ex Fr pc L (.int x :: st) h Q :=
  x_tableIn hd (by rw [hx]; exact q1) (by rw [hx]; exact q2) (by rw [hx]; exact ho) (by omega) kk
def tsdef (lo : Int) (offs : List Int) (dflt : Int) (vs : List Int) : Bool := (List.range offs.length).all fun i => offs.getD i 0 == dflt || vs.contains (lo + i)
theorem x_td {dflt lo hi : Int} {vs : List Int} {offs : Array Int} {len tgt : Nat} {x : Int32} (hd : decode (mC μ) pc = .ok (.tableswitch dflt lo hi offs, len)) (hn : ∀ v ∈ vs, ¬ x.toInt = v) (hs : offs.size = (hi - lo + 1).toNat) (hc : tsdef lo offs.toList dflt vs = true) (ht : (pc : Int) + dflt = (tgt : Int)) (kk : X G μ d ex Fr tgt L st h Q) : X G μ d ex Fr pc L (.int x :: st) h Q := by
  by_cases c1 : x.toInt < lo
  · exact x_tableOut hd (Or.inl c1) ht kk
  · by_cases c2 : hi < x.toInt
    · exact x_tableOut hd (Or.inr c2) ht kk
    · have hi' : (x.toInt - lo).toNat < offs.size := by omega
      have hlen : (x.toInt - lo).toNat < offs.toList.length := by simpa using hi'
      have := List.all_eq_true.mp hc _ (List.mem_range.mpr hlen)
      simp only [Bool.or_eq_true, beq_iff_eq, List.contains_iff_mem] at this
      refine x_tableIn (off := dflt) hd c1 c2 ?_ ht kk
      rcases this with e | e
      · rw [List.getD, List.getElem?_eq_getElem hlen] at e
        have e' : offs.toList[(x.toInt - lo).toNat] = dflt := e
        rw [← Array.getElem?_toList, List.getElem?_eq_getElem hlen, e']
      · exact absurd (show x.toInt = lo + ((x.toInt - lo).toNat : Int) by omega) (hn _ e)
theorem ls_none {n dflt : Int} : ∀ (ps : List (Int × Int)), (∀ v ∈ ps.map (fun q => q.1), ¬ n = v) → Op.lookupswitch.offset ps dflt n = dflt := by
  intro ps hp
  induction ps with
  | nil => rfl
  | cons q r ih =>
    have h1 : ¬ n = q.1 := hp q.1 (by simp)
    have h2 := ih fun v hv => hp v (by simp only [List.map_cons, List.mem_cons]; exact Or.inr hv)
    obtain ⟨q1, q2⟩ := q
    rw [Op.lookupswitch.offset_cons, if_neg (fun e => h1 e.symm)]
    exact h2
theorem x_ls {dflt v : Int} {ps : Array (Int × Int)} {len tgt : Nat} {x : Int32} (hd : decode (mC μ) pc = .ok (.lookupswitch dflt ps, len)) (hps : (ps.toList.zip (ps.toList.drop 1)).all (fun (a, next) => a.1 < next.1) = true) (hx : x.toInt = v) (ho : Op.lookupswitch.offset ps.toList dflt v = (tgt : Int) - (pc : Int)) (kk : X G μ d ex Fr tgt L st h Q) : X G μ d ex Fr pc L (.int x :: st) h Q :=
  x_lookup (off := (tgt : Int) - (pc : Int)) hd hps (by rw [hx]; exact ho) (by omega) kk
theorem x_ld {dflt : Int} {vs : List Int} {ps : Array (Int × Int)} {len tgt : Nat} {x : Int32} (hd : decode (mC μ) pc = .ok (.lookupswitch dflt ps, len)) (hps : (ps.toList.zip (ps.toList.drop 1)).all (fun (a, next) => a.1 < next.1) = true) (hn : ∀ v ∈ vs, ¬ x.toInt = v) (hv : ps.toList.map (fun q => q.1) = vs) (ht : (pc : Int) + dflt = (tgt : Int)) (kk : X G μ d ex Fr tgt L st h Q) : X G μ d ex Fr pc L (.int x :: st) h Q :=
  x_lookup (off := dflt) hd hps (ls_none _ (by rw [hv]; exact hn)) ht kk
end
