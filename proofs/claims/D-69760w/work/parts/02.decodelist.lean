def dk_sw : Instr → Bool
  | .tableswitch .. => true
  | .lookupswitch .. => true
  | _ => false
/-- one walk through a method's bytes: each listed instruction is the one that stands there (the switches are left to others) -/
def dk_chk : List UInt8 → Nat → List (Nat × Instr × Nat) → Bool
  | _, _, [] => true
  | l, pc, (p, i, n) :: r => p == pc && (dk_sw i || (match l.take 3 with | [] => false | x :: t => dk_op x.toNat && decide (decode ⟨(x :: t).toArray⟩ 0 = .ok (i, n)))) && dk_chk (l.drop n) (pc + n) r
theorem dk_one {b : ByteArray} {pc n : Nat} {i : Instr} {x : UInt8} {t : List UInt8} (hw : (b.data.toList.drop pc).take 3 = x :: t) (ho : dk_op x.toNat = true) (hd : decode ⟨(x :: t).toArray⟩ 0 = .ok (i, n)) : decode b pc = .ok (i, n) := by
  have hsz : ∀ k, k < (⟨(x :: t).toArray⟩ : ByteArray).size → b[pc + k]? = (⟨(x :: t).toArray⟩ : ByteArray)[k]? := by
    intro k hk
    have hk' : k < (x :: t).length := by simpa [ByteArray.size] using hk
    have e1 : (x :: t)[k]? = b.data.toList[pc + k]? := by
      rw [← hw, List.getElem?_take, List.getElem?_drop]
      have : k < 3 := by
        have := List.length_take_le 3 (b.data.toList.drop pc)
        rw [hw] at this
        omega
      rw [if_pos this]
    have hlt : pc + k < b.size := by
      rcases Nat.lt_or_ge (pc + k) b.size with q | q
      · exact q
      · rw [List.getElem?_eq_getElem hk', List.getElem?_eq_none (by rw [Array.length_toList]; exact q)] at e1
        cases e1
    rw [getElem?_pos b (pc + k) hlt, getElem?_pos _ k hk]
    have e2 : (x :: t)[k]? = some ((x :: t)[k]'hk') := List.getElem?_eq_getElem hk'
    have e3 : b.data.toList[pc + k]? = some (b.data.toList[pc + k]'(by rw [Array.length_toList]; exact hlt)) := List.getElem?_eq_getElem _
    rw [e2, e3] at e1
    exact e1.symm
  unfold decode at hd ⊢
  cases hr : Reader.runAt (Decoder.instr 0) ⟨(x :: t).toArray⟩ 0 with
  | error z => rw [hr] at hd; cases hd
  | ok q =>
    obtain ⟨a, k'⟩ := q
    rw [hr] at hd
    rw [dk_instr hsz 0 (by simp [ByteArray.size]) ho a k' hr]
    have e : (a, k' - 0) = (i, n) := Except.ok.inj hd
    rw [Nat.sub_zero] at e
    show Except.ok (a, pc + k' - pc) = Except.ok (i, n)
    rw [Nat.add_sub_cancel_left, e]
theorem dk_get {b : ByteArray} : ∀ (l : List (Nat × Instr × Nat)) (pc : Nat), dk_chk (b.data.toList.drop pc) pc l = true → ∀ (j p : Nat) (i : Instr) (n : Nat), l[j]? = some (p, i, n) → dk_sw i = false → decode b p = .ok (i, n)
  | [], _, _, j, p, i, n, hj, _ => by simp at hj
  | (p0, i0, n0) :: r, pc, h, j, p, i, n, hj, hs => by
    simp only [dk_chk, Bool.and_eq_true, beq_iff_eq] at h
    obtain ⟨⟨hp, hd⟩, hr⟩ := h
    cases j with
    | zero =>
      simp at hj
      obtain ⟨rfl, rfl, rfl⟩ := hj
      rw [hs, Bool.false_or] at hd
      subst hp
      cases hw : (b.data.toList.drop p0).take 3 with
      | nil => rw [hw] at hd; cases hd
      | cons x t =>
        rw [hw] at hd
        simp only [Bool.and_eq_true, decide_eq_true_eq] at hd
        exact dk_one hw hd.1 hd.2
    | succ j =>
      rw [List.drop_drop] at hr
      exact dk_get r (pc + n0) hr j p i n (by simpa using hj) hs
