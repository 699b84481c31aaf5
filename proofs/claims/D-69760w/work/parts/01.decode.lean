/-! decode by windows: what decode says of a few bytes it says of the whole code -/
def dk_Sh (b w : ByteArray) (pc : Nat) {α : Type} (r r' : Decoder α) : Prop := ∀ (k : Nat) (a : α) (k' : Nat), Reader.runAt r w k = .ok (a, k') → Reader.runAt r' b (pc + k) = .ok (a, pc + k')
section
variable {b w : ByteArray} {pc : Nat} {α β : Type}
theorem dk_pure (a : α) : dk_Sh b w pc (pure a : Decoder α) (pure a) := by
  intro k x k' h
  simp [Reader.runAt] at h ⊢
  cases h
  rfl
theorem dk_bind {r r' : Decoder α} {f f' : α → Decoder β} (h : dk_Sh b w pc r r') (hf : ∀ a, dk_Sh b w pc (f a) (f' a)) : dk_Sh b w pc (r >>= f) (r' >>= f') := by
  intro k x k' e
  have e1 : Reader.runAt (r >>= f) w k = (Reader.runAt r w k >>= fun q => Reader.runAt (f q.1) w q.2) := rfl
  have e2 : Reader.runAt (r' >>= f') b (pc + k) = (Reader.runAt r' b (pc + k) >>= fun q => Reader.runAt (f' q.1) b q.2) := rfl
  rw [e1] at e
  rw [e2]
  cases hr : Reader.runAt r w k with
  | error z => rw [hr] at e; cases e
  | ok q =>
    obtain ⟨a, k1⟩ := q
    rw [hr] at e
    rw [h k a k1 hr]
    exact hf a k1 x k' e
theorem dk_map {r r' : Decoder α} (g : α → β) (h : dk_Sh b w pc r r') : dk_Sh b w pc (g <$> r) (g <$> r') := by
  intro k x k' e
  have hb := dk_bind (f := fun a => (pure (g a) : Decoder β)) (f' := fun a => pure (g a)) h (fun a => dk_pure (g a))
  have e1 : (g <$> r : Decoder β) = r >>= fun a => pure (g a) := (bind_pure_comp g r).symm
  have e2 : (g <$> r' : Decoder β) = r' >>= fun a => pure (g a) := (bind_pure_comp g r').symm
  rw [e1] at e
  rw [e2]
  exact hb k x k' e
theorem dk_throw (z z' : DecodeError) : dk_Sh b w pc (throw z : Decoder α) (throw z') := by
  intro k x k' e
  cases e
theorem dk_u1 (hw : ∀ k, k < w.size → b[pc + k]? = w[k]?) : dk_Sh b w pc (Reader.u1 : Decoder Nat) Reader.u1 := by
  intro k x k' e
  have e1 : ∀ (B : ByteArray) (q : Nat), Reader.runAt (Reader.u1 : Decoder Nat) B q = if h : q < B.size then .ok (B[q].toNat, q + 1) else .error (HasTruncated.truncated q) := by
    intro B q
    show Reader.runAt (if h : q < B.size then ((set (q + 1) >>= fun _ => pure B[q].toNat) : Decoder Nat) else throw (HasTruncated.truncated q)) B q = _
    split <;> rfl
  rw [e1] at e ⊢
  by_cases h : k < w.size
  · rw [dif_pos h] at e
    have hq := hw k h
    have hb : pc + k < b.size := by
      rcases Nat.lt_or_ge (pc + k) b.size with q | q
      · exact q
      · rw [getElem?_neg b (pc + k) (by omega), getElem?_pos w k h] at hq
        cases hq
    rw [getElem?_pos b (pc + k) hb, getElem?_pos w k h] at hq
    rw [dif_pos hb]
    cases e
    rw [Option.some.inj hq]
    rfl
  · rw [dif_neg h] at e
    cases e
theorem dk_s1 (hw : ∀ k, k < w.size → b[pc + k]? = w[k]?) : dk_Sh b w pc (Reader.s1 : Decoder Int) Reader.s1 := dk_map _ (dk_u1 hw)
theorem dk_u2 (hw : ∀ k, k < w.size → b[pc + k]? = w[k]?) : dk_Sh b w pc (Reader.u2 : Decoder Nat) Reader.u2 :=
  dk_bind (dk_u1 hw) fun _ => dk_bind (dk_u1 hw) fun _ => dk_pure _
theorem dk_s2 (hw : ∀ k, k < w.size → b[pc + k]? = w[k]?) : dk_Sh b w pc (Reader.s2 : Decoder Int) Reader.s2 := dk_map _ (dk_u2 hw)
theorem dk_newarray (hw : ∀ k, k < w.size → b[pc + k]? = w[k]?) (q : Nat) : dk_Sh b w pc (Decoder.newarray q) (Decoder.newarray pc) := by
  unfold Decoder.newarray
  refine dk_bind (dk_u1 hw) fun a => ?_
  split <;> first | exact dk_pure _ | exact dk_throw _ _
/-- the opcodes that this looks at -/
def dk_op (n : Nat) : Bool := n != 170 && n != 171 && n != 185 && n != 186 && n != 196 && n != 197 && n != 200 && n != 201
set_option maxRecDepth 100000 in
set_option maxHeartbeats 20000000 in
theorem dk_instr (hw : ∀ k, k < w.size → b[pc + k]? = w[k]?) (q : Nat) (h0 : 0 < w.size) (hop : dk_op (w[0]'h0).toNat = true) (a : Instr) (k' : Nat) (h : Reader.runAt (Decoder.instr q) w 0 = .ok (a, k')) : Reader.runAt (Decoder.instr pc) b pc = .ok (a, pc + k') := by
  have e1 : Reader.runAt (Reader.u1 : Decoder Nat) w 0 = .ok ((w[0]'h0).toNat, 1) := by
    show Reader.runAt (if h : 0 < w.size then ((set (0 + 1) >>= fun _ => pure w[0].toNat) : Decoder Nat) else throw (HasTruncated.truncated 0)) w 0 = _
    rw [dif_pos h0]
    rfl
  have e2 := dk_u1 hw 0 _ _ e1
  rw [Nat.add_zero] at e2
  generalize (w[0]'h0).toNat = n at *
  unfold Decoder.instr at h ⊢
  have b1 : ∀ (f : Nat → Decoder Instr), Reader.runAt (Reader.u1 >>= f) w 0 = Reader.runAt (f n) w 1 := by
    intro f
    show (Reader.runAt Reader.u1 w 0 >>= fun q => Reader.runAt (f q.1) w q.2) = _
    rw [e1]
    rfl
  have b2 : ∀ (f : Nat → Decoder Instr), Reader.runAt (Reader.u1 >>= f) b pc = Reader.runAt (f n) b (pc + 1) := by
    intro f
    show (Reader.runAt Reader.u1 b pc >>= fun q => Reader.runAt (f q.1) b q.2) = _
    rw [e2]
    rfl
  rw [b1] at h
  rw [b2]
  have key : ∀ {r r' : Decoder Instr}, dk_Sh b w pc r r' → Reader.runAt r w 1 = .ok (a, k') → Reader.runAt r' b (pc + 1) = .ok (a, pc + k') := fun hs hh => hs 1 a k' hh
  split at h <;> first
    | exact key (dk_pure _) h
    | exact key (dk_bind (dk_u1 hw) fun _ => dk_pure _) h
    | exact key (dk_bind (dk_s1 hw) fun _ => dk_pure _) h
    | exact key (dk_bind (dk_u2 hw) fun _ => dk_pure _) h
    | exact key (dk_bind (dk_s2 hw) fun _ => dk_pure _) h
    | exact key (dk_bind (dk_u1 hw) fun _ => dk_bind (dk_s1 hw) fun _ => dk_pure _) h
    | exact key (dk_newarray hw q) h
    | (exfalso; revert hop; decide)
    | cases h
end
