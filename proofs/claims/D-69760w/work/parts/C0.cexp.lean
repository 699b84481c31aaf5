/-! THE COMPONENT'S READER: the constructors of expressions (printed by tools/mkexp.py) -/
def eI (h : AH) (a : Nat) (p : Int32) : AH := pI (pI h a 297 (-1)) a 296 p
section
variable {G : Gh} {d : Nat} {h : AH} {a : Nat}
theorem c_X16 {p : Int32} (f1 : HF h a 297 0) (f2 : HF h a 296 0) : C G mX16_init (d + 1) [.ref a, .int p] h (fun o h' => o = .returned none ∧ h' = eI h a p) := by
  refine bX16_init G (d + 1) (Nat.le_add_left _ _) h _ _ _ ⟨f1, ?_⟩
  rintro _ rfl
  refine ⟨f2, ?_⟩
  rintro _ rfl
  exact ⟨rfl, rfl⟩
theorem c_X40 {p : Int32} {v0 : Nat} (f1 : HF h a 297 0) (f2 : HF h a 296 0) (f3 : HF h a 333 2) : C G mX40_init (d + 2) [.ref a, .int p, .ref v0] h (fun o h' => o = .returned none ∧ h' = pR (eI h a p) a 333 (some v0)) := by
  refine bX40_init G (d + 1) h _ _ _ _ (C.mono (c_X16 f1 f2) ?_)
  rintro _ _ ⟨rfl, rfl⟩
  refine KV.i ⟨f3, ?_⟩
  rintro _ rfl
  exact ⟨rfl, rfl⟩
theorem c_X32 {p : Int32} {v0 : Nat} (hk : hK h a = 30) : C G mX32_init (d + 2) [.ref a, .int p, .ref v0] h (fun o h' => o = .returned none ∧ h' = pR (eI h a p) a 319 (some v0)) := by
  refine bX32_init G (d + 1) h _ _ _ _ (C.mono (c_X16 (hf_of 29 hk rfl (by decide) (by decide)) (hf_of 29 hk rfl (by decide) (by decide))) ?_)
  rintro _ _ ⟨rfl, rfl⟩
  refine KV.i ⟨hk, ?_⟩
  rintro _ rfl
  exact ⟨rfl, rfl⟩
theorem c_X33 {p : Int32} {v0 : Nat} {v1 : Nat} (hk : hK h a = 31) : C G mX33_init (d + 2) [.ref a, .int p, .ref v0, .ref v1] h (fun o h' => o = .returned none ∧ h' = pR (pR (eI h a p) a 321 (some v0)) a 322 (some v1)) := by
  refine bX33_init G (d + 1) h _ _ _ _ _ (C.mono (c_X16 (hf_of 30 hk rfl (by decide) (by decide)) (hf_of 30 hk rfl (by decide) (by decide))) ?_)
  rintro _ _ ⟨rfl, rfl⟩
  refine KV.i ⟨hk, ?_⟩
  rintro _ rfl _ rfl
  exact ⟨rfl, rfl⟩
theorem c_X34 {p : Int32} {v0 : Nat} {v1 : Nat} {v2 : Nat} (hk : hK h a = 32) : C G mX34_init (d + 2) [.ref a, .int p, .ref v0, .ref v1, .ref v2] h (fun o h' => o = .returned none ∧ h' = pR (pR (pR (eI h a p) a 323 (some v0)) a 324 (some v1)) a 325 (some v2)) := by
  refine bX34_init G (d + 1) h _ _ _ _ _ _ (C.mono (c_X16 (hf_of 31 hk rfl (by decide) (by decide)) (hf_of 31 hk rfl (by decide) (by decide))) ?_)
  rintro _ _ ⟨rfl, rfl⟩
  refine KV.i ⟨hk, ?_⟩
  rintro _ rfl _ rfl _ rfl
  exact ⟨rfl, rfl⟩
theorem c_X35 {p : Int32} (hk : hK h a = 33) : C G mX35_init (d + 2) [.ref a, .int p] h (fun o h' => o = .returned none ∧ h' = eI h a p) := by
  refine bX35_init G (d + 1) h _ _ _ (C.mono (c_X16 (hf_of 32 hk rfl (by decide) (by decide)) (hf_of 32 hk rfl (by decide) (by decide))) ?_)
  rintro _ _ ⟨rfl, rfl⟩
  exact KV.i ⟨rfl, rfl⟩
theorem c_X36 {p : Int32} (hk : hK h a = 34) : C G mX36_init (d + 2) [.ref a, .int p] h (fun o h' => o = .returned none ∧ h' = eI h a p) := by
  refine bX36_init G (d + 1) h _ _ _ (C.mono (c_X16 (hf_of 33 hk rfl (by decide) (by decide)) (hf_of 33 hk rfl (by decide) (by decide))) ?_)
  rintro _ _ ⟨rfl, rfl⟩
  exact KV.i ⟨rfl, rfl⟩
theorem c_X37 {p : Int32} {v0 : Int32} {v1 : Int32} (hk : hK h a = 35) : C G mX37_init (d + 2) [.ref a, .int p, .int v0, .int v1] h (fun o h' => o = .returned none ∧ h' = pI (pI (eI h a p) a 329 v0) a 330 v1) := by
  refine bX37_init G (d + 1) h _ _ _ _ _ (C.mono (c_X16 (hf_of 34 hk rfl (by decide) (by decide)) (hf_of 34 hk rfl (by decide) (by decide))) ?_)
  rintro _ _ ⟨rfl, rfl⟩
  refine KV.i ⟨hk, ?_⟩
  rintro _ rfl _ rfl
  exact ⟨rfl, rfl⟩
theorem c_X38 {p : Int32} {v0 : Int32} (hk : hK h a = 36) : C G mX38_init (d + 2) [.ref a, .int p, .int v0] h (fun o h' => o = .returned none ∧ h' = pI (eI h a p) a 331 v0) := by
  refine bX38_init G (d + 1) h _ _ _ _ (C.mono (c_X16 (hf_of 35 hk rfl (by decide) (by decide)) (hf_of 35 hk rfl (by decide) (by decide))) ?_)
  rintro _ _ ⟨rfl, rfl⟩
  refine KV.i ⟨hk, ?_⟩
  rintro _ rfl
  exact ⟨rfl, rfl⟩
theorem c_X39 {p : Int32} {v0 : Nat} (hk : hK h a = 37) : C G mX39_init (d + 2) [.ref a, .int p, .ref v0] h (fun o h' => o = .returned none ∧ h' = pR (eI h a p) a 332 (some v0)) := by
  refine bX39_init G (d + 1) h _ _ _ _ (C.mono (c_X16 (hf_of 36 hk rfl (by decide) (by decide)) (hf_of 36 hk rfl (by decide) (by decide))) ?_)
  rintro _ _ ⟨rfl, rfl⟩
  refine KV.i ⟨hk, ?_⟩
  rintro _ rfl
  exact ⟨rfl, rfl⟩
theorem c_X44 {p : Int32} {v0 : Nat} {v1 : Nat} (hk : hK h a = 41) : C G mX44_init (d + 2) [.ref a, .int p, .ref v0, .ref v1] h (fun o h' => o = .returned none ∧ h' = pR (pR (eI h a p) a 334 (some v0)) a 335 (some v1)) := by
  refine bX44_init G (d + 1) h _ _ _ _ _ (C.mono (c_X16 (hf_of 40 hk rfl (by decide) (by decide)) (hf_of 40 hk rfl (by decide) (by decide))) ?_)
  rintro _ _ ⟨rfl, rfl⟩
  refine KV.i ⟨hk, ?_⟩
  rintro _ rfl _ rfl
  exact ⟨rfl, rfl⟩
theorem c_X45 {p : Int32} {v0 : Int32} {v1 : Nat} {v2 : Nat} (hk : hK h a = 42) : C G mX45_init (d + 2) [.ref a, .int p, .int v0, .ref v1, .ref v2] h (fun o h' => o = .returned none ∧ h' = pR (pR (pI (eI h a p) a 336 v0) a 337 (some v1)) a 338 (some v2)) := by
  refine bX45_init G (d + 1) h _ _ _ _ _ _ (C.mono (c_X16 (hf_of 41 hk rfl (by decide) (by decide)) (hf_of 41 hk rfl (by decide) (by decide))) ?_)
  rintro _ _ ⟨rfl, rfl⟩
  refine KV.i ⟨hk, ?_⟩
  rintro _ rfl _ rfl _ rfl
  exact ⟨rfl, rfl⟩
theorem c_X47 {p : Int32} {v0 : Nat} {v1 : Nat} {v2 : Nat} (hk : hK h a = 44) : C G mX47_init (d + 2) [.ref a, .int p, .ref v0, .ref v1, .ref v2] h (fun o h' => o = .returned none ∧ h' = pR (pR (pR (eI h a p) a 341 (some v0)) a 342 (some v1)) a 343 (some v2)) := by
  refine bX47_init G (d + 1) h _ _ _ _ _ _ (C.mono (c_X16 (hf_of 43 hk rfl (by decide) (by decide)) (hf_of 43 hk rfl (by decide) (by decide))) ?_)
  rintro _ _ ⟨rfl, rfl⟩
  refine KV.i ⟨hk, ?_⟩
  rintro _ rfl _ rfl _ rfl
  exact ⟨rfl, rfl⟩
theorem c_X41 {p : Int32} {v0 : Nat} (hk : hK h a = 38) : C G mX41_init (d + 3) [.ref a, .int p, .ref v0] h (fun o h' => o = .returned none ∧ h' = pR (eI h a p) a 333 (some v0)) := by
  refine bX41_init G (d + 2) h _ _ _ _ (C.mono (c_X40 (d := d) (hf_of 37 hk rfl (by decide) (by decide)) (hf_of 37 hk rfl (by decide) (by decide)) (hf_of 37 hk rfl (by decide) (by decide))) ?_)
  rintro _ _ ⟨rfl, rfl⟩
  exact KV.i ⟨rfl, rfl⟩
theorem c_X42 {p : Int32} {v0 : Nat} (hk : hK h a = 39) : C G mX42_init (d + 3) [.ref a, .int p, .ref v0] h (fun o h' => o = .returned none ∧ h' = pR (eI h a p) a 333 (some v0)) := by
  refine bX42_init G (d + 2) h _ _ _ _ (C.mono (c_X40 (d := d) (hf_of 38 hk rfl (by decide) (by decide)) (hf_of 38 hk rfl (by decide) (by decide)) (hf_of 38 hk rfl (by decide) (by decide))) ?_)
  rintro _ _ ⟨rfl, rfl⟩
  exact KV.i ⟨rfl, rfl⟩
theorem c_X43 {p : Int32} {v0 : Nat} (hk : hK h a = 40) : C G mX43_init (d + 3) [.ref a, .int p, .ref v0] h (fun o h' => o = .returned none ∧ h' = pR (eI h a p) a 333 (some v0)) := by
  refine bX43_init G (d + 2) h _ _ _ _ (C.mono (c_X40 (d := d) (hf_of 39 hk rfl (by decide) (by decide)) (hf_of 39 hk rfl (by decide) (by decide)) (hf_of 39 hk rfl (by decide) (by decide))) ?_)
  rintro _ _ ⟨rfl, rfl⟩
  exact KV.i ⟨rfl, rfl⟩
theorem c_X31 {p : Int32} {v0 v1 : Nat} (hk : hK h a = 29) : C G mX31_init (d + 1) [.ref a, .int p, .ref v0, .ref v1] h (fun o h' => o = .returned none ∧ h' = pR (pR (pI h a 316 p) a 317 (some v0)) a 318 (some v1)) := by
  refine bX31_init G (d + 1) (Nat.le_add_left _ _) h _ _ _ _ _ ⟨hk, ?_⟩
  rintro _ rfl _ rfl _ rfl
  exact ⟨rfl, rfl⟩
end
