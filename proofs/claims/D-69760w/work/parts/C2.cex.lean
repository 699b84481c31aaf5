/-! THE COMPONENT'S READER: expressions, helps -/
section
variable {G : Gh} {d : Nat} {h h0 h1 h2 h3 h4 h' : AH} {ts : List (Nat × Nat × Nat)} {s s1 s2 s4 : St} {D k i q a b t r n p arr : Nat} {N : Nat → Prop} {E : String} {x y e p0 : Tr} {l vs : List Tr} {bs : List Nat} {P : Nat → Nat → St → Except Nat (Tr × St)}
theorem CT_exp (hk : hK h q = k + 1) (hm : k = 16 ∨ k = 29 ∨ k = 30 ∨ k = 31 ∨ k = 32 ∨ k = 33 ∨ k = 34 ∨ k = 35 ∨ k = 36 ∨ k = 37 ∨ k = 38 ∨ k = 39 ∨ k = 40 ∨ k = 41 ∨ k = 43) : CT h q "LetMill$Exp" := by
  refine ⟨k, by omega, hk, ?_⟩
  rcases hm with rfl | rfl | rfl | rfl | rfl | rfl | rfl | rfl | rfl | rfl | rfl | rfl | rfl | rfl | rfl <;> decide
theorem CS.ups (c : CS G h ts D s) (hd : D < 900) (e : h' = pI h (gW G 7) 116 (fI h (gW G 7) 116 + 1)) : CS G h' ts (D + 1) s ∧ KP h h' ∧ un h' = un h := by
  subst e
  exact ⟨c.up hd, kp_rd (by decide), rfl⟩
theorem CS.dns (c : CS G h ts (D + 1) s) (e : h' = pI h (gW G 7) 116 (fI h (gW G 7) 116 - 1)) : CS G h' ts D s ∧ KP h h' ∧ un h' = un h := by
  subst e
  exact ⟨c.dn, kp_rd (by decide), rfl⟩
theorem CS.p0s (c : CS G h ts D s) (e : h' = pI h (gW G 7) 118 0) : CS G h' ts D (s.1, s.2.1, 0) ∧ KP h h' ∧ un h' = un h := by
  subst e
  exact ⟨c.p0, kp_rd (by decide), rfl⟩
theorem CS.bks (c : CS G h ts D s) (h1 : 1 ≤ s.1) (e : h' = pI h (gW G 7) 115 (fI h (gW G 7) 115 - 1)) : CS G h' ts D (s.1 - 1, s.2) ∧ KP h h' ∧ un h' = un h := by
  subst e
  exact ⟨c.bk h1, kp_rd (by decide), rfl⟩
/-- a new object is the answer -/
theorem fin_nd {cc p : Nat} {tr : Tr} (pA : KP h h1) (c : CS G h1 ts D s) (hq : hK h1 q = 0) (w : WQ q (nO h1 q cc) h2) (ot : OT ts (fun a => hK h a = 0) h2 tr 0 0 q) (ct : CT h2 q E) (hp : p < s.1) (hu : un h1 + 136 + (ftab cc).length ≤ un h + 200 * (s.1 - p)) : cP G h ts D p E (.ok (tr, s)) (.returned (some (.ref q))) h2 :=
  ⟨w.kp (pA.nO hq) (pA.fresh hq), q, rfl, w.cs (c.nO hq) (c.1.nw hq), ot, ct, hp, by rw [w.un, un_nO]; omega⟩
theorem fI_eI {p : Int32} : fI (eI h q p) q 296 = p := by
  unfold eI
  rw [fI_pI, if_pos ⟨rfl, rfl⟩]
theorem fR_eI {p : Int32} : fR (eI h q p) = fR h := rfl
theorem hK_eI {p : Int32} : hK (eI h q p) = hK h := rfl
theorem WQ.eI {p : Int32} (w : WQ q h h1) : WQ q h (eI h1 q p) := w.pI.pI
theorem c_X17 {p : Int32} {v0 v1 : Nat} (hk : hK h a = 17) : C G mX17_init (d + 2) [.ref a, .int p, .ref v0, .ref v1] h (fun o h' => o = .returned none ∧ h' = pR (pR (eI h a p) a 298 (some v0)) a 299 (some v1)) := by
  refine bX17_init G (d + 1) h _ _ _ _ (some v1) ⟨fun e => (by cases e), fun v e => ?_⟩
  cases e
  refine C.mono (c_X16 (hf_of 16 hk rfl (by decide) (by decide)) (hf_of 16 hk rfl (by decide) (by decide))) ?_
  rintro _ _ ⟨rfl, rfl⟩
  refine KV.i ⟨hk, ?_⟩
  rintro _ rfl _ rfl
  exact ⟨rfl, rfl⟩
theorem c_X29 {p : Int32} (hf : HF h a 313 0) : C G mX29_init (d + 1) [.ref a, .int p] h (fun o h' => o = .returned none ∧ h' = pI h a 313 p) := bX29_init G (d + 1) (Nat.le_add_left _ _) h _ _ _ ⟨hf, fun _ e => ⟨rfl, e⟩⟩
theorem c_X30 {p : Int32} {v0 v1 : Nat} (hk : hK h a = 28) : C G mX30_init (d + 2) [.ref a, .int p, .ref v0, .ref v1] h (fun o h' => o = .returned none ∧ h' = pR (pR (pI h a 313 p) a 314 (some v0)) a 315 (some v1)) := by
  refine bX30_init G (d + 1) h _ _ _ _ _ (C.mono (c_X29 (hf_of 27 hk rfl (by decide) (by decide))) ?_)
  rintro _ _ ⟨rfl, rfl⟩
  refine KV.i ⟨hk, ?_⟩
  rintro _ rfl _ rfl
  exact ⟨rfl, rfl⟩
theorem c_X49 {p : Int32} {v0 : Nat} (hk : hK h a = 46) : C G mX49_init (d + 2) [.ref a, .int p, .ref v0] h (fun o h' => o = .returned none ∧ h' = pR (pI h a 313 p) a 348 (some v0)) := by
  refine bX49_init G (d + 1) h _ _ _ _ (C.mono (c_X29 (hf_of 45 hk rfl (by decide) (by decide))) ?_)
  rintro _ _ ⟨rfl, rfl⟩
  exact KV.i ⟨hk, fun _ e => ⟨rfl, e⟩⟩
theorem c_X57 {p : Int32} {v0 : Nat} (hk : hK h a = 53) : C G mX57_init (d + 2) [.ref a, .int p, .ref v0] h (fun o h' => o = .returned none ∧ h' = pR (pI h a 313 p) a 364 (some v0)) := by
  refine bX57_init G (d + 1) h _ _ _ _ (C.mono (c_X29 (hf_of 52 hk rfl (by decide) (by decide))) ?_)
  rintro _ _ ⟨rfl, rfl⟩
  exact KV.i ⟨hk, fun _ e => ⟨rfl, e⟩⟩
theorem CT_dec (hk : hK h q = k + 1) (hm : k = 27 ∨ k = 45 ∨ k = 52) : CT h q "LetMill$Dec" := by
  refine ⟨k, by omega, hk, ?_⟩
  rcases hm with rfl | rfl | rfl <;> decide
theorem EX_cn {v : Int} (hk : k = 3 ∨ k = 4) (ht : t < 5000) (hf : fI h b (tf (hK h b)) = nI t) (h6 : (fI h b 330).toInt = v) (h7 : fI h b 329 = if k = 3 then 0 else 1) : EX ts N h k b (.add (.num t) (.num v)) := by
  refine ⟨?_, ?_, ?_, ⟨fun q => by omega, fun q => by omega, fun q => by omega⟩, fun q => by omega, fun q => by omega, fun q => by omega, fun q => by omega, fun t' y' e => ⟨fun q => by omega, fun q => by omega, fun q => ?_, fun q => by omega, fun q => by omega, fun q => by omega⟩⟩
  · show (0 : Int) ≤ (t : Nat); omega
  · show ((t : Nat) : Int) < 5000; omega
  · rw [hf, nI_toInt (by omega)]; rfl
  · cases e; exact ⟨v, rfl, h6, h7⟩
theorem EX_un (ht : t < 5000) (hf : fI h b (tf (hK h b)) = nI t) (h6 : fI h b 329 = 2) (h7 : fI h b 330 = 0) : EX ts N h 5 b (.num t) := by
  refine ⟨?_, ?_, ?_, ⟨fun q => ⟨h6, h7⟩, fun q => by omega, fun q => by omega⟩, fun q => by omega, fun q => by omega, fun q => by omega, fun q => by omega, fun t' y' e => (by cases e)⟩
  · show (0 : Int) ≤ (t : Nat); omega
  · show ((t : Nat) : Int) < 5000; omega
  · rw [hf, nI_toInt (by omega)]; rfl
theorem EX_bi (hk : k = 6 ∨ k = 7) (ht : t < 5000) (hf : fI h b (tf (hK h b)) = nI t) (h6 : fI h b 331 = if k = 6 then 2 else 3) : EX ts N h k b (.num t) := by
  refine ⟨?_, ?_, ?_, ⟨fun q => by omega, fun q => by omega, fun q => by omega⟩, fun q => by rw [h6, if_pos q], fun q => by rw [h6, if_neg (by omega)], fun q => by omega, fun q => by omega, fun t' y' e => (by cases e)⟩
  · show (0 : Int) ≤ (t : Nat); omega
  · show ((t : Nat) : Int) < 5000; omega
  · rw [hf, nI_toInt (by omega)]; rfl
theorem EX_sg (hk : k = 17 ∨ k = 18) (ht : t < 5000) (hf : fI h b (tf (hK h b)) = nI t) (h6 : fI h b 336 = if k = 17 then 286 else 64) : EX ts N h k b (.add (.num t) y) := by
  refine ⟨?_, ?_, ?_, ⟨fun q => by omega, fun q => by omega, fun q => by omega⟩, fun q => by omega, fun q => by omega, fun q => by rw [h6, if_pos q], fun q => by rw [h6, if_neg (by omega)], fun t' y' e => ⟨fun q => by omega, fun q => by omega, fun q => by omega, fun q => by omega, fun q => by omega, fun q => by omega⟩⟩
  · show (0 : Int) ≤ (t : Nat); omega
  · show ((t : Nat) : Int) < 5000; omega
  · rw [hf, nI_toInt (by omega)]; rfl
theorem EX_ch {so : Nat} {z : Tr} (ht : t < 5000) (hf : fI h b (tf (hK h b)) = nI t) (h6 : fR h b 342 = some so) (h7 : SgC N h so (sgs z)) : EX ts N h 16 b (.add (.num t) (.add y z)) := by
  refine ⟨?_, ?_, ?_, ⟨fun q => by omega, fun q => by omega, fun q => by omega⟩, fun q => by omega, fun q => by omega, fun q => by omega, fun q => by omega, fun t' y' e => ⟨fun q => by omega, fun q => by omega, fun q => by omega, fun q => by omega, fun q => ?_, fun q => by omega⟩⟩
  · show (0 : Int) ≤ (t : Nat); omega
  · show ((t : Nat) : Int) < 5000; omega
  · rw [hf, nI_toInt (by omega)]; rfl
  · cases e; exact ⟨y, z, so, rfl, h6, h7⟩
theorem c_bExp (c : CS G h ts D s) : C G mX12_beginsExp (d + 1) [.ref (gW G 7)] h (Ret (.int (b2 (isExp (Kd ts s.1)))) h) := by
  have hk := c.k4 c.2.2.2.1.2
  have yes : isExp (Kd ts s.1) = true → Ret (.int (b2 (isExp (Kd ts s.1)))) h (.returned (some (.int 1))) h := fun e => by rw [e]; exact ⟨rfl, rfl⟩
  have no : isExp (Kd ts s.1) = false → Ret (.int (b2 (isExp (Kd ts s.1)))) h (.returned (some (.int 0))) h := fun e => by rw [e]; exact ⟨rfl, rfl⟩
  refine bX12_beginsExp G d h _ (c.1.at (by decide)) (C.ri (c_kind c) ?_)
  have E : ∀ k : Nat, k < 300 → ((nI (Kd ts s.1) = nI k) = (Kd ts s.1 = k)) := fun k hk' => propext (nI_eq (by omega) (by omega))
  simp only [show (280 : Int32) = nI 280 from rfl, show (281 : Int32) = nI 281 from rfl, show (283 : Int32) = nI 283 from rfl, show (126 : Int32) = nI 126 from rfl, show (272 : Int32) = nI 272 from rfl, show (273 : Int32) = nI 273 from rfl, show (40 : Int32) = nI 40 from rfl, show (91 : Int32) = nI 91 from rfl, show (33 : Int32) = nI 33 from rfl, show (266 : Int32) = nI 266 from rfl, E 280 (by decide), E 281 (by decide), E 283 (by decide), E 126 (by decide), E 272 (by decide), E 273 (by decide), E 40 (by decide), E 91 (by decide), E 33 (by decide), E 266 (by decide)]
  exact ⟨fun z => yes (by rw [z]; rfl), fun z0 => ⟨fun z => yes (by rw [z]; rfl), fun z1 => ⟨fun z => yes (by rw [z]; rfl), fun z2 => ⟨fun z => yes (by rw [z]; rfl), fun z3 => ⟨fun z => yes (by rw [z]; rfl), fun z4 => ⟨fun z => yes (by rw [z]; rfl), fun z5 => ⟨fun z => yes (by rw [z]; rfl), fun z6 => ⟨fun z => yes (by rw [z]; rfl), fun z7 => ⟨fun z => yes (by rw [z]; rfl), fun z8 => ⟨fun z => yes (by rw [z]; rfl), fun z9 => no (by simp [isExp, z0, z1, z2, z3, z4, z5, z6, z7, z8, z9])⟩⟩⟩⟩⟩⟩⟩⟩⟩⟩
theorem c_isDc (c : CS G h ts D s) : C G mX12_isDec (d + 1) [.ref (gW G 7)] h (Ret (.int (b2 (isDc (Kd ts s.1)))) h) := by
  have hk := c.k4 c.2.2.2.1.2
  have yes : isDc (Kd ts s.1) = true → Ret (.int (b2 (isDc (Kd ts s.1)))) h (.returned (some (.int 1))) h := fun e => by rw [e]; exact ⟨rfl, rfl⟩
  have no : isDc (Kd ts s.1) = false → Ret (.int (b2 (isDc (Kd ts s.1)))) h (.returned (some (.int 0))) h := fun e => by rw [e]; exact ⟨rfl, rfl⟩
  refine bX12_isDec G d h _ (c.1.at (by decide)) (C.ri (c_kind c) ?_)
  rw [show (274 : Int32) = nI 274 from rfl, nI_eq (by omega) (by decide)]
  refine ⟨fun z => yes (by rw [z]; rfl), fun z0 => C.ri (c_kind c) ?_⟩
  rw [show (263 : Int32) = nI 263 from rfl, nI_eq (by omega) (by decide)]
  refine ⟨fun z => yes (by rw [z]; rfl), fun z1 => C.ri (c_kind c) ?_⟩
  rw [show (258 : Int32) = nI 258 from rfl, nI_eq (by omega) (by decide)]
  exact ⟨fun z => yes (by rw [z]; rfl), fun z2 => no (by simp [isDc, z0, z1, z2])⟩
theorem c_lvl (hk : k < 300) : C G mX12_levelOf d [.int (nI k)] h (Ret (.int (nI (lvl k))) h) := by
  have E : ∀ j : Nat, j < 300 → ((nI k = nI j) = (k = j)) := fun j hj => propext (nI_eq (by omega) (by omega))
  refine bX12_levelOf G d h _ _ ?_
  simp only [show (42 : Int32) = nI 42 from rfl, show (43 : Int32) = nI 43 from rfl, show (45 : Int32) = nI 45 from rfl, show (60 : Int32) = nI 60 from rfl, show (61 : Int32) = nI 61 from rfl, show (62 : Int32) = nI 62 from rfl, show (64 : Int32) = nI 64 from rfl, show (259 : Int32) = nI 259 from rfl, show (267 : Int32) = nI 267 from rfl, show (269 : Int32) = nI 269 from rfl, show (270 : Int32) = nI 270 from rfl, show (286 : Int32) = nI 286 from rfl, show (287 : Int32) = nI 287 from rfl, show (288 : Int32) = nI 288 from rfl, show (289 : Int32) = nI 289 from rfl, show (290 : Int32) = nI 290 from rfl, E 42 (by decide), E 43 (by decide), E 45 (by decide), E 60 (by decide), E 61 (by decide), E 62 (by decide), E 64 (by decide), E 259 (by decide), E 267 (by decide), E 269 (by decide), E 270 (by decide), E 286 (by decide), E 287 (by decide), E 288 (by decide), E 289 (by decide), E 290 (by decide)]
  refine ⟨?_, ?_, ?_, ?_, ?_, ?_, ?_, ?_, ?_, ?_, ?_, ?_, ?_, ?_, ?_, ?_, fun z => ?_⟩
  all_goals first
    | (rintro rfl; exact ⟨rfl, rfl⟩)
    | (have e : lvl k = 0 := by
        obtain ⟨z1, z2, z3, z4, z5, z6, z7, z8, z9, z10, z11, z12, z13, z14, z15, z16⟩ := z
        simp [lvl, z1, z2, z3, z4, z5, z6, z7, z8, z9, z10, z11, z12, z13, z14, z15, z16]
       rw [e]
       exact ⟨rfl, rfl⟩)
/-- a clause's tree -/
theorem cl_ot {pv : Tr} {ps : List Tr} {be : Nat} (hN : N q) (hk : hK h q = 29) (ht : t < 5000) (h16 : fI h q 316 = nI t) (h17 : fR h q 317 = some arr) (h18 : fR h q 318 = some be) (hA : hK h arr = 1008 ∧ N arr) (tl : TL ts N h ps bs) (hl : hL h arr = ps.length) (ha : ∀ j b, bs[j]? = some b → aR h arr j = some b) (oe : OT ts N h e 0 0 be) (hpv : ∃ v, pv = .num v) : OT ts N h (n3 50 t pv (ls ps) e) 0 0 q :=
  OT_nd (k := 50) hN (by rw [hk]; decide) (EX_pl (by decide) ht (by rw [hk]; exact h16)) (OT_c2 (by decide) (by decide) (OT_7 (Or.inl hpv)) (OT_c2 (by decide) (by decide) (OT_arr tl ⟨h17, hA.1, hA.2⟩ hl ha) ((OT_ef (m' := 1) (i' := 318) (by decide) (by decide)).mpr (OT_f h18 oe)))) (by decide)
end
