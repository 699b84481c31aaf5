/-! THE COMPONENT'S RESOLVER: a text -/
section
variable {G : Gh} {d : Nat} {W N : Nat → Prop} {h h1 h2 h3 h5 h' : AH} {ts : List (Nat × Nat × Nat)} {t i n nb nb' nb1 nb2 r q g fr ba lo hi m m0 m1 m2 lo1 hi1 b k c arr : Nat} {v : Int} {Z Z' Z1 Z2 : Zt} {D D' D1 D2 : Dm} {O : List (Nat × Nat) × List (Nat × Nat)} {s s0 s' s1 s2 s5 : RSt} {x y e x' a' b' : Tr} {l l1 l2 ds : List Tr}
/-- behind the names of a text -/
def tP (G : Gh) (W : Nat → Prop) (ts : List (Nat × Nat × Nat)) (O : List (Nat × Nat) × List (Nat × Nat)) (h : AH) (Z : Zt) (D : Dm) (nb hi r : Nat) (F : List Tr) (s' : RSt) : Outcome → AH → Prop := fun o h' => o = .returned none ∧ ∃ Z' D' nb', RS G W h' ts Z' O s' nb' ∧ WB G W h' ∧ VD s' D' ∧ (RowL W h' r F.length ∧ TG (XA ts W O Z' D' h') W h' (rowAt h' r) F ∧ TR 0 hi (ls F)) ∧ KW W 0 hi h h' ∧ Ext Z Z' D D' ∧ (∀ t, D'.1 t → D.1 t ∨ t < hi) ∧ VN ts s' ∧ nb' ≤ 18200 ∧ pU h' nb' ≤ pU h nb + 200 * hi ∧ Le h h' none
/-- THE NAMES OF A TEXT: what its resolving leaves is what the law says -/
theorem c_tres (hDr : DR G W ts O n d) (ri : rI G W ts O h Z D s nb 0 hi) (hWq : W q) (hk : hK h q = 17) (e0 : fR h q 298 = some r) (e1 : fR h q 299 = none) (rl : RowL W h r ds.length) (tg : TG (X0 ts W h) W h (rowAt h r) ds) (hw : wf (Kd ts) (ls ds) 0 hi) (hl : ∀ y, y ∈ ds → shE (Vl ts) n 2 y) :
    C G mX17_resolve (d + 7) [.ref q, .ref (gW G 4)] h (tP G W ts O h Z D nb hi r (rLs (rs (Pl ts) (knO O) n 2) ds s).1 (rLs (rs (Pl ts) (knO O) n 2) ds s).2) := by
  obtain ⟨ba, b1', b2', b3, b5, b6, b7, b8, b9, b10, b11⟩ := ri.1.2.2.2.1
  obtain ⟨⟨U, t1, ⟨n85, r85⟩, t3⟩, -⟩ := ri.1.2.2.2.2.2.1
  obtain ⟨n86, r86⟩ := ri.1.2.2.2.2.1.1
  refine bX17_resolve G (d + 6) h _ _ (ri.1.1.1.at (by decide)) ?_
  rintro _ rfl
  refine bX9_namesMany G (d + 6) h _ (ri.1.1.1.at (by decide)) (KI.i ?_)
  refine bX9_consMany G (d + 6) h _ (ri.1.1.1.at (by decide)) (KI.i ?_)
  refine row17 (m0 := 0) (F := (rLs (rs (Pl ts) (knO O) n 2) ds s).1) (sF := (rLs (rs (Pl ts) (knO O) n 2) ds s).2) hDr ri hWq hk e0 rl (fun m h1 Z1 D1 nb1 M L => ?_) ds [] 0 h s Z D nb (rM.ini ri (Nat.le_refl _) (Nat.zero_le _)) (LZ.ini (fun j x hx => tg j x hx) hw (Nat.zero_le _)) hl (by simp) rfl rfl
  have u1 := (M.2.2.2.1.2 q hWq).1
  have hb1 : fR h1 q 299 = none := ((u1.2.2.2.2.2 299 (by decide)).2.2).trans e1
  obtain ⟨tgF, trF⟩ := L.fin
  obtain ⟨rl1, ra1, -⟩ := rl.mvs (N' := W) (h' := h1) fun a ha _ => ⟨(M.2.2.2.1.2 a ha).1, ha⟩
  obtain ⟨c1, c2, c3, c4, c5, c6, c7, c8, c9, c10, c11, c12⟩ := M
  refine ⟨fun _ => ?_, fun b z => (by rw [hb1] at z; cases z)⟩
  exact ⟨rfl, Z1, D1, nb1, c1, c2, c3, ⟨(rLs_ln (F := rs (Pl ts) (knO O) n 2) ds s) ▸ rl1, by rw [funext ra1]; exact tgF, trF⟩, c4, c5, fun t ht => (c6 t ht).imp_right fun z => by omega, c7, c8, by omega, c10⟩
end
