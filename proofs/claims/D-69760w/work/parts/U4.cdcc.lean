/-! THE COMPONENT'S TYPER: declared -/
section
variable {G : Gh} {c : Cx} {P P0 : Nat → Prop} {s s1 : Sx} {us vs pd L : List Nat} {b tok D : Nat} {Z : En → List Tr → Nu → Prop}
/-- the end of `declared` -/
def DlQ (G : Gh) (c : Cx) (P : Nat → Prop) (s s1 : Sx) (L pd : List Nat) (b tok : Nat) (Z : En → List Tr → Nu → Prop) (R : En → En → Prop) : Outcome → AH → Prop := fun o h' => (tBig (fun ν => ∃ γ u, Z γ u ν) ∧ Ft G c s (fun t => t ∈ L) b (6, tok) o h') ∨ (¬ tBig (fun ν => ∃ γ u, Z γ u ν) ∧ o = .returned none ∧ ∃ s2, Sx.h s2 = h' ∧ Sx.ws s2 = s1.ws ∧ Sx.rc s2 = s1.rc ∧ pot (Sx.h s2) (Sx.cap s2) = pot s1.h s1.cap ∧ Dn G c P s (fun t => t ∈ L) s2 (b + 1) R ∧ (∀ t, t ∈ pd → ∃ σ, (t, σ) ∈ Sx.E s2) ∧ ∀ a, P a → Uf s1.h h' a)
theorem c_declN (k : XS G c P0 s) (r : Rpn G c P s (fun t => t ∈ L) s1 us vs pd b Z) (hpd : ∀ t, t ∈ pd → t ∈ L) (ht : tok < c.ts.length) (hb : BdX c s (b + 1)) (hD5 : 70 ≤ D) : C G mX11_declared (D + 1) [.ref (gW G 6), .int (nI s.E.length), .int (nI tok), .int 0] s1.h (DlQ G c P s s1 L pd b tok Z fun γ γ' => ∃ u ν, Z γ u ν ∧ γ' = updL γ ν) := by
  obtain ⟨r1, r2, r3, ⟨r4, r4'⟩, r5, r6, r7⟩ := id r
  obtain ⟨u1, u2, u3, u4, u5⟩ := hb
  have hun : un s1.h ≤ pot s1.h s1.cap := by unfold pot; omega
  refine C.use (Q := fun o h' => (∃ (i v : Nat) (q : Nat), vs[i]? = some v ∧ (∀ ρ, Sl s1.M s1.t ρ → 60 < gsz (ρ v)) ∧ o = .threw q ∧ FIe G c.Z (fun _ => False) s1.rc c.Ct.length s1.h h' ∧ FtA h' c.ts q 6 tok ∧ un h' = un s1.h + 24) ∨ (∃ ρ, Sl s1.M s1.t ρ ∧ (∀ v, v ∈ vs → gsz (ρ v) ≤ 60) ∧ o = .returned none ∧ h' = s1.h)) (c_dec3 r3 r4 r4' ht (by omega) hD5 (fun i v hv hb q h' f1 f2 f3 => Or.inl ⟨i, v, q, hv, hb, rfl, f1, f2, f3⟩) fun ρ hρ hle => ⟨fun _ => Or.inr ⟨ρ, hρ, hle, rfl, rfl⟩, fun z => absurd rfl z⟩) (by decide) ?_
  rintro o h' (⟨i, v, q, hv, hbg, rfl, f1, f2, f3⟩ | ⟨ρ, hρ, hle, rfl, rfl⟩) l -
  · refine Or.inl ⟨(r.big k).mpr ⟨i, v, hv, hbg⟩, r1.tr k.sA ((FIn.wk (B := fun _ => False) ⟨l.weak (by decide +kernel), f1⟩ fun _ w => w.elim).rc_le r5), q, rfl, f2, by omega⟩
  · refine Or.inr ⟨fun w => ?_, rfl, s1, rfl, rfl, rfl, rfl, (r.dn k hpd).wk (Nat.le_succ _) fun _ h => h, fun t ht' => ?_, fun a _ => Uf.rf⟩
    · obtain ⟨i, v, hv, hbg⟩ := (r.big k).mp w
      have := hbg ρ hρ
      have := hle v (List.mem_of_getElem? hv)
      omega
    · obtain ⟨i, hi⟩ := List.getElem?_of_mem ht'
      have hil := (List.getElem?_eq_some_iff.mp hi).1
      obtain ⟨v, hv⟩ : ∃ v, vs[i]? = some v := ⟨_, List.getElem?_eq_getElem (by omega)⟩
      refine ⟨.var v, ?_⟩
      rw [r4]
      refine List.mem_append_right _ (List.mem_of_getElem? (i := i) ?_)
      rw [List.getElem?_zip_eq_some]
      exact ⟨hi, by rw [List.getElem?_map, hv]; rfl⟩
theorem c_declG (k : XS G c P0 s) (r : Rpn G c P s (fun t => t ∈ L) s1 us vs pd b Z) (hf : Frs s.h c.Z c.D s.E L) (hpd : ∀ t, t ∈ pd → t ∈ L) (ht : tok < c.ts.length) (hb : BdX c s (b + 1)) (hD5 : 70 ≤ D) : C G mX11_declared (D + 1) [.ref (gW G 6), .int (nI s.E.length), .int (nI tok), .int 1] s1.h (DlQ G c P s s1 L pd b tok Z fun γ γ' => (∃ u ν, Z γ u ν) ∧ γ' = updS γ (gnS pd fun ν => ∃ u, Z γ u ν)) := by
  obtain ⟨r1, r2, r3, ⟨r4, r4'⟩, r5, r6, r7⟩ := id r
  obtain ⟨u1, u2, u3, u4, u5⟩ := hb
  obtain ⟨c1, c2, c3⟩ := r2.2.2.2.1
  have hun : un s1.h ≤ pot s1.h s1.cap := by unfold pot; omega
  refine C.use (Q := fun o h' => (∃ (i v : Nat) (q : Nat), vs[i]? = some v ∧ (∀ ρ, Sl s1.M s1.t ρ → 60 < gsz (ρ v)) ∧ o = .threw q ∧ FIe G c.Z (fun _ => False) s1.rc c.Ct.length s1.h h' ∧ FtA h' c.ts q 6 tok ∧ un h' = un s1.h + 24) ∨ (∃ ρ, Sl s1.M s1.t ρ ∧ (∀ v, v ∈ vs → gsz (ρ v) ≤ 60) ∧ o = .returned none ∧ RwG G c s1 s.E vs pd h')) (c_decl0 r3 r4 r4' (fun v hv => r2.2.2.1 v (List.mem_append_right _ hv)) ht (by omega) (by omega) hD5 (fun i v hv hb q h' f1 f2 f3 => Or.inl ⟨i, v, q, hv, hb, rfl, f1, f2, f3⟩) fun ρ h' hρ hle W => Or.inr ⟨ρ, hρ, hle, rfl, W⟩) (by decide) ?_
  rintro o h' (⟨i, v, q, hv, hbg, rfl, f1, f2, f3⟩ | ⟨ρ, hρ, hle, rfl, W⟩) l -
  · refine Or.inl ⟨(r.big k).mpr ⟨i, v, hv, hbg⟩, r1.tr k.sA ((FIn.wk (B := fun _ => False) ⟨l.weak (by decide +kernel), f1⟩ fun _ w => w.elim).rc_le r5), q, rfl, f2, by omega⟩
  · refine Or.inr ⟨fun w => ?_, rfl, r.gen k hf hpd W l hρ hle⟩
    obtain ⟨i, v, hv, hbg⟩ := (r.big k).mp w
    have := hbg ρ hρ
    have := hle v (List.mem_of_getElem? hv)
    omega
end
