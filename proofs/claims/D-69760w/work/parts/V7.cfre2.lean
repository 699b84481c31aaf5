/-! THE COMPONENT'S TYPER: fresh variables -/
section
variable {G : Gh} {c : Cx} {P P0 : Nat → Prop} {s s1 : Sx} {B : Nat → Prop} {us : List Nat} {b D ar : Nat} {S : En → List Tr → Prop}
theorem c_fresh (k : XS G c P0 s) (r : Rn G c P s B s1 us b S) (har : ar ≤ 6) (hb : BdX c s (b + ar)) (hD2 : 2 ≤ D) : C G mX11_fresh (D + 1) [.ref (gW G 6), .int (nI ar)] s1.h (fun o h' => o = .returned none ∧ ∃ s2 xs, Sx.h s2 = h' ∧ Sx.ws s2 = s1.ws ∧ Sx.rc s2 = s1.rc ∧ pot (Sx.h s2) (Sx.cap s2) = pot s1.h s1.cap ∧ Rn G c P s B s2 (us ++ xs) (b + ar) (fun γ u => ∃ w w', u = w ++ w' ∧ w'.length = ar ∧ S γ w) ∧ xs.length = ar ∧ ∀ (j x : Nat), xs[j]? = some x → aI (Sx.h s2) (gW G 1113) j = nI x) := by
  refine bX11_fresh G D s1.h _ _ ?_
  have key : ∀ (f i : Nat) (s2 : Sx) (xs : List Nat), ar - i < f → i ≤ ar → Sx.ws s2 = s1.ws → Sx.rc s2 = s1.rc → pot s2.h s2.cap = pot s1.h s1.cap → Rn G c P s B s2 (us ++ xs) (b + i) (fun γ u => ∃ w w', u = w ++ w' ∧ w'.length = i ∧ S γ w) → xs.length = i → (∀ (j x : Nat), xs[j]? = some x → aI s2.h (gW G 1113) j = nI x) → X G mX11_fresh (D + 1) none [] 2 [(0, .ref (gW G 6)), (1, .int (nI ar)), (2, .int (nI i))] [] s2.h (fun o h' => o = .returned none ∧ ∃ s2 xs, Sx.h s2 = h' ∧ Sx.ws s2 = s1.ws ∧ Sx.rc s2 = s1.rc ∧ pot (Sx.h s2) (Sx.cap s2) = pot s1.h s1.cap ∧ Rn G c P s B s2 (us ++ xs) (b + ar) (fun γ u => ∃ w w', u = w ++ w' ∧ w'.length = ar ∧ S γ w) ∧ xs.length = ar ∧ ∀ (j x : Nat), xs[j]? = some x → aI (Sx.h s2) (gW G 1113) j = nI x) := by
    intro f
    induction f with
    | zero => intro i s2 xs hf; omega
    | succ f IH =>
      intro i s2 xs hf hi h1 h2 h3 r2 hl hx
      have x2 := r2.xs
      refine bX11_fresh_2 G D s2.h _ _ _ (x2.sA.at (by decide)) (x2.sA.at (by decide)) ?_
      rw [nI_leI (by omega) (by omega)]
      refine ⟨fun hle => ?_, fun hle => ?_⟩
      · have ei : i = ar := by omega
        rw [ei] at r2 hl
        exact ⟨rfl, s2, xs, rfl, h1, h2, h3, r2, hl, hx⟩
      · refine C.use ((r2.cv (d := 0) k (hb.le (by omega))).up (by omega)) (by decide) ?_
        rintro _ h4 ⟨τ2, rfl, hu, r3⟩ l -
        refine KI.i ⟨vp_in_nI (by omega) (by decide), fun h6 e6 => ?_⟩
        rintro _ rfl
        rw [nI_1]
        rw [nI_cn (by omega)] at e6
        have s6 := x2.sA.at (i := 6) (by decide)
        have ea := (l.a k.hD (kw1113 s6) (by decide) (by decide +kernel) (by decide) (by decide +kernel) (by decide +kernel)).1
        have r4 := r3.w13 (i := i) (v := nI s2.M) k
        rw [List.append_assoc] at r4
        have e6' : sI (Sx.h (h4, s2.M + 1, s2.Pn + 0, τ2, s2.m, s2.E, s2.cap, s2.rc, s2.ws)) (gW G 1113) i (nI s2.M) = h6 := e6.symm
        rw [e6'] at r4
        refine IH (i + 1) (h6, s2.M + 1, s2.Pn + 0, τ2, s2.m, s2.E, s2.cap, s2.rc, s2.ws) (xs ++ [s2.M]) (by omega) (by omega) h1 h2 (by show pot h6 s2.cap = _; rw [← h3]; unfold pot; rw [e6, un_sI, hu]) (r4.imp fun γ u => ⟨?_, ?_⟩) (by rw [List.length_append, hl]; rfl) (fun j x hj => ?_)
        · rintro ⟨_, v, rfl, w, w', rfl, hw, h5⟩
          exact ⟨w, w' ++ [v], List.append_assoc .., by rw [List.length_append, hw]; rfl, h5⟩
        · rintro ⟨w, w', rfl, hw, h5⟩
          have e1 : w'.drop i = [w'.getD i (.num 0)] := by
            rw [List.drop_eq_getElem_cons (by omega), List.drop_of_length_le (by omega), List.getD, List.getElem?_eq_getElem (by omega)]
            rfl
          refine ⟨w ++ w'.take i, w'.getD i (.num 0), ?_, w, w'.take i, rfl, by rw [List.length_take]; omega, h5⟩
          rw [List.append_assoc, ← e1, List.take_append_drop]
        · show aI h6 (gW G 1113) j = nI x
          rw [e6, aI_sI]
          by_cases cj : j < xs.length
          · rw [if_neg fun z => by omega, ea]
            rw [List.getElem?_append_left cj] at hj
            exact hx j x hj
          · have hjl := (List.getElem?_eq_some_iff.mp hj).1
            rw [List.length_append, List.length_singleton] at hjl
            have ej : j = xs.length := by omega
            rw [if_pos ⟨rfl, by omega⟩]
            rw [ej, List.getElem?_append_right (Nat.le_refl _), Nat.sub_self] at hj
            cases hj
            rfl
  refine key (ar + 1) 0 s1 [] (by omega) (by omega) rfl rfl rfl ?_ rfl (fun j x hj => (by cases hj))
  rw [List.append_nil]
  refine r.imp fun γ u => ⟨fun h => ⟨u, [], (List.append_nil _).symm, rfl, h⟩, ?_⟩
  rintro ⟨w, w', rfl, hw, h⟩
  rw [List.eq_nil_of_length_eq_zero hw, List.append_nil]
  exact h
end
