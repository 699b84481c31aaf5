/-! THE COMPONENT'S TYPER: expressions, first steps -/
section
variable {G : Gh} {Z : Zt} {B : Nat → Prop} {rc rc' nC : Nat} {h h' : AH}
/-- with more constructors at the end -/
theorem FIn.rc_le (a : FIn G Z B rc' nC h h') (hr : rc ≤ rc') : FIn G Z B rc nC h h' := ⟨a.1, a.2.1, a.2.2.1, a.2.2.2.1, fun c hc hp => a.2.2.2.2.1 c hc fun i h1 h2 => hp i (Nat.le_trans hr h1) h2, a.2.2.2.2.2⟩
end
