set_option maxRecDepth 100000
/-- the String constants: class, entry, text, number -/
def strL : List (String × Nat × String × Nat) := [
  ("LetMill", 104, "not", 0),
  ("LetMill", 113, "ref", 1),
  ("LetMill", 115, "ignore", 2),
  ("LetMill", 117, "fst", 3),
  ("LetMill", 119, "snd", 4),
  ("LetMill$Tokens", 11, "and", 5),
  ("LetMill$Tokens", 13, "case", 6),
  ("LetMill$Tokens", 15, "datatype", 7),
  ("LetMill$Tokens", 17, "div", 8),
  ("LetMill$Tokens", 19, "else", 9),
  ("LetMill$Tokens", 21, "end", 10),
  ("LetMill$Tokens", 23, "fn", 11),
  ("LetMill$Tokens", 25, "fun", 12),
  ("LetMill$Tokens", 27, "if", 13),
  ("LetMill$Tokens", 29, "in", 14),
  ("LetMill$Tokens", 31, "let", 15),
  ("LetMill$Tokens", 33, "mod", 16),
  ("LetMill$Tokens", 35, "of", 17),
  ("LetMill$Tokens", 37, "orelse", 18),
  ("LetMill$Tokens", 39, "andalso", 19),
  ("LetMill$Tokens", 41, "then", 20),
  ("LetMill$Tokens", 43, "true", 21),
  ("LetMill$Tokens", 45, "false", 22),
  ("LetMill$Tokens", 47, "val", 23),
  ("LetMill$Tokens", 141, "()[],;|_+-*~!=<>@", 24),
  ("LetMill$Types", 42, "", 25),
  ("LetMill$Types", 48, "int", 26),
  ("LetMill$Types", 50, "bool", 27),
  ("LetMill$Types", 52, "unit", 28),
  ("LetMill$Types", 54, "list", 29),
  ("LetMill$Types", 56, "ref", 1),
  ("LetMill$Printer", 72, " -> ", 30),
  ("LetMill$Printer", 74, " * ", 31),
  ("LetMill$Printer", 79, ", ", 32),
  ("LetMill$Printer", 100, "()", 33),
  ("LetMill$Printer", 102, "false", 22),
  ("LetMill$Printer", 104, "true", 21),
  ("LetMill$Printer", 106, "[]", 34),
  ("LetMill$Printer", 149, "ref", 1),
  ("LetMill$Printer", 137, "fn", 11),
  ("LetMillModel", 38, "and case datatype div else end fn fun if in let mod of orelse andalso then true false val ", 35),
  ("LetMillModel", 884, " -> ", 30),
  ("LetMillModel", 889, " * ", 31),
  ("LetMillModel", 891, ", ", 32),
  ("LetMillModel", 893, ") ", 36),
  ("LetMillModel", 895, "true", 21),
  ("LetMillModel", 897, "false", 22),
  ("LetMillModel", 899, "()", 33),
  ("LetMillModel", 911, " (", 37),
  ("LetMillModel", 913, " ", 38),
  ("LetMillModel", 907, "ref", 1),
  ("LetMillModel", 909, "fn", 11),
  ("LetMillModel", 936, "int", 26),
  ("LetMillModel", 942, "bool", 27),
  ("LetMillModel", 944, "unit", 28),
  ("LetMillModel", 946, "list", 29),
  ("LetMillModel", 947, "not", 0),
  ("LetMillModel", 951, "ignore", 2),
  ("LetMillModel", 953, "fst", 3),
  ("LetMillModel", 955, "snd", 4)]
def slen : List Nat := [3, 3, 6, 3, 3, 3, 4, 8, 3, 4, 3, 2, 3, 2, 2, 3, 3, 2, 6, 7, 4, 4, 5, 3, 17, 0, 3, 4, 4, 4, 4, 3, 2, 2, 2, 90, 2, 2, 1]
def sbyt : List (List Int32) := [
  [110, 111, 116],
  [114, 101, 102],
  [105, 103, 110, 111, 114, 101],
  [102, 115, 116],
  [115, 110, 100],
  [97, 110, 100],
  [99, 97, 115, 101],
  [100, 97, 116, 97, 116, 121, 112, 101],
  [100, 105, 118],
  [101, 108, 115, 101],
  [101, 110, 100],
  [102, 110],
  [102, 117, 110],
  [105, 102],
  [105, 110],
  [108, 101, 116],
  [109, 111, 100],
  [111, 102],
  [111, 114, 101, 108, 115, 101],
  [97, 110, 100, 97, 108, 115, 111],
  [116, 104, 101, 110],
  [116, 114, 117, 101],
  [102, 97, 108, 115, 101],
  [118, 97, 108],
  [40, 41, 91, 93, 44, 59, 124, 95, 43, 45, 42, 126, 33, 61, 60, 62, 64],
  [],
  [105, 110, 116],
  [98, 111, 111, 108],
  [117, 110, 105, 116],
  [108, 105, 115, 116],
  [32, 45, 62, 32],
  [32, 42, 32],
  [44, 32],
  [40, 41],
  [91, 93],
  [97, 110, 100, 32, 99, 97, 115, 101, 32, 100, 97, 116, 97, 116, 121, 112, 101, 32, 100, 105, 118, 32, 101, 108, 115, 101, 32, 101, 110, 100, 32, 102, 110, 32, 102, 117, 110, 32, 105, 102, 32, 105, 110, 32, 108, 101, 116, 32, 109, 111, 100, 32, 111, 102, 32, 111, 114, 101, 108, 115, 101, 32, 97, 110, 100, 97, 108, 115, 111, 32, 116, 104, 101, 110, 32, 116, 114, 117, 101, 32, 102, 97, 108, 115, 101, 32, 118, 97, 108, 32],
  [41, 32],
  [32, 40],
  [32]]
def castL : List (String × String) := [
  ("LetMill$TypeName", "LetMill$TypeName"),
  ("LetMill$Row", "LetMill$Row"),
  ("LetMill$Binding", "LetMill$Binding"),
  ("java/lang/IndexOutOfBoundsException", "java/lang/IndexOutOfBoundsException"),
  ("java/lang/IllegalArgumentException", "java/lang/IllegalArgumentException"),
  ("LetMill$Let", "LetMill$Exp"),
  ("LetMill$Fault", "LetMill$Fault"),
  ("LetMill$ConPat", "LetMill$Pat"),
  ("LetMill$AnyPat", "LetMill$Pat"),
  ("LetMill$NamePat", "LetMill$Pat"),
  ("LetMill$NumberPat", "LetMill$Pat"),
  ("LetMill$ListPat", "LetMill$Pat"),
  ("LetMill$UnitPat", "LetMill$Pat"),
  ("LetMill$GroupPat", "LetMill$Pat"),
  ("LetMill$TuplePat", "LetMill$Pat"),
  ("LetMill$PairPat", "LetMill$Pat"),
  ("LetMill$Val", "LetMill$Dec"),
  ("LetMill$Val", "LetMill$Val"),
  ("LetMill$Clause", "LetMill$Clause"),
  ("LetMill$Fn", "LetMill$Exp"),
  ("LetMill$Case", "LetMill$Exp"),
  ("LetMill$If", "LetMill$Exp"),
  ("LetMill$Use", "LetMill$Exp"),
  ("LetMill$UseCon", "LetMill$Exp"),
  ("LetMill$Constant", "LetMill$Exp"),
  ("LetMill$Built", "LetMill$Exp"),
  ("LetMill$Group", "LetMill$Exp"),
  ("LetMill$Tuple", "LetMill$Exp"),
  ("LetMill$Sequence", "LetMill$Exp"),
  ("LetMill$Listing", "LetMill$Exp"),
  ("LetMill$Apply", "LetMill$Exp"),
  ("LetMill$Sign", "LetMill$Exp"),
  ("LetMill$Chain", "LetMill$Exp"),
  ("LetMill$Fun", "LetMill$Fun"),
  ("LetMill$Funs", "LetMill$Dec"),
  ("LetMill$Data", "LetMill$Data"),
  ("LetMill$TyName", "LetMill$Ty"),
  ("LetMill$TyVariable", "LetMill$Ty"),
  ("LetMill$TyProduct", "LetMill$Ty"),
  ("LetMill$TyFun", "LetMill$Ty"),
  ("LetMill$ConDec", "LetMill$ConDec"),
  ("LetMill$Datas", "LetMill$Dec"),
  ("LetMill$Con", "LetMill$Con"),
  ("java/lang/IllegalStateException", "java/lang/IllegalStateException"),
  ("java/util/NoSuchElementException", "java/util/NoSuchElementException")]
def aoL : List String := ["java/lang/String", "LetMill$TypeName", "LetMill$Spot", "LetMill$Binding", "LetMill$Pat", "LetMill$Exp"]
def mnL : List (String × Nat × MethodName × String) := [
  ("LetMill", 9, ⟨"LetMill$Tokens", "<init>", "()V"⟩, "LetMill"),
  ("LetMill", 45, ⟨"LetMill$Matches", "<init>", "()V"⟩, "LetMill"),
  ("LetMill", 87, ⟨"LetMill$Row", "<init>", "()V"⟩, "LetMill"),
  ("LetMill$Machine", 16, ⟨"LetMill$Row", "<init>", "()V"⟩, "LetMill"),
  ("LetMill$Scope", 17, ⟨"LetMill$Row", "<init>", "()V"⟩, "LetMill"),
  ("LetMill$Reader", 51, ⟨"LetMill$Row", "<init>", "()V"⟩, "LetMill"),
  ("LetMill$Reader", 259, ⟨"LetMill$Signs", "<init>", "()V"⟩, "LetMill"),
  ("LetMill$Fun", 9, ⟨"LetMill$Row", "<init>", "()V"⟩, "LetMill"),
  ("LetMill$Data", 9, ⟨"LetMill$Row", "<init>", "()V"⟩, "LetMill")]
def dcL : List MethodName := [
  ⟨"java/lang/Throwable", "<init>", "()V"⟩,
  ⟨"java/lang/Throwable", "<init>", "(Ljava/lang/String;)V"⟩,
  ⟨"java/lang/Exception", "<init>", "()V"⟩,
  ⟨"java/lang/Exception", "<init>", "(Ljava/lang/String;)V"⟩,
  ⟨"java/lang/RuntimeException", "<init>", "()V"⟩,
  ⟨"java/lang/RuntimeException", "<init>", "(Ljava/lang/String;)V"⟩,
  ⟨"LetMill$Exp", "resolve", "(LLetMill$Scope;)V"⟩,
  ⟨"LetMill$Exp", "infer", "(LLetMill$Typer;)I"⟩,
  ⟨"LetMill$Exp", "begin", "(LLetMill$Machine;I)V"⟩,
  ⟨"LetMill$Pat", "resolveFrom", "(LLetMill$Scope;I)V"⟩,
  ⟨"LetMill$Pat", "infer", "(LLetMill$Typer;)I"⟩,
  ⟨"LetMill$Pat", "shape", "(LLetMill$Matches;)I"⟩,
  ⟨"LetMill$Pat", "fits", "(LLetMill$Machine;I)Z"⟩,
  ⟨"LetMill$Dec", "resolve", "(LLetMill$Scope;)V"⟩,
  ⟨"LetMill$Dec", "infer", "(LLetMill$Typer;)V"⟩,
  ⟨"LetMill$Dec", "begin", "(LLetMill$Machine;I)I"⟩,
  ⟨"LetMill$Parts", "whole", "(LLetMill$Machine;)I"⟩,
  ⟨"LetMill$Ty", "resolve", "(LLetMill$Scope;LLetMill$Data;)V"⟩,
  ⟨"LetMill$Ty", "make", "(LLetMill$Typer;)I"⟩]
/-! THE JUDGEMENTS -/
/-- exceptions of which none is of another's class -/
def ncP : List (String × String) := [
  ("java/lang/IndexOutOfBoundsException", "java/lang/IllegalArgumentException"),
  ("java/lang/IndexOutOfBoundsException", "LetMill$Fault"),
  ("java/lang/IndexOutOfBoundsException", "java/lang/IllegalStateException"),
  ("java/lang/IndexOutOfBoundsException", "java/util/NoSuchElementException"),
  ("java/lang/IllegalArgumentException", "java/lang/IndexOutOfBoundsException"),
  ("java/lang/IllegalArgumentException", "LetMill$Fault"),
  ("java/lang/IllegalArgumentException", "java/lang/IllegalStateException"),
  ("java/lang/IllegalArgumentException", "java/util/NoSuchElementException"),
  ("LetMill$Fault", "java/lang/IndexOutOfBoundsException"),
  ("LetMill$Fault", "java/lang/IllegalArgumentException"),
  ("LetMill$Fault", "java/lang/IllegalStateException"),
  ("LetMill$Fault", "java/util/NoSuchElementException"),
  ("java/lang/IllegalStateException", "java/lang/IndexOutOfBoundsException"),
  ("java/lang/IllegalStateException", "java/lang/IllegalArgumentException"),
  ("java/lang/IllegalStateException", "LetMill$Fault"),
  ("java/lang/IllegalStateException", "java/util/NoSuchElementException"),
  ("java/util/NoSuchElementException", "java/lang/IndexOutOfBoundsException"),
  ("java/util/NoSuchElementException", "java/lang/IllegalArgumentException"),
  ("java/util/NoSuchElementException", "LetMill$Fault"),
  ("java/util/NoSuchElementException", "java/lang/IllegalStateException")]
def NCs (A B : String) (U : State) : Prop := ∃ c t : ClassId, U.vm.findClass A = some c ∧ U.vm.findClass B = some t ∧ U.vm.assignable c t = false
theorem NCs.moved {A B : String} {u U : State} (hvm : u.vm.Alike U.vm) (h : NCs A B u) : NCs A B U := by
  obtain ⟨c, t, h1, h2, h3⟩ := h
  exact ⟨c, t, by rw [hvm.findClass]; exact h1, by rw [hvm.findClass]; exact h2, by rw [hvm.assignable]; exact h3⟩
/-- a static field's place stands -/
def LSt (C n d : String) (A : Nat → Prop) (U : State) (H : Heap) : Prop := ∃ (c : ClassId) (k : Class) (i : Nat) (f : Field) (a : Nat) (cell : Cell), U.vm.findClass C = some c ∧ U.fieldFound? C n d = some (c, k, i, f) ∧ f.isStatic = true ∧ k.statics = some a ∧ H[a]? = some cell ∧ cell.vm.isStatics = true ∧ cell.cls = c ∧ f.slot < cell.slots.size ∧ k.staticTypes[f.slot]? = some f.type ∧ ¬ A a
theorem LSt.moved {C n d : String} {A : Nat → Prop} {u U : State} {H : Heap} (hvm : u.vm.Alike U.vm) (h : LSt C n d A u H) : LSt C n d A U H := by
  obtain ⟨c, k, i, f, a, cell, h0, h1, h2, h3, h4, h5, h6, h7, h8, h9⟩ := h
  obtain ⟨k', hi', he⟩ := State.fieldFound?_setVm hvm h1
  exact ⟨c, k', i, f, a, cell, by rw [hvm.findClass]; exact h0, hi', h2, by rw [he]; exact h3, h4, h5, h6, h7, by rw [he]; exact h8, h9⟩
theorem LSt.kept {C n d : String} {A : Nat → Prop} {U : State} {H H1 : Heap} (h : LSt C n d A U H) (hq : ∀ a : Nat, a < H.size → ¬ A a → H1[a]? = H[a]?) : LSt C n d A U H1 := by
  obtain ⟨c, k, i, f, a, cell, h0, h1, h2, h3, h4, h5, h6, h7, h8, h9⟩ := h
  exact ⟨c, k, i, f, a, cell, h0, h1, h2, h3, by rw [hq a (Array.getElem?_eq_some_iff.mp h4).1 h9]; exact h4, h5, h6, h7, h8, h9⟩
theorem LSt.says {C n d : String} {A : Nat → Prop} {U : State} (h : LSt C n d A U U.heap) {args : Array Value} : (Cond.laysStatic C n d).before args U = true := by
  obtain ⟨c, k, i, f, a, cell, h0, h1, h2, h3, h4, h5, h6, h7, h8, -⟩ := h
  simp [Cond.before, Cond.holds, Cond.value, h0, h1, h2, h3, h4, h5, h6, h7, h8]
/-- what holds of the tables and of what is outside our cells, at a state -/
def WS (G : Gh) (U : State) : Prop :=
  (va_K (gD G) cl (gT G) U ∧ (gT G).map (fun q => q.2) = tyL ∧ G.1 ≤ U.heap.size) ∧
  ((∀ q ∈ castL, va_Nw (.castable q.1 q.2) U) ∧ (∀ C ∈ aoL, va_AO C U) ∧ (∀ x ∈ dcL, va_Nw (.declares x) U) ∧ ∀ q ∈ mnL, va_Nw (.methodLinkNest q.1 q.2.1 q.2.2.1 q.2.2.2) U) ∧
  (vk_S slen.length slen sbyt G.2.2.2.1 G.2.2.2.2.1 (gA G) U U.heap ∧ (∀ q ∈ strL, vk_R q.1 q.2.1 q.2.2.1 (G.2.2.2.1 q.2.2.2) U)) ∧
  (va_Z "java/lang/String" "COMPACT_STRINGS" "Z" (.int 1) (gA G) U U.heap ∧ va_Zq "java/lang/Throwable" "UNASSIGNED_STACK" "[Ljava/lang/StackTraceElement;" (gA G) U U.heap ∧ va_Zq "java/lang/Throwable" "SUPPRESSED_SENTINEL" "Ljava/util/List;" (gA G) U U.heap ∧ va_Zq "jdk/internal/util/Preconditions" "SIOOBE_FORMATTER" "Ljava/util/function/BiFunction;" (gA G) U U.heap ∧
    LSt "java/lang/Throwable" "UNASSIGNED_STACK" "[Ljava/lang/StackTraceElement;" (gA G) U U.heap ∧ LSt "java/lang/Throwable" "SUPPRESSED_SENTINEL" "Ljava/util/List;" (gA G) U U.heap ∧ ∀ q ∈ ncP, NCs q.1 q.2 U)
theorem WS.moved {G : Gh} {s U : State} (h : WS G s) (hW : s.WarmedH U.vm) (hz : s.heap.size ≤ U.heap.size) (hq : ∀ a : Nat, a < s.heap.size → ¬ gA G a → U.heap[a]? = s.heap[a]?) : WS G U := by
  obtain ⟨⟨a1, a2, a3⟩, ⟨b1, b2, b4, b3⟩, ⟨c1, c2⟩, d1, d2, d3, d4, d5, d6, d7⟩ := h
  have hv := hW.alike
  exact ⟨⟨a1.moved hv, a2, Nat.le_trans a3 hz⟩, ⟨fun q hq => va_Nw.warmC hW (b1 q hq), fun C hC => (b2 C hC).moved hv, fun x hx => va_Nw.warmD hW (b4 x hx), fun q hq => va_Nw.warmM hW (b3 q hq)⟩,
    ⟨(c1.moved hv).kept hq, fun q hq => (c2 q hq).warm hW⟩, (d1.moved hv).kept hq, (d2.moved hv).kept hq, (d3.moved hv).kept hq, (d4.moved hv).kept hq, (d5.moved hv).kept hq, (d6.moved hv).kept hq, fun q hq => (d7 q hq).moved hv⟩
/-- a method: its name, code, locals, answer, handlers -/
abbrev Mu : Type := MethodName × ByteArray × Nat × Option FieldType × List (Nat × Nat × Nat × Nat) × Nat
def mY (μ : Mu) : MethodName := μ.1
def mC (μ : Mu) : ByteArray := μ.2.1
def mL (μ : Mu) : Nat := μ.2.2.1
def mR (μ : Mu) : Option FieldType := μ.2.2.2.1
def mH (μ : Mu) : List (Nat × Nat × Nat × Nat) := μ.2.2.2.2.1
/-- what it may write: bit g a field, 400 + t arrays of the t-th type, 500 + g the array of the final field g; 399: it may make cells -/
def mM (μ : Mu) : Nat := μ.2.2.2.2.2
def mW (μ : Mu) : Cond := match mH μ with
  | [] => .code (mY μ) (mC μ) (mL μ) (mR μ)
  | x :: t => .codeWith (mY μ) (mC μ) (mL μ) (mR μ) (x :: t)
def MC : Nat := 465140
def MS : Nat := 7706061
/-- the launch writes no stack traces -/
def Off (l : Launch) : Prop := ∀ e : Env, l.admits e → e.platform.stackTraces = false
/-- what is fixed while a method's body is walked -/
def Fix (G : Gh) (μ : Mu) (d : Nat) (l : Launch) (p : Program) (R : Room) (s : State) (m : MethodId) (args : Array Value) (meth : Method) (c : Code) (c0 s0 : Nat) : Prop :=
  (p.tables.exec = Jvm.exec ∧ c.code = mC μ ∧ meth.sig.returnType = mR μ ∧ c.maxLocals = mL μ ∧ s.vm.findClass (mY μ).cls = some m.cls ∧ (∀ w ∈ lw_all, w.before args s = true) ∧ meth.locks = false) ∧
  (WS G s ∧ Off l ∧ c.exceptionTable.toList.map (fun h => (h.startPc, h.endPc, h.handlerPc, h.catchType)) = mH μ ∧ meth.name = (mY μ).name) ∧
  d ≤ R.frames ∧ 41 * d ≤ R.locals ∧ MC ≤ R.cells + c0 ∧ MS ≤ R.slots + s0
/-- final fields -/
def gfin (g : Nat) : Bool := (gtab g).2.2.2
/-- what every run keeps: kinds and lengths of the cells that were there, their final fields (but ex's: the object that a constructor makes) -/
def Le (h0 h : AH) (ex : Option Nat) : Prop := (hc h0 ≤ hc h ∧ hs h0 ≤ hs h) ∧ ∀ a, hK h0 a ≠ 0 → hK h a = hK h0 a ∧ hL h a = hL h0 a ∧ (some a ≠ ex → ∀ g, gfin g = true → fI h a g = fI h0 a g ∧ fJ h a g = fJ h0 a g ∧ fR h a g = fR h0 a g)
theorem Le.rf {h : AH} {ex : Option Nat} : Le h h ex := ⟨⟨Nat.le_refl _, Nat.le_refl _⟩, fun _ _ => ⟨rfl, rfl, fun _ _ _ => ⟨rfl, rfl, rfl⟩⟩⟩
theorem Le.trans {h0 h1 h2 : AH} {ex ex' : Option Nat} (a : Le h0 h1 ex) (b : Le h1 h2 ex') (hx : ∀ x, hK h0 x ≠ 0 → some x ≠ ex → some x ≠ ex') : Le h0 h2 ex := by
  refine ⟨⟨Nat.le_trans a.1.1 b.1.1, Nat.le_trans a.1.2 b.1.2⟩, fun x hx0 => ?_⟩
  obtain ⟨a1, a2, a3⟩ := a.2 x hx0
  obtain ⟨b1, b2, b3⟩ := b.2 x (by rw [a1]; exact hx0)
  refine ⟨b1.trans a1, b2.trans a2, fun hne g hg => ?_⟩
  obtain ⟨c1, c2, c3⟩ := a3 hne g hg
  obtain ⟨d1, d2, d3⟩ := b3 (hx x hx0 hne) g hg
  exact ⟨d1.trans c1, d2.trans c2, d3.trans c3⟩
theorem Le.tr {h0 h1 h2 : AH} {ex : Option Nat} (a : Le h0 h1 ex) (b : Le h1 h2 ex) : Le h0 h2 ex := a.trans b fun _ _ h => h
theorem Le.fresh {h0 h : AH} {ex : Option Nat} (a : Le h0 h ex) {q : Nat} (hq : hK h q = 0) : hK h0 q = 0 :=
  Classical.byContradiction fun hn => hn ((a.2 q hn).1.symm.trans hq)
/-- the final fields that hold arrays, of the objects of which there is one -/
def SA : Nat := 901401682281765604854916956687909385654243977377222729680963126665674159885946512736512
/-- an array may be written: it is a final field's, or another one of its type -/
def Ns (w : Nat → Nat) (a : Nat) : Prop := ∀ g, SA.testBit g = true → a ≠ w (1000 + g)
def Sk (w : Nat → Nat) (m a t : Nat) : Prop := (∃ g, SA.testBit g = true ∧ a = w (1000 + g) ∧ m.testBit (500 + g) = true) ∨ (Ns w a ∧ m.testBit (400 + t) = true)
/-- what a run keeps besides: fields that m doesn't name, arrays, and (bit 399) all cells that are there -/
def Md (w : Nat → Nat) (m : Nat) (h0 h : AH) (ex : Option Nat) : Prop :=
  (m.testBit 399 = false → hc h = hc h0 ∧ hs h = hs h0 ∧ hK h = hK h0 ∧ hL h = hL h0) ∧
  ∀ a, hK h0 a ≠ 0 → (some a ≠ ex → ∀ g, m.testBit g = false → fI h a g = fI h0 a g ∧ fJ h a g = fJ h0 a g ∧ fR h a g = fR h0 a g) ∧
    (Sk w m a (hK h0 a - 1000) ∨ (aI h a = aI h0 a ∧ aJ h a = aJ h0 a ∧ aR h a = aR h0 a))
def Lm (w : Nat → Nat) (m : Nat) (h0 h : AH) (ex : Option Nat) : Prop := Le h0 h ex ∧ Md w m h0 h ex
section
variable {w : Nat → Nat} {m m' : Nat} {h0 h h1 h2 : AH} {ex ex' : Option Nat}
theorem Lm.rf : Lm w m h h ex := ⟨Le.rf, fun _ => ⟨rfl, rfl, rfl, rfl⟩, fun _ _ => ⟨fun _ _ _ => ⟨rfl, rfl, rfl⟩, Or.inr ⟨rfl, rfl, rfl⟩⟩⟩
theorem Lm.trans (a : Lm w m h0 h1 ex) (b : Lm w m h1 h2 ex') (hx : ∀ x, hK h0 x ≠ 0 → some x ≠ ex → some x ≠ ex') : Lm w m h0 h2 ex := by
  refine ⟨a.1.trans b.1 hx, fun hb => ?_, fun x hx0 => ?_⟩
  · obtain ⟨a1, a2, a3, a4⟩ := a.2.1 hb
    obtain ⟨b1, b2, b3, b4⟩ := b.2.1 hb
    exact ⟨b1.trans a1, b2.trans a2, b3.trans a3, b4.trans a4⟩
  · have hk := (a.1.2 x hx0).1
    obtain ⟨a1, a2⟩ := a.2.2 x hx0
    obtain ⟨b1, b2⟩ := b.2.2 x (by rw [hk]; exact hx0)
    refine ⟨fun hne g hg => ?_, ?_⟩
    · obtain ⟨c1, c2, c3⟩ := a1 hne g hg
      obtain ⟨d1, d2, d3⟩ := b1 (hx x hx0 hne) g hg
      exact ⟨d1.trans c1, d2.trans c2, d3.trans c3⟩
    · rw [hk] at b2
      rcases a2 with a2 | ⟨c1, c2, c3⟩
      · exact Or.inl a2
      · rcases b2 with b2 | ⟨d1, d2, d3⟩
        · exact Or.inl b2
        · exact Or.inr ⟨d1.trans c1, d2.trans c2, d3.trans c3⟩
theorem Lm.tr (a : Lm w m h0 h1 ex) (b : Lm w m h1 h2 ex) : Lm w m h0 h2 ex := a.trans b fun _ _ h => h
theorem Lm.fresh (a : Lm w m h0 h ex) {q : Nat} (hq : hK h q = 0) : hK h0 q = 0 := a.1.fresh hq
theorem sub_bit (hm : m &&& m' = m) {g : Nat} (hg : m.testBit g = true) : m'.testBit g = true := by
  rw [← hm, Nat.testBit_and, Bool.and_eq_true] at hg
  exact hg.2
theorem sub_bit' (hm : m &&& m' = m) {g : Nat} (hg : m'.testBit g = false) : m.testBit g = false := by
  cases hb : m.testBit g with
  | false => rfl
  | true => rw [sub_bit hm hb] at hg; cases hg
theorem Lm.weak (hm : m &&& m' = m) (a : Lm w m h0 h ex) : Lm w m' h0 h ex := by
  refine ⟨a.1, fun hb => a.2.1 (sub_bit' hm hb), fun x hx => ?_⟩
  obtain ⟨a1, a2⟩ := a.2.2 x hx
  refine ⟨fun hne g hg => a1 hne g (sub_bit' hm hg), a2.imp (fun s => ?_) id⟩
  rcases s with ⟨g, s1, s2, s3⟩ | ⟨s1, s2⟩
  · exact Or.inl ⟨g, s1, s2, sub_bit hm s3⟩
  · exact Or.inr ⟨s1, sub_bit hm s2⟩
end
/-- the room isn't passed -/
def Bd (h : AH) : Prop := hc h ≤ MC ∧ hs h ≤ MS
/-- a method's end: its outcome o and our cells behind it -/
def XQ (G : Gh) (m : Nat) (s : State) (below : List Frame) (h0 : AH) (ex : Option Nat) (Q : Outcome → AH → Prop) : State → Prop := fun t =>
  ∃ (o : Outcome) (h : AH) (L : List Loc), t.status = .running ∧ Ended t below o ∧ Q o h ∧ Rp G h t.heap ∧ s.WarmedH t.vm ∧ s.sameButNew ({ t with vm := s.vm } : State) L (hc h - hc h0) (hs h - hs h0) ∧ (∀ q ∈ L, gA G q.base) ∧ Lm (gW G) m h0 h ex ∧ Bd h
/-- from pc, with these locals and stack, over the heap h, the method's body comes to an end with Q -/
def X (G : Gh) (μ : Mu) (d : Nat) (ex : Option Nat) (Fr : List Nat) (pc : Nat) (L : List (Nat × Value)) (st : List Value) (h : AH) (Q : Outcome → AH → Prop) : Prop :=
  ∀ (l : Launch) (p : Program) (e : Env) (R : Room) (s : State) (m : MethodId) (args : Array Value) (below : List Frame) (meth : Method) (c : Code) (h0 : AH) (H : Heap) (locs : List Loc) (ls : Array Slot),
    Fix G μ d l p R s m args meth c (hc h0) (hs h0) → Rp G h H → va_S (gA G) s.heap H locs → lv_has ls (mL μ) L → Lm (gW G) (mM μ) h0 h ex → (∀ q ∈ Fr, hK h0 q = 0) → Bd h →
    W p l e R s m args below meth c H locs (hc h - hc h0) (hs h - hs h0) (XQ G (mM μ) s below h0 ex Q) (F0 m pc ls st)
def rmOf (d : Nat) (h : AH) : Room := { frames := d, cells := MC - hc h, slots := MS - hs h, locals := 41 * d }
def wsm (μ : Mu) : List Cond := mW μ :: lw_all
/-- the object that a constructor makes -/
def exOf (μ : Mu) (av : List Value) : Option Nat := if (mY μ).name = "<init>" then (match av with | .ref b :: _ => some b | _ => none) else none
/-- THE CONTRACT: called with args over a heap that holds h, the method ends, with Q -/
def C (G : Gh) (μ : Mu) (d : Nat) (av : List Value) (h : AH) (Q : Outcome → AH → Prop) : Prop :=
  Bd h → ∀ l : Launch, Off l → MetFree l (mY μ) (headSpec (wsm μ) (rmOf d h)) (fun v U => v = av.toArray ∧ Rp G h U.heap ∧ WS G U) (fun _ _ _ _ _ => True)
    (fun _ st o t => ∃ (h' : AH) (L : List Loc), Q o h' ∧ Rp G h' t.heap ∧ st.WarmedH t.vm ∧ st.sameButNew ({ t with vm := st.vm } : State) L (hc h' - hc h) (hs h' - hs h) ∧ (∀ q ∈ L, gA G q.base) ∧ Lm (gW G) (mM μ) h h' (exOf μ av) ∧ Bd h')
section
variable {G : Gh} {μ : Mu} {d pc : Nat} {ex : Option Nat} {Fr : List Nat} {L : List (Nat × Value)} {st : List Value} {h : AH} {Q Q' : Outcome → AH → Prop} {av : List Value}
theorem W.mono {p : Program} {l : Launch} {e : Env} {R : Room} {s : State} {m : MethodId} {args : Array Value} {below : List Frame} {meth : Method} {c : Code} {H : Heap} {locs : List Loc} {cells slots : Nat} {Q Q' : State → Prop} {g : JFrame} (hq : ∀ t, Q t → Q' t) (k : W p l e R s m args below meth c H locs cells slots Q g) : W p l e R s m args below meth c H locs cells slots Q' g := by
  intro T hT X
  obtain ⟨t, a, b⟩ := k T hT X
  exact ⟨t, a, hq t b⟩
theorem XQ.mono {m : Nat} {s : State} {below : List Frame} {h0 : AH} (hq : ∀ o h, Q o h → Q' o h) {t : State} (k : XQ G m s below h0 ex Q t) : XQ G m s below h0 ex Q' t := by
  obtain ⟨o, h, L, a1, a2, a3, a4⟩ := k
  exact ⟨o, h, L, a1, a2, hq o h a3, a4⟩
theorem X.mono (k : X G μ d ex Fr pc L st h Q) (hq : ∀ o h, Q o h → Q' o h) : X G μ d ex Fr pc L st h Q' := by
  intro l p e R s m args below meth c h0 H locs ls F hR hS hl h1 h2 hb
  exact W.mono (fun t => XQ.mono hq) (k l p e R s m args below meth c h0 H locs ls F hR hS hl h1 h2 hb)
theorem C.mono' (k : C G μ d av h Q) (hq : ∀ o h', Q o h' → Lm (gW G) (mM μ) h h' (exOf μ av) → Bd h' → Q' o h') : C G μ d av h Q' := by
  intro hb l hl
  refine (k hb l hl).mono (fun _ _ h => h) (fun _ _ _ _ _ h => h) ?_
  intro a s o t _ ⟨h', L, b1, b2, b3, b4, b5, b6, b7⟩
  exact ⟨h', L, hq o h' b1 b6 b7, b2, b3, b4, b5, b6, b7⟩
theorem C.mono (k : C G μ d av h Q) (hq : ∀ o h, Q o h → Q' o h) : C G μ d av h Q' := k.mono' fun o h' q _ _ => hq o h' q
/-- the end of a body gives the contract's end -/
theorem C.of_X (hy : plainFor (mY μ) = true) (hn : (lg_sl av).length ≤ mL μ) (hC : mW μ ∈ lw_all)
    (k : X G μ d (exOf μ av) [] 0 (lv_args 0 av) [] h Q) : C G μ d av h Q := by
  intro hd l hl
  have hsp : ∀ (args : Array Value) (s : State) (m : MethodId), (headSpec (wsm μ) (rmOf d h)).pre.before args s = true → s.methodNamed? (mY μ) = some m → ∃ meth c, s.vm.method? m = some meth ∧ meth.code = some c ∧ c.code = mC μ ∧ c.maxLocals = mL μ ∧ meth.sig.returnType = mR μ ∧ meth.locks = false ∧ c.exceptionTable.toList.map (fun h => (h.startPc, h.endPc, h.handlerPc, h.catchType)) = mH μ := by
    intro args s m hp hn
    have hw := atoms_spec (ws := wsm μ) hp _ List.mem_cons_self
    unfold mW at hw
    split at hw
    · next hh =>
      obtain ⟨meth, c, h1, h2, h3, h4, h5, h6, h7, -⟩ := Cond.code_spec hn hw
      refine ⟨meth, c, h1, h2, h3, h4, h5, h6, ?_⟩
      rw [hh]
      have h0 : c.exceptionTable.size = 0 := by simpa [Array.isEmpty] using h7
      have h1 : c.exceptionTable.toList = [] := List.eq_nil_of_length_eq_zero (by simpa using h0)
      rw [h1]
      rfl
    · next x t hh =>
      obtain ⟨m', meth, c, g0, h1, h2, h3, h4, h5, h6, h7, -⟩ := Cond.codeWith_spec hw
      cases hn.symm.trans g0
      exact ⟨meth, c, h1, h2, h3, h4, h6, h7, by rw [hh]; exact h5⟩
  refine MetFree.of_bodySF (code := mC μ) (maxLocals := mL μ) (ret := mR μ) hy ?_ ?_
  · intro args s m hp hn
    obtain ⟨meth, c, h1, h2, h3, h4, h5, h6, -⟩ := hsp args s m hp hn
    exact ⟨meth, c, h1, h2, h3, h4, h5, h6⟩
  · intro p e s m args below meth c s₁ B hml hP _
    obtain ⟨rfl, hR, hWS⟩ := hP
    obtain ⟨meth', c', g1, g2, g3, g4, g5, g6, g7⟩ := hsp _ s m B.pre B.named
    have hcode : meth.code = some c := by
      have h := B.here.code
      rw [State.code?_eq, B.method₁] at h
      exact h
    cases B.method.symm.trans g1
    cases hcode.symm.trans g2
    have hts : ∀ w ∈ lw_all, w.before av.toArray s = true := fun w hw => atoms_spec (ws := wsm μ) B.pre w (List.mem_cons_of_mem _ hw)
    have hname : meth.name = (mY μ).name := (name_of_methodNamed B.named B.method).1
    have hh0 : s₁.heap = s.heap := by rw [B.state]; rfl
    have hl0 := lv_entry av (n := mL μ) hn
    have K := k l p e (rmOf d h) s m av.toArray below meth c h s.heap [] _
      ⟨⟨B.exec, B.bytes, B.returns, hml, findClass_of_methodNamed B.named, hts, B.notSynchronized⟩, ⟨hWS, hl, g7, hname⟩, Nat.le_refl _, Nat.le_refl _, by show MC ≤ MC - hc h + hc h; have := hd.1; omega, by show MS ≤ MS - hs h + hs h; have := hd.2; omega⟩
      hR va_S.rf hl0 Lm.rf (fun _ hq => by cases hq) hd
    rw [Nat.sub_self, Nat.sub_self, ← lg_entry_eq] at K
    obtain ⟨t, a1, o, h', L', b1, b2, b3, b4, b5, b6, b7, b8, b9⟩ := K s₁ hh0 (Stand.of_body B)
    exact ⟨t, o, a1, b1, b2, h', L', b3, b4, b5, b6, b7, b8, b9⟩
end
