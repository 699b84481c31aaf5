/-! THE INSTRUCTIONS -/
section
variable {G : Gh} {μ : Mu} {d pc pc' : Nat} {ex : Option Nat} {Fr : List Nat} {L L' : List (Nat × Value)} {st : List Value} {h : AH} {Q : Outcome → AH → Prop}
theorem x_iconst {n : Int} {v : Int32} (hd : decode (mC μ) pc = .ok (.iconst n, 1)) (hv : Int32.ofInt n = v) (hp : pc + 1 = pc') (kk : X G μ d ex Fr pc' L (.int v :: st) h Q) : X G μ d ex Fr pc L (st) h Q := by
  subst hp
  intro l p e R s m args below meth c h0 H locs ls F hR hS hl h1 h2 hb
  exact lv_iconst F.1.1 F.1.2.1 hd hv (kk l p e R s m args below meth c h0 H locs ls F hR hS hl h1 h2 hb)
theorem x_bipush {n : Int} {v : Int32} (hd : decode (mC μ) pc = .ok (.bipush n, 2)) (hv : (Int8.ofInt n).toInt32 = v) (hp : pc + 2 = pc') (kk : X G μ d ex Fr pc' L (.int v :: st) h Q) : X G μ d ex Fr pc L (st) h Q := by
  subst hp
  intro l p e R s m args below meth c h0 H locs ls F hR hS hl h1 h2 hb
  exact lv_bipush F.1.1 F.1.2.1 hd hv (kk l p e R s m args below meth c h0 H locs ls F hR hS hl h1 h2 hb)
theorem x_sipush {n : Int} {v : Int32} (hd : decode (mC μ) pc = .ok (.sipush n, 3)) (hv : (Int16.ofInt n).toInt32 = v) (hp : pc + 3 = pc') (kk : X G μ d ex Fr pc' L (.int v :: st) h Q) : X G μ d ex Fr pc L (st) h Q := by
  subst hp
  intro l p e R s m args below meth c h0 H locs ls F hR hS hl h1 h2 hb
  exact lv_sipush F.1.1 F.1.2.1 hd hv (kk l p e R s m args below meth c h0 H locs ls F hR hS hl h1 h2 hb)
theorem x_lconst {n : Fin 2} {v : Int64} (hd : decode (mC μ) pc = .ok (.lconst n, 1)) (hv : Int64.ofNat (n : Nat) = v) (hp : pc + 1 = pc') (kk : X G μ d ex Fr pc' L (.long v :: st) h Q) : X G μ d ex Fr pc L (st) h Q := by
  subst hp
  intro l p e R s m args below meth c h0 H locs ls F hR hS hl h1 h2 hb
  exact lv_lconst F.1.1 F.1.2.1 hd hv (kk l p e R s m args below meth c h0 H locs ls F hR hS hl h1 h2 hb)
theorem x_null  (hd : decode (mC μ) pc = .ok (.aconst_null, 1))  (hp : pc + 1 = pc') (kk : X G μ d ex Fr pc' L (.null :: st) h Q) : X G μ d ex Fr pc L (st) h Q := by
  subst hp
  intro l p e R s m args below meth c h0 H locs ls F hR hS hl h1 h2 hb
  exact lv_null F.1.1 F.1.2.1 hd (kk l p e R s m args below meth c h0 H locs ls F hR hS hl h1 h2 hb)
theorem x_iload_n {k : Fin 4} {i : Nat} {x : Int32} (j : Nat) (hd : decode (mC μ) pc = .ok (.iload_n k, 1)) (hi : (k : Nat) = i) (hj : L[j]? = some (i, .int x)) (hp : pc + 1 = pc') (kk : X G μ d ex Fr pc' L (.int x :: st) h Q) : X G μ d ex Fr pc L (st) h Q := by
  subst hp
  intro l p e R s m args below meth c h0 H locs ls F hR hS hl h1 h2 hb
  exact lv_iload_n F.1.1 F.1.2.1 hd hi (lv_at hl j hj) (kk l p e R s m args below meth c h0 H locs ls F hR hS hl h1 h2 hb)
theorem x_iload {i : Nat} {x : Int32} (j : Nat) (hd : decode (mC μ) pc = .ok (.iload i, 2)) (hj : L[j]? = some (i, .int x)) (hp : pc + 2 = pc') (kk : X G μ d ex Fr pc' L (.int x :: st) h Q) : X G μ d ex Fr pc L (st) h Q := by
  subst hp
  intro l p e R s m args below meth c h0 H locs ls F hR hS hl h1 h2 hb
  exact lv_iload F.1.1 F.1.2.1 hd (lv_at hl j hj) (kk l p e R s m args below meth c h0 H locs ls F hR hS hl h1 h2 hb)
theorem x_lload_n {k : Fin 4} {i : Nat} {x : Int64} (j : Nat) (hd : decode (mC μ) pc = .ok (.lload_n k, 1)) (hi : (k : Nat) = i) (hj : L[j]? = some (i, .long x)) (hp : pc + 1 = pc') (kk : X G μ d ex Fr pc' L (.long x :: st) h Q) : X G μ d ex Fr pc L (st) h Q := by
  subst hp
  intro l p e R s m args below meth c h0 H locs ls F hR hS hl h1 h2 hb
  exact lv_lload_n F.1.1 F.1.2.1 hd hi (lv_at hl j hj) (kk l p e R s m args below meth c h0 H locs ls F hR hS hl h1 h2 hb)
theorem x_lload {i : Nat} {x : Int64} (j : Nat) (hd : decode (mC μ) pc = .ok (.lload i, 2)) (hj : L[j]? = some (i, .long x)) (hp : pc + 2 = pc') (kk : X G μ d ex Fr pc' L (.long x :: st) h Q) : X G μ d ex Fr pc L (st) h Q := by
  subst hp
  intro l p e R s m args below meth c h0 H locs ls F hR hS hl h1 h2 hb
  exact lv_lload F.1.1 F.1.2.1 hd (lv_at hl j hj) (kk l p e R s m args below meth c h0 H locs ls F hR hS hl h1 h2 hb)
theorem x_aload_n {k : Fin 4} {i : Nat} {x : Nat} (j : Nat) (hd : decode (mC μ) pc = .ok (.aload_n k, 1)) (hi : (k : Nat) = i) (hj : L[j]? = some (i, .ref x)) (hp : pc + 1 = pc') (kk : X G μ d ex Fr pc' L (.ref x :: st) h Q) : X G μ d ex Fr pc L (st) h Q := by
  subst hp
  intro l p e R s m args below meth c h0 H locs ls F hR hS hl h1 h2 hb
  exact lv_aload_n F.1.1 F.1.2.1 hd hi (lv_at hl j hj) (kk l p e R s m args below meth c h0 H locs ls F hR hS hl h1 h2 hb)
theorem x_aload {i : Nat} {x : Nat} (j : Nat) (hd : decode (mC μ) pc = .ok (.aload i, 2)) (hj : L[j]? = some (i, .ref x)) (hp : pc + 2 = pc') (kk : X G μ d ex Fr pc' L (.ref x :: st) h Q) : X G μ d ex Fr pc L (st) h Q := by
  subst hp
  intro l p e R s m args below meth c h0 H locs ls F hR hS hl h1 h2 hb
  exact lv_aload F.1.1 F.1.2.1 hd (lv_at hl j hj) (kk l p e R s m args below meth c h0 H locs ls F hR hS hl h1 h2 hb)
theorem x_aload_nN {k : Fin 4} {i : Nat} (j : Nat) (hd : decode (mC μ) pc = .ok (.aload_n k, 1)) (hi : (k : Nat) = i) (hj : L[j]? = some (i, .null)) (hp : pc + 1 = pc') (kk : X G μ d ex Fr pc' L (.null :: st) h Q) : X G μ d ex Fr pc L (st) h Q := by
  subst hp
  intro l p e R s m args below meth c h0 H locs ls F hR hS hl h1 h2 hb
  exact lv_aload_nN F.1.1 F.1.2.1 hd hi (lv_at hl j hj) (kk l p e R s m args below meth c h0 H locs ls F hR hS hl h1 h2 hb)
theorem x_aloadN {i : Nat} (j : Nat) (hd : decode (mC μ) pc = .ok (.aload i, 2)) (hj : L[j]? = some (i, .null)) (hp : pc + 2 = pc') (kk : X G μ d ex Fr pc' L (.null :: st) h Q) : X G μ d ex Fr pc L (st) h Q := by
  subst hp
  intro l p e R s m args below meth c h0 H locs ls F hR hS hl h1 h2 hb
  exact lv_aloadN F.1.1 F.1.2.1 hd (lv_at hl j hj) (kk l p e R s m args below meth c h0 H locs ls F hR hS hl h1 h2 hb)
theorem x_istore_n {k : Fin 4} {x : Int32} {i : Nat} (hd : decode (mC μ) pc = .ok (.istore_n k, 1)) (hi : (k : Nat) = i) (hn : i < mL μ) (hL : (i, Value.int x) :: L.filter (fun q => !(q.1 == i) && !(q.1 + 1 == i && q.2.category == 2)) = L') (hp : pc + 1 = pc') (kk : X G μ d ex Fr pc' L' st h Q) : X G μ d ex Fr pc L (.int x :: st) h Q := by
  subst hp
  intro l p e R s m args below meth c h0 H locs ls F hR hS hl h1 h2 hb
  exact lv_istore_n F.1.1 F.1.2.1 hd hi hl hn hL (fun ls' hl' => kk l p e R s m args below meth c h0 H locs ls' F hR hS hl' h1 h2 hb)
theorem x_istore {x : Int32} {i : Nat} (hd : decode (mC μ) pc = .ok (.istore i, 2)) (hn : i < mL μ) (hL : (i, Value.int x) :: L.filter (fun q => !(q.1 == i) && !(q.1 + 1 == i && q.2.category == 2)) = L') (hp : pc + 2 = pc') (kk : X G μ d ex Fr pc' L' st h Q) : X G μ d ex Fr pc L (.int x :: st) h Q := by
  subst hp
  intro l p e R s m args below meth c h0 H locs ls F hR hS hl h1 h2 hb
  exact lv_istore F.1.1 F.1.2.1 hd hl hn hL (fun ls' hl' => kk l p e R s m args below meth c h0 H locs ls' F hR hS hl' h1 h2 hb)
theorem x_lstore_n {k : Fin 4} {x : Int64} {i : Nat} (hd : decode (mC μ) pc = .ok (.lstore_n k, 1)) (hi : (k : Nat) = i) (hn : i + 1 < mL μ) (hL : (i, Value.long x) :: L.filter (fun q => !(q.1 == i) && (!(q.1 == i + 1) && !(q.1 + 1 == i && q.2.category == 2))) = L') (hp : pc + 1 = pc') (kk : X G μ d ex Fr pc' L' st h Q) : X G μ d ex Fr pc L (.long x :: st) h Q := by
  subst hp
  intro l p e R s m args below meth c h0 H locs ls F hR hS hl h1 h2 hb
  exact lv_lstore_n F.1.1 F.1.2.1 hd hi hl hn hL (fun ls' hl' => kk l p e R s m args below meth c h0 H locs ls' F hR hS hl' h1 h2 hb)
theorem x_lstore {x : Int64} {i : Nat} (hd : decode (mC μ) pc = .ok (.lstore i, 2)) (hn : i + 1 < mL μ) (hL : (i, Value.long x) :: L.filter (fun q => !(q.1 == i) && (!(q.1 == i + 1) && !(q.1 + 1 == i && q.2.category == 2))) = L') (hp : pc + 2 = pc') (kk : X G μ d ex Fr pc' L' st h Q) : X G μ d ex Fr pc L (.long x :: st) h Q := by
  subst hp
  intro l p e R s m args below meth c h0 H locs ls F hR hS hl h1 h2 hb
  exact lv_lstore F.1.1 F.1.2.1 hd hl hn hL (fun ls' hl' => kk l p e R s m args below meth c h0 H locs ls' F hR hS hl' h1 h2 hb)
theorem x_astore_n {k : Fin 4} {x : Nat} {i : Nat} (hd : decode (mC μ) pc = .ok (.astore_n k, 1)) (hi : (k : Nat) = i) (hn : i < mL μ) (hL : (i, Value.ref x) :: L.filter (fun q => !(q.1 == i) && !(q.1 + 1 == i && q.2.category == 2)) = L') (hp : pc + 1 = pc') (kk : X G μ d ex Fr pc' L' st h Q) : X G μ d ex Fr pc L (.ref x :: st) h Q := by
  subst hp
  intro l p e R s m args below meth c h0 H locs ls F hR hS hl h1 h2 hb
  exact lv_astore_n F.1.1 F.1.2.1 hd hi hl hn hL (fun ls' hl' => kk l p e R s m args below meth c h0 H locs ls' F hR hS hl' h1 h2 hb)
theorem x_astore {x : Nat} {i : Nat} (hd : decode (mC μ) pc = .ok (.astore i, 2)) (hn : i < mL μ) (hL : (i, Value.ref x) :: L.filter (fun q => !(q.1 == i) && !(q.1 + 1 == i && q.2.category == 2)) = L') (hp : pc + 2 = pc') (kk : X G μ d ex Fr pc' L' st h Q) : X G μ d ex Fr pc L (.ref x :: st) h Q := by
  subst hp
  intro l p e R s m args below meth c h0 H locs ls F hR hS hl h1 h2 hb
  exact lv_astore F.1.1 F.1.2.1 hd hl hn hL (fun ls' hl' => kk l p e R s m args below meth c h0 H locs ls' F hR hS hl' h1 h2 hb)
theorem x_astore_nN {k : Fin 4} {i : Nat} (hd : decode (mC μ) pc = .ok (.astore_n k, 1)) (hi : (k : Nat) = i) (hn : i < mL μ) (hL : (i, Value.null) :: L.filter (fun q => !(q.1 == i) && !(q.1 + 1 == i && q.2.category == 2)) = L') (hp : pc + 1 = pc') (kk : X G μ d ex Fr pc' L' st h Q) : X G μ d ex Fr pc L (.null :: st) h Q := by
  subst hp
  intro l p e R s m args below meth c h0 H locs ls F hR hS hl h1 h2 hb
  exact lv_astore_nN F.1.1 F.1.2.1 hd hi hl hn hL (fun ls' hl' => kk l p e R s m args below meth c h0 H locs ls' F hR hS hl' h1 h2 hb)
theorem x_astoreN  {i : Nat} (hd : decode (mC μ) pc = .ok (.astore i, 2)) (hn : i < mL μ) (hL : (i, Value.null) :: L.filter (fun q => !(q.1 == i) && !(q.1 + 1 == i && q.2.category == 2)) = L') (hp : pc + 2 = pc') (kk : X G μ d ex Fr pc' L' st h Q) : X G μ d ex Fr pc L (.null :: st) h Q := by
  subst hp
  intro l p e R s m args below meth c h0 H locs ls F hR hS hl h1 h2 hb
  exact lv_astoreN F.1.1 F.1.2.1 hd hl hn hL (fun ls' hl' => kk l p e R s m args below meth c h0 H locs ls' F hR hS hl' h1 h2 hb)
theorem x_iinc {i : Nat} {n : Int} {x v : Int32} (j : Nat) (hd : decode (mC μ) pc = .ok (.iinc i n, 3)) (hj : L[j]? = some (i, .int x)) (hv : x + Int32.ofInt n = v) (hn : i < mL μ) (hL : (i, Value.int v) :: L.filter (fun q => !(q.1 == i) && !(q.1 + 1 == i && q.2.category == 2)) = L') (hp : pc + 3 = pc') (kk : X G μ d ex Fr pc' L' st h Q) : X G μ d ex Fr pc L st h Q := by
  subst hp
  intro l p e R s m args below meth c h0 H locs ls F hR hS hl h1 h2 hb
  exact lv_iinc (k := j) F.1.1 F.1.2.1 hd hl hj hv hn hL (fun ls' hl' => kk l p e R s m args below meth c h0 H locs ls' F hR hS hl' h1 h2 hb)
theorem x_iadd {x y : Int32} (hd : decode (mC μ) pc = .ok (.iadd, 1))  (hp : pc + 1 = pc') (kk : X G μ d ex Fr pc' L (.int (x + y) :: st) h Q) : X G μ d ex Fr pc L (.int y :: .int x :: st) h Q := by
  subst hp
  intro l p e R s m args below meth c h0 H locs ls F hR hS hl h1 h2 hb
  exact lv_iadd F.1.1 F.1.2.1 hd (kk l p e R s m args below meth c h0 H locs ls F hR hS hl h1 h2 hb)
theorem x_isub {x y : Int32} (hd : decode (mC μ) pc = .ok (.isub, 1))  (hp : pc + 1 = pc') (kk : X G μ d ex Fr pc' L (.int (x - y) :: st) h Q) : X G μ d ex Fr pc L (.int y :: .int x :: st) h Q := by
  subst hp
  intro l p e R s m args below meth c h0 H locs ls F hR hS hl h1 h2 hb
  exact lv_isub F.1.1 F.1.2.1 hd (kk l p e R s m args below meth c h0 H locs ls F hR hS hl h1 h2 hb)
theorem x_imul {x y : Int32} (hd : decode (mC μ) pc = .ok (.imul, 1))  (hp : pc + 1 = pc') (kk : X G μ d ex Fr pc' L (.int (x * y) :: st) h Q) : X G μ d ex Fr pc L (.int y :: .int x :: st) h Q := by
  subst hp
  intro l p e R s m args below meth c h0 H locs ls F hR hS hl h1 h2 hb
  exact lv_imul F.1.1 F.1.2.1 hd (kk l p e R s m args below meth c h0 H locs ls F hR hS hl h1 h2 hb)
theorem x_iand {x y : Int32} (hd : decode (mC μ) pc = .ok (.iand, 1))  (hp : pc + 1 = pc') (kk : X G μ d ex Fr pc' L (.int (x &&& y) :: st) h Q) : X G μ d ex Fr pc L (.int y :: .int x :: st) h Q := by
  subst hp
  intro l p e R s m args below meth c h0 H locs ls F hR hS hl h1 h2 hb
  exact lv_iand F.1.1 F.1.2.1 hd (kk l p e R s m args below meth c h0 H locs ls F hR hS hl h1 h2 hb)
theorem x_ior {x y : Int32} (hd : decode (mC μ) pc = .ok (.ior, 1))  (hp : pc + 1 = pc') (kk : X G μ d ex Fr pc' L (.int (x ||| y) :: st) h Q) : X G μ d ex Fr pc L (.int y :: .int x :: st) h Q := by
  subst hp
  intro l p e R s m args below meth c h0 H locs ls F hR hS hl h1 h2 hb
  exact lv_ior F.1.1 F.1.2.1 hd (kk l p e R s m args below meth c h0 H locs ls F hR hS hl h1 h2 hb)
theorem x_ixor {x y : Int32} (hd : decode (mC μ) pc = .ok (.ixor, 1))  (hp : pc + 1 = pc') (kk : X G μ d ex Fr pc' L (.int (x ^^^ y) :: st) h Q) : X G μ d ex Fr pc L (.int y :: .int x :: st) h Q := by
  subst hp
  intro l p e R s m args below meth c h0 H locs ls F hR hS hl h1 h2 hb
  exact lv_ixor F.1.1 F.1.2.1 hd (kk l p e R s m args below meth c h0 H locs ls F hR hS hl h1 h2 hb)
theorem x_ishl {x y : Int32} (hd : decode (mC μ) pc = .ok (.ishl, 1))  (hp : pc + 1 = pc') (kk : X G μ d ex Fr pc' L (.int (x <<< (y &&& 31)) :: st) h Q) : X G μ d ex Fr pc L (.int y :: .int x :: st) h Q := by
  subst hp
  intro l p e R s m args below meth c h0 H locs ls F hR hS hl h1 h2 hb
  exact lv_ishl F.1.1 F.1.2.1 hd (kk l p e R s m args below meth c h0 H locs ls F hR hS hl h1 h2 hb)
theorem x_ishr {x y : Int32} (hd : decode (mC μ) pc = .ok (.ishr, 1))  (hp : pc + 1 = pc') (kk : X G μ d ex Fr pc' L (.int (x >>> (y &&& 31)) :: st) h Q) : X G μ d ex Fr pc L (.int y :: .int x :: st) h Q := by
  subst hp
  intro l p e R s m args below meth c h0 H locs ls F hR hS hl h1 h2 hb
  exact lv_ishr F.1.1 F.1.2.1 hd (kk l p e R s m args below meth c h0 H locs ls F hR hS hl h1 h2 hb)
theorem x_idiv {x y : Int32} (hd : decode (mC μ) pc = .ok (.idiv, 1)) (hne : ¬ y = 0) (hp : pc + 1 = pc') (kk : X G μ d ex Fr pc' L (.int (x / y) :: st) h Q) : X G μ d ex Fr pc L (.int y :: .int x :: st) h Q := by
  subst hp
  intro l p e R s m args below meth c h0 H locs ls F hR hS hl h1 h2 hb
  exact lv_idiv F.1.1 F.1.2.1 hd hne (kk l p e R s m args below meth c h0 H locs ls F hR hS hl h1 h2 hb)
theorem x_irem {x y : Int32} (hd : decode (mC μ) pc = .ok (.irem, 1)) (hne : ¬ y = 0) (hp : pc + 1 = pc') (kk : X G μ d ex Fr pc' L (.int (x - x / y * y) :: st) h Q) : X G μ d ex Fr pc L (.int y :: .int x :: st) h Q := by
  subst hp
  intro l p e R s m args below meth c h0 H locs ls F hR hS hl h1 h2 hb
  exact lv_irem F.1.1 F.1.2.1 hd hne (kk l p e R s m args below meth c h0 H locs ls F hR hS hl h1 h2 hb)
theorem x_ineg {x : Int32} (hd : decode (mC μ) pc = .ok (.ineg, 1))  (hp : pc + 1 = pc') (kk : X G μ d ex Fr pc' L (.int (-x) :: st) h Q) : X G μ d ex Fr pc L (.int x :: st) h Q := by
  subst hp
  intro l p e R s m args below meth c h0 H locs ls F hR hS hl h1 h2 hb
  exact lv_ineg F.1.1 F.1.2.1 hd (kk l p e R s m args below meth c h0 H locs ls F hR hS hl h1 h2 hb)
theorem x_ladd {x y : Int64} (hd : decode (mC μ) pc = .ok (.ladd, 1))  (hp : pc + 1 = pc') (kk : X G μ d ex Fr pc' L (.long (x + y) :: st) h Q) : X G μ d ex Fr pc L (.long y :: .long x :: st) h Q := by
  subst hp
  intro l p e R s m args below meth c h0 H locs ls F hR hS hl h1 h2 hb
  exact lv_ladd F.1.1 F.1.2.1 hd (kk l p e R s m args below meth c h0 H locs ls F hR hS hl h1 h2 hb)
theorem x_lsub {x y : Int64} (hd : decode (mC μ) pc = .ok (.lsub, 1))  (hp : pc + 1 = pc') (kk : X G μ d ex Fr pc' L (.long (x - y) :: st) h Q) : X G μ d ex Fr pc L (.long y :: .long x :: st) h Q := by
  subst hp
  intro l p e R s m args below meth c h0 H locs ls F hR hS hl h1 h2 hb
  exact lv_lsub F.1.1 F.1.2.1 hd (kk l p e R s m args below meth c h0 H locs ls F hR hS hl h1 h2 hb)
theorem x_lmul {x y : Int64} (hd : decode (mC μ) pc = .ok (.lmul, 1))  (hp : pc + 1 = pc') (kk : X G μ d ex Fr pc' L (.long (x * y) :: st) h Q) : X G μ d ex Fr pc L (.long y :: .long x :: st) h Q := by
  subst hp
  intro l p e R s m args below meth c h0 H locs ls F hR hS hl h1 h2 hb
  exact lv_lmul F.1.1 F.1.2.1 hd (kk l p e R s m args below meth c h0 H locs ls F hR hS hl h1 h2 hb)
theorem x_land {x y : Int64} (hd : decode (mC μ) pc = .ok (.land, 1))  (hp : pc + 1 = pc') (kk : X G μ d ex Fr pc' L (.long (x &&& y) :: st) h Q) : X G μ d ex Fr pc L (.long y :: .long x :: st) h Q := by
  subst hp
  intro l p e R s m args below meth c h0 H locs ls F hR hS hl h1 h2 hb
  exact lv_land F.1.1 F.1.2.1 hd (kk l p e R s m args below meth c h0 H locs ls F hR hS hl h1 h2 hb)
theorem x_lor {x y : Int64} (hd : decode (mC μ) pc = .ok (.lor, 1))  (hp : pc + 1 = pc') (kk : X G μ d ex Fr pc' L (.long (x ||| y) :: st) h Q) : X G μ d ex Fr pc L (.long y :: .long x :: st) h Q := by
  subst hp
  intro l p e R s m args below meth c h0 H locs ls F hR hS hl h1 h2 hb
  exact lv_lor F.1.1 F.1.2.1 hd (kk l p e R s m args below meth c h0 H locs ls F hR hS hl h1 h2 hb)
theorem x_ldiv {x y : Int64} (hd : decode (mC μ) pc = .ok (.ldiv, 1)) (hne : ¬ y = 0) (hp : pc + 1 = pc') (kk : X G μ d ex Fr pc' L (.long (x / y) :: st) h Q) : X G μ d ex Fr pc L (.long y :: .long x :: st) h Q := by
  subst hp
  intro l p e R s m args below meth c h0 H locs ls F hR hS hl h1 h2 hb
  exact lv_ldiv F.1.1 F.1.2.1 hd hne (kk l p e R s m args below meth c h0 H locs ls F hR hS hl h1 h2 hb)
theorem x_lrem {x y : Int64} (hd : decode (mC μ) pc = .ok (.lrem, 1)) (hne : ¬ y = 0) (hp : pc + 1 = pc') (kk : X G μ d ex Fr pc' L (.long (x - x / y * y) :: st) h Q) : X G μ d ex Fr pc L (.long y :: .long x :: st) h Q := by
  subst hp
  intro l p e R s m args below meth c h0 H locs ls F hR hS hl h1 h2 hb
  exact lv_lrem F.1.1 F.1.2.1 hd hne (kk l p e R s m args below meth c h0 H locs ls F hR hS hl h1 h2 hb)
theorem x_lneg {x : Int64} (hd : decode (mC μ) pc = .ok (.lneg, 1))  (hp : pc + 1 = pc') (kk : X G μ d ex Fr pc' L (.long (-x) :: st) h Q) : X G μ d ex Fr pc L (.long x :: st) h Q := by
  subst hp
  intro l p e R s m args below meth c h0 H locs ls F hR hS hl h1 h2 hb
  exact lv_lneg F.1.1 F.1.2.1 hd (kk l p e R s m args below meth c h0 H locs ls F hR hS hl h1 h2 hb)
theorem x_iushr {x y : Int32} (hd : decode (mC μ) pc = .ok (.iushr, 1))  (hp : pc + 1 = pc') (kk : X G μ d ex Fr pc' L (.int ((x.toUInt32 >>> (y.toUInt32 &&& Int32.toUInt32 31)).toInt32) :: st) h Q) : X G μ d ex Fr pc L (.int y :: .int x :: st) h Q := by
  subst hp
  intro l p e R s m args below meth c h0 H locs ls F hR hS hl h1 h2 hb
  exact lv_iushr F.1.1 F.1.2.1 hd rfl (kk l p e R s m args below meth c h0 H locs ls F hR hS hl h1 h2 hb)
theorem x_lushr {x : Int64} {y : Int32} (hd : decode (mC μ) pc = .ok (.lushr, 1))  (hp : pc + 1 = pc') (kk : X G μ d ex Fr pc' L (.long ((x.toUInt64 >>> (y.toInt64.toUInt64 &&& Int64.toUInt64 63)).toInt64) :: st) h Q) : X G μ d ex Fr pc L (.int y :: .long x :: st) h Q := by
  subst hp
  intro l p e R s m args below meth c h0 H locs ls F hR hS hl h1 h2 hb
  exact lv_lushr F.1.1 F.1.2.1 hd rfl (kk l p e R s m args below meth c h0 H locs ls F hR hS hl h1 h2 hb)
theorem x_lshl {x : Int64} {y : Int32} (hd : decode (mC μ) pc = .ok (.lshl, 1))  (hp : pc + 1 = pc') (kk : X G μ d ex Fr pc' L (.long (x <<< (y.toInt64 &&& 63)) :: st) h Q) : X G μ d ex Fr pc L (.int y :: .long x :: st) h Q := by
  subst hp
  intro l p e R s m args below meth c h0 H locs ls F hR hS hl h1 h2 hb
  exact lv_lshl F.1.1 F.1.2.1 hd rfl (kk l p e R s m args below meth c h0 H locs ls F hR hS hl h1 h2 hb)
theorem x_i2l {x : Int32} (hd : decode (mC μ) pc = .ok (.i2l, 1))  (hp : pc + 1 = pc') (kk : X G μ d ex Fr pc' L (.long x.toInt64 :: st) h Q) : X G μ d ex Fr pc L (.int x :: st) h Q := by
  subst hp
  intro l p e R s m args below meth c h0 H locs ls F hR hS hl h1 h2 hb
  exact lv_i2l F.1.1 F.1.2.1 hd rfl (kk l p e R s m args below meth c h0 H locs ls F hR hS hl h1 h2 hb)
theorem x_l2i {x : Int64} (hd : decode (mC μ) pc = .ok (.l2i, 1))  (hp : pc + 1 = pc') (kk : X G μ d ex Fr pc' L (.int x.toInt32 :: st) h Q) : X G μ d ex Fr pc L (.long x :: st) h Q := by
  subst hp
  intro l p e R s m args below meth c h0 H locs ls F hR hS hl h1 h2 hb
  exact lv_l2i F.1.1 F.1.2.1 hd rfl (kk l p e R s m args below meth c h0 H locs ls F hR hS hl h1 h2 hb)
theorem x_i2b {x : Int32} (hd : decode (mC μ) pc = .ok (.i2b, 1))  (hp : pc + 1 = pc') (kk : X G μ d ex Fr pc' L (.int x.toInt8.toInt32 :: st) h Q) : X G μ d ex Fr pc L (.int x :: st) h Q := by
  subst hp
  intro l p e R s m args below meth c h0 H locs ls F hR hS hl h1 h2 hb
  exact lv_i2b F.1.1 F.1.2.1 hd rfl (kk l p e R s m args below meth c h0 H locs ls F hR hS hl h1 h2 hb)
theorem x_lcmp {x y : Int64} (hd : decode (mC μ) pc = .ok (.lcmp, 1))  (hp : pc + 1 = pc') (kk : X G μ d ex Fr pc' L (.int (lg_cmp x y) :: st) h Q) : X G μ d ex Fr pc L (.long y :: .long x :: st) h Q := by
  subst hp
  intro l p e R s m args below meth c h0 H locs ls F hR hS hl h1 h2 hb
  exact W.lcmp F.1.1 F.1.2.1 hd (kk l p e R s m args below meth c h0 H locs ls F hR hS hl h1 h2 hb)
theorem x_dup {va : Value} (hd : decode (mC μ) pc = .ok (.dup, 1)) (hva : va.category = 1) (hp : pc + 1 = pc') (kk : X G μ d ex Fr pc' L (va :: va :: st) h Q) : X G μ d ex Fr pc L (va :: st) h Q := by
  subst hp
  intro l p e R s m args below meth c h0 H locs ls F hR hS hl h1 h2 hb
  exact lv_dup F.1.1 F.1.2.1 hd hva (kk l p e R s m args below meth c h0 H locs ls F hR hS hl h1 h2 hb)
theorem x_pop {va : Value} (hd : decode (mC μ) pc = .ok (.pop, 1)) (hva : va.category = 1) (hp : pc + 1 = pc') (kk : X G μ d ex Fr pc' L (st) h Q) : X G μ d ex Fr pc L (va :: st) h Q := by
  subst hp
  intro l p e R s m args below meth c h0 H locs ls F hR hS hl h1 h2 hb
  exact lv_pop F.1.1 F.1.2.1 hd hva (kk l p e R s m args below meth c h0 H locs ls F hR hS hl h1 h2 hb)
theorem x_dup2 {va vb : Value} (hd : decode (mC μ) pc = .ok (.dup2, 1)) (hva : va.category = 1) (hvb : vb.category = 1) (hp : pc + 1 = pc') (kk : X G μ d ex Fr pc' L (va :: vb :: va :: vb :: st) h Q) : X G μ d ex Fr pc L (va :: vb :: st) h Q := by
  subst hp
  intro l p e R s m args below meth c h0 H locs ls F hR hS hl h1 h2 hb
  exact lv_dup2_11 F.1.1 F.1.2.1 hd hva hvb (kk l p e R s m args below meth c h0 H locs ls F hR hS hl h1 h2 hb)
theorem x_ldc {index : Nat} {v : Int32} (hd : decode (mC μ) pc = .ok (.ldc index, 2)) (hw : Cond.constant (mY μ).cls index v ∈ lw_all) (hp : pc + 2 = pc') (kk : X G μ d ex Fr pc' L (.int v :: st) h Q) : X G μ d ex Fr pc L st h Q := by
  subst hp
  intro l p e R s m args below meth c h0 H locs ls F hR hS hl h1 h2 hb
  exact lv_ldc F.1.1 F.1.2.1 F.1.2.2.2.2.1 (F.1.2.2.2.2.2.1 _ hw) hd (kk l p e R s m args below meth c h0 H locs ls F hR hS hl h1 h2 hb)
theorem x_ldcw {index : Nat} {v : Int32} (hd : decode (mC μ) pc = .ok (.ldc_w index, 3)) (hw : Cond.constant (mY μ).cls index v ∈ lw_all) (hp : pc + 3 = pc') (kk : X G μ d ex Fr pc' L (.int v :: st) h Q) : X G μ d ex Fr pc L st h Q := by
  subst hp
  intro l p e R s m args below meth c h0 H locs ls F hR hS hl h1 h2 hb
  exact lv_ldcw F.1.1 F.1.2.1 F.1.2.2.2.2.1 (F.1.2.2.2.2.2.1 _ hw) hd (kk l p e R s m args below meth c h0 H locs ls F hR hS hl h1 h2 hb)
theorem x_ldc2 {index : Nat} {v : Int64} (hd : decode (mC μ) pc = .ok (.ldc2_w index, 3)) (hw : Cond.constantLong (mY μ).cls index v ∈ lw_all) (hp : pc + 3 = pc') (kk : X G μ d ex Fr pc' L (.long v :: st) h Q) : X G μ d ex Fr pc L st h Q := by
  subst hp
  intro l p e R s m args below meth c h0 H locs ls F hR hS hl h1 h2 hb
  exact lv_ldc2 F.1.1 F.1.2.1 F.1.2.2.2.2.1 (F.1.2.2.2.2.2.1 _ hw) hd (kk l p e R s m args below meth c h0 H locs ls F hR hS hl h1 h2 hb)
theorem x_ldcS {index i : Nat} {tx : String} (hd : decode (mC μ) pc = .ok (.ldc index, 2)) (hw : ((mY μ).cls, index, tx, i) ∈ strL) (hp : pc + 2 = pc') (kk : X G μ d ex Fr pc' L (.ref (G.2.2.2.1 i) :: st) h Q) : X G μ d ex Fr pc L st h Q := by
  subst hp
  intro l p e R s m args below meth c h0 H locs ls F hR hS hl h1 h2 hb
  exact va_ldcS F.1.1 F.1.2.1 F.1.2.2.2.2.1 (F.2.1.1.2.2.1.2 _ hw) hd (kk l p e R s m args below meth c h0 H locs ls F hR hS hl h1 h2 hb)
theorem x_if_eq {x : Int32} {off : Int} {tgt : Nat} (hd : decode (mC μ) pc = .ok (.ifCond .eq off, 3)) (ht : (pc : Int) + off = (tgt : Int)) (hp : pc + 3 = pc') (kt : x = 0 → X G μ d ex Fr tgt L st h Q) (kf : ¬ (x = 0) → X G μ d ex Fr pc' L st h Q) : X G μ d ex Fr pc L (.int x :: st) h Q := by
  subst hp
  intro l p e R s m args below meth c h0 H locs ls F hR hS hl h1 h2 hb
  refine lv_if_eq F.1.1 F.1.2.1 hd ht (fun q => kt ?_ l p e R s m args below meth c h0 H locs ls F hR hS hl h1 h2 hb) (fun q => kf ?_ l p e R s m args below meth c h0 H locs ls F hR hS hl h1 h2 hb) <;> first | exact q | exact fun z => absurd z q | simpa using q | exact fun z => q z
theorem x_icmp_eq {x y : Int32} {off : Int} {tgt : Nat} (hd : decode (mC μ) pc = .ok (.if_icmp .eq off, 3)) (ht : (pc : Int) + off = (tgt : Int)) (hp : pc + 3 = pc') (kt : x = y → X G μ d ex Fr tgt L st h Q) (kf : ¬ (x = y) → X G μ d ex Fr pc' L st h Q) : X G μ d ex Fr pc L (.int y :: .int x :: st) h Q := by
  subst hp
  intro l p e R s m args below meth c h0 H locs ls F hR hS hl h1 h2 hb
  refine lv_icmp_eq F.1.1 F.1.2.1 hd ht (fun q => kt ?_ l p e R s m args below meth c h0 H locs ls F hR hS hl h1 h2 hb) (fun q => kf ?_ l p e R s m args below meth c h0 H locs ls F hR hS hl h1 h2 hb) <;> first | exact q | exact fun z => absurd z q | simpa using q | exact fun z => q z
theorem x_if_ne {x : Int32} {off : Int} {tgt : Nat} (hd : decode (mC μ) pc = .ok (.ifCond .ne off, 3)) (ht : (pc : Int) + off = (tgt : Int)) (hp : pc + 3 = pc') (kt : ¬ x = 0 → X G μ d ex Fr tgt L st h Q) (kf : ¬ (¬ x = 0) → X G μ d ex Fr pc' L st h Q) : X G μ d ex Fr pc L (.int x :: st) h Q := by
  subst hp
  intro l p e R s m args below meth c h0 H locs ls F hR hS hl h1 h2 hb
  refine lv_if_ne F.1.1 F.1.2.1 hd ht (fun q => kt ?_ l p e R s m args below meth c h0 H locs ls F hR hS hl h1 h2 hb) (fun q => kf ?_ l p e R s m args below meth c h0 H locs ls F hR hS hl h1 h2 hb) <;> first | exact q | exact fun z => absurd z q | simpa using q | exact fun z => q z
theorem x_icmp_ne {x y : Int32} {off : Int} {tgt : Nat} (hd : decode (mC μ) pc = .ok (.if_icmp .ne off, 3)) (ht : (pc : Int) + off = (tgt : Int)) (hp : pc + 3 = pc') (kt : ¬ x = y → X G μ d ex Fr tgt L st h Q) (kf : ¬ (¬ x = y) → X G μ d ex Fr pc' L st h Q) : X G μ d ex Fr pc L (.int y :: .int x :: st) h Q := by
  subst hp
  intro l p e R s m args below meth c h0 H locs ls F hR hS hl h1 h2 hb
  refine lv_icmp_ne F.1.1 F.1.2.1 hd ht (fun q => kt ?_ l p e R s m args below meth c h0 H locs ls F hR hS hl h1 h2 hb) (fun q => kf ?_ l p e R s m args below meth c h0 H locs ls F hR hS hl h1 h2 hb) <;> first | exact q | exact fun z => absurd z q | simpa using q | exact fun z => q z
theorem x_if_lt {x : Int32} {off : Int} {tgt : Nat} (hd : decode (mC μ) pc = .ok (.ifCond .lt off, 3)) (ht : (pc : Int) + off = (tgt : Int)) (hp : pc + 3 = pc') (kt : x < 0 → X G μ d ex Fr tgt L st h Q) (kf : ¬ (x < 0) → X G μ d ex Fr pc' L st h Q) : X G μ d ex Fr pc L (.int x :: st) h Q := by
  subst hp
  intro l p e R s m args below meth c h0 H locs ls F hR hS hl h1 h2 hb
  refine lv_if_lt F.1.1 F.1.2.1 hd ht (fun q => kt ?_ l p e R s m args below meth c h0 H locs ls F hR hS hl h1 h2 hb) (fun q => kf ?_ l p e R s m args below meth c h0 H locs ls F hR hS hl h1 h2 hb) <;> first | exact q | exact fun z => absurd z q | simpa using q | exact fun z => q z
theorem x_icmp_lt {x y : Int32} {off : Int} {tgt : Nat} (hd : decode (mC μ) pc = .ok (.if_icmp .lt off, 3)) (ht : (pc : Int) + off = (tgt : Int)) (hp : pc + 3 = pc') (kt : x < y → X G μ d ex Fr tgt L st h Q) (kf : ¬ (x < y) → X G μ d ex Fr pc' L st h Q) : X G μ d ex Fr pc L (.int y :: .int x :: st) h Q := by
  subst hp
  intro l p e R s m args below meth c h0 H locs ls F hR hS hl h1 h2 hb
  refine lv_icmp_lt F.1.1 F.1.2.1 hd ht (fun q => kt ?_ l p e R s m args below meth c h0 H locs ls F hR hS hl h1 h2 hb) (fun q => kf ?_ l p e R s m args below meth c h0 H locs ls F hR hS hl h1 h2 hb) <;> first | exact q | exact fun z => absurd z q | simpa using q | exact fun z => q z
theorem x_if_ge {x : Int32} {off : Int} {tgt : Nat} (hd : decode (mC μ) pc = .ok (.ifCond .ge off, 3)) (ht : (pc : Int) + off = (tgt : Int)) (hp : pc + 3 = pc') (kt : 0 ≤ x → X G μ d ex Fr tgt L st h Q) (kf : ¬ (0 ≤ x) → X G μ d ex Fr pc' L st h Q) : X G μ d ex Fr pc L (.int x :: st) h Q := by
  subst hp
  intro l p e R s m args below meth c h0 H locs ls F hR hS hl h1 h2 hb
  refine lv_if_ge F.1.1 F.1.2.1 hd ht (fun q => kt ?_ l p e R s m args below meth c h0 H locs ls F hR hS hl h1 h2 hb) (fun q => kf ?_ l p e R s m args below meth c h0 H locs ls F hR hS hl h1 h2 hb) <;> first | exact q | exact fun z => absurd z q | simpa using q | exact fun z => q z
theorem x_icmp_ge {x y : Int32} {off : Int} {tgt : Nat} (hd : decode (mC μ) pc = .ok (.if_icmp .ge off, 3)) (ht : (pc : Int) + off = (tgt : Int)) (hp : pc + 3 = pc') (kt : y ≤ x → X G μ d ex Fr tgt L st h Q) (kf : ¬ (y ≤ x) → X G μ d ex Fr pc' L st h Q) : X G μ d ex Fr pc L (.int y :: .int x :: st) h Q := by
  subst hp
  intro l p e R s m args below meth c h0 H locs ls F hR hS hl h1 h2 hb
  refine lv_icmp_ge F.1.1 F.1.2.1 hd ht (fun q => kt ?_ l p e R s m args below meth c h0 H locs ls F hR hS hl h1 h2 hb) (fun q => kf ?_ l p e R s m args below meth c h0 H locs ls F hR hS hl h1 h2 hb) <;> first | exact q | exact fun z => absurd z q | simpa using q | exact fun z => q z
theorem x_if_gt {x : Int32} {off : Int} {tgt : Nat} (hd : decode (mC μ) pc = .ok (.ifCond .gt off, 3)) (ht : (pc : Int) + off = (tgt : Int)) (hp : pc + 3 = pc') (kt : 0 < x → X G μ d ex Fr tgt L st h Q) (kf : ¬ (0 < x) → X G μ d ex Fr pc' L st h Q) : X G μ d ex Fr pc L (.int x :: st) h Q := by
  subst hp
  intro l p e R s m args below meth c h0 H locs ls F hR hS hl h1 h2 hb
  refine lv_if_gt F.1.1 F.1.2.1 hd ht (fun q => kt ?_ l p e R s m args below meth c h0 H locs ls F hR hS hl h1 h2 hb) (fun q => kf ?_ l p e R s m args below meth c h0 H locs ls F hR hS hl h1 h2 hb) <;> first | exact q | exact fun z => absurd z q | simpa using q | exact fun z => q z
theorem x_icmp_gt {x y : Int32} {off : Int} {tgt : Nat} (hd : decode (mC μ) pc = .ok (.if_icmp .gt off, 3)) (ht : (pc : Int) + off = (tgt : Int)) (hp : pc + 3 = pc') (kt : y < x → X G μ d ex Fr tgt L st h Q) (kf : ¬ (y < x) → X G μ d ex Fr pc' L st h Q) : X G μ d ex Fr pc L (.int y :: .int x :: st) h Q := by
  subst hp
  intro l p e R s m args below meth c h0 H locs ls F hR hS hl h1 h2 hb
  refine lv_icmp_gt F.1.1 F.1.2.1 hd ht (fun q => kt ?_ l p e R s m args below meth c h0 H locs ls F hR hS hl h1 h2 hb) (fun q => kf ?_ l p e R s m args below meth c h0 H locs ls F hR hS hl h1 h2 hb) <;> first | exact q | exact fun z => absurd z q | simpa using q | exact fun z => q z
theorem x_if_le {x : Int32} {off : Int} {tgt : Nat} (hd : decode (mC μ) pc = .ok (.ifCond .le off, 3)) (ht : (pc : Int) + off = (tgt : Int)) (hp : pc + 3 = pc') (kt : x ≤ 0 → X G μ d ex Fr tgt L st h Q) (kf : ¬ (x ≤ 0) → X G μ d ex Fr pc' L st h Q) : X G μ d ex Fr pc L (.int x :: st) h Q := by
  subst hp
  intro l p e R s m args below meth c h0 H locs ls F hR hS hl h1 h2 hb
  refine lv_if_le F.1.1 F.1.2.1 hd ht (fun q => kt ?_ l p e R s m args below meth c h0 H locs ls F hR hS hl h1 h2 hb) (fun q => kf ?_ l p e R s m args below meth c h0 H locs ls F hR hS hl h1 h2 hb) <;> first | exact q | exact fun z => absurd z q | simpa using q | exact fun z => q z
theorem x_icmp_le {x y : Int32} {off : Int} {tgt : Nat} (hd : decode (mC μ) pc = .ok (.if_icmp .le off, 3)) (ht : (pc : Int) + off = (tgt : Int)) (hp : pc + 3 = pc') (kt : x ≤ y → X G μ d ex Fr tgt L st h Q) (kf : ¬ (x ≤ y) → X G μ d ex Fr pc' L st h Q) : X G μ d ex Fr pc L (.int y :: .int x :: st) h Q := by
  subst hp
  intro l p e R s m args below meth c h0 H locs ls F hR hS hl h1 h2 hb
  refine lv_icmp_le F.1.1 F.1.2.1 hd ht (fun q => kt ?_ l p e R s m args below meth c h0 H locs ls F hR hS hl h1 h2 hb) (fun q => kf ?_ l p e R s m args below meth c h0 H locs ls F hR hS hl h1 h2 hb) <;> first | exact q | exact fun z => absurd z q | simpa using q | exact fun z => q z
theorem x_goto {off : Int} {tgt : Nat} (hd : decode (mC μ) pc = .ok (.goto off, 3)) (ht : (pc : Int) + off = (tgt : Int)) (kk : X G μ d ex Fr tgt L st h Q) : X G μ d ex Fr pc L st h Q := by
  intro l p e R s m args below meth c h0 H locs ls F hR hS hl h1 h2 hb
  exact lv_goto F.1.1 F.1.2.1 hd ht (kk l p e R s m args below meth c h0 H locs ls F hR hS hl h1 h2 hb)
theorem x_ifnull {x : Nat} {off : Int} (hd : decode (mC μ) pc = .ok (.ifnull off, 3)) (hp : pc + 3 = pc') (kk : X G μ d ex Fr pc' L st h Q) : X G μ d ex Fr pc L (.ref x :: st) h Q := by
  subst hp
  intro l p e R s m args below meth c h0 H locs ls F hR hS hl h1 h2 hb
  exact lv_ifnull F.1.1 F.1.2.1 hd (kk l p e R s m args below meth c h0 H locs ls F hR hS hl h1 h2 hb)
theorem x_ifnonnull {x : Nat} {off : Int} {tgt : Nat} (hd : decode (mC μ) pc = .ok (.ifnonnull off, 3)) (ht : (pc : Int) + off = (tgt : Int)) (kk : X G μ d ex Fr tgt L st h Q) : X G μ d ex Fr pc L (.ref x :: st) h Q := by
  intro l p e R s m args below meth c h0 H locs ls F hR hS hl h1 h2 hb
  exact lv_ifnonnull F.1.1 F.1.2.1 hd ht (kk l p e R s m args below meth c h0 H locs ls F hR hS hl h1 h2 hb)
theorem x_ifnullN {off : Int} {tgt : Nat} (hd : decode (mC μ) pc = .ok (.ifnull off, 3)) (ht : (pc : Int) + off = (tgt : Int)) (kk : X G μ d ex Fr tgt L st h Q) : X G μ d ex Fr pc L (.null :: st) h Q := by
  intro l p e R s m args below meth c h0 H locs ls F hR hS hl h1 h2 hb
  exact lv_ifnullN F.1.1 F.1.2.1 hd ht (kk l p e R s m args below meth c h0 H locs ls F hR hS hl h1 h2 hb)
theorem x_ifnonnullN {off : Int} (hd : decode (mC μ) pc = .ok (.ifnonnull off, 3)) (hp : pc + 3 = pc') (kk : X G μ d ex Fr pc' L st h Q) : X G μ d ex Fr pc L (.null :: st) h Q := by
  subst hp
  intro l p e R s m args below meth c h0 H locs ls F hR hS hl h1 h2 hb
  exact lv_ifnonnullN F.1.1 F.1.2.1 hd (kk l p e R s m args below meth c h0 H locs ls F hR hS hl h1 h2 hb)
theorem x_acmp_ne {rx ry : Option Nat} {off : Int} {tgt : Nat} (hd : decode (mC μ) pc = .ok (.if_acmp .ne off, 3)) (ht : (pc : Int) + off = (tgt : Int)) (hp : pc + 3 = pc') (kt : ¬ rx = ry → X G μ d ex Fr tgt L st h Q) (kf : rx = ry → X G μ d ex Fr pc' L st h Q) : X G μ d ex Fr pc L (va_rf ry :: va_rf rx :: st) h Q := by
  subst hp
  intro l p e R s m args below meth c h0 H locs ls F hR hS hl h1 h2 hb
  exact lv_acmp_ne F.1.1 F.1.2.1 hd ht (fun q => kt q l p e R s m args below meth c h0 H locs ls F hR hS hl h1 h2 hb) (fun q => kf q l p e R s m args below meth c h0 H locs ls F hR hS hl h1 h2 hb)
theorem x_lookup {dflt : Int} {ps : Array (Int × Int)} {len : Nat} {x : Int32} {off : Int} {tgt : Nat} (hd : decode (mC μ) pc = .ok (.lookupswitch dflt ps, len)) (hps : (ps.toList.zip (ps.toList.drop 1)).all (fun (a, next) => a.1 < next.1) = true) (ho : Op.lookupswitch.offset ps.toList dflt x.toInt = off) (ht : (pc : Int) + off = (tgt : Int)) (kk : X G μ d ex Fr tgt L st h Q) : X G μ d ex Fr pc L (.int x :: st) h Q := by
  intro l p e R s m args below meth c h0 H locs ls F hR hS hl h1 h2 hb
  exact lv_lookup F.1.1 F.1.2.1 hd hps ho ht (kk l p e R s m args below meth c h0 H locs ls F hR hS hl h1 h2 hb)
theorem x_tableIn {dflt lo hi : Int} {offs : Array Int} {len : Nat} {x : Int32} {off : Int} {tgt : Nat} (hd : decode (mC μ) pc = .ok (.tableswitch dflt lo hi offs, len)) (q1 : ¬ x.toInt < lo) (q2 : ¬ hi < x.toInt) (ho : offs[(x.toInt - lo).toNat]? = some off) (ht : (pc : Int) + off = (tgt : Int)) (kk : X G μ d ex Fr tgt L st h Q) : X G μ d ex Fr pc L (.int x :: st) h Q := by
  intro l p e R s m args below meth c h0 H locs ls F hR hS hl h1 h2 hb
  exact lv_tableIn F.1.1 F.1.2.1 hd q1 q2 ho ht (kk l p e R s m args below meth c h0 H locs ls F hR hS hl h1 h2 hb)
theorem x_tableOut {dflt lo hi : Int} {offs : Array Int} {len : Nat} {x : Int32} {tgt : Nat} (hd : decode (mC μ) pc = .ok (.tableswitch dflt lo hi offs, len)) (q : x.toInt < lo ∨ hi < x.toInt) (ht : (pc : Int) + dflt = (tgt : Int)) (kk : X G μ d ex Fr tgt L st h Q) : X G μ d ex Fr pc L (.int x :: st) h Q := by
  intro l p e R s m args below meth c h0 H locs ls F hR hS hl h1 h2 hb
  exact lv_tableOut F.1.1 F.1.2.1 hd q ht (kk l p e R s m args below meth c h0 H locs ls F hR hS hl h1 h2 hb)
theorem x_castN {index : Nat} (hd : decode (mC μ) pc = .ok (.checkcast index, 3)) (hp : pc + 3 = pc') (kk : X G μ d ex Fr pc' L (.null :: st) h Q) : X G μ d ex Fr pc L (.null :: st) h Q := by
  subst hp
  intro l p e R s m args below meth c h0 H locs ls F hR hS hl h1 h2 hb
  exact lv_castN F.1.1 F.1.2.1 hd (kk l p e R s m args below meth c h0 H locs ls F hR hS hl h1 h2 hb)
theorem x_cast {index a k : Nat} {nm : String} (hd : decode (mC μ) pc = .ok (.checkcast index, 3)) (hw : Cond.classLink (mY μ).cls index nm ∈ lw_all) (hk : k < 56) (ha : hK h a = k + 1) (hc : (cname k, nm) ∈ castL) (hp : pc + 3 = pc') (kk : X G μ d ex Fr pc' L (.ref a :: st) h Q) : X G μ d ex Fr pc L (.ref a :: st) h Q := by
  subst hp
  intro l p e R s m args below meth c h0 H locs ls F hR hS hl h1 h2 hb
  exact va_castY F.1.1 F.1.2.1 F.1.2.2.2.2.1 (F.1.2.2.2.2.2.1 _ hw) (F.2.1.1.2.1.1 _ hc) (rp_recv hR F.2.1.1 hk ha) hd (kk l p e R s m args below meth c h0 H locs ls F hR hS hl h1 h2 hb)
theorem x_castS {index a k : Nat} (hd : decode (mC μ) pc = .ok (.checkcast index, 3)) (hw : Cond.classLink (mY μ).cls index (cname k) ∈ lw_all) (hk : k < 56) (ha : hK h a = k + 1) (hp : pc + 3 = pc') (kk : X G μ d ex Fr pc' L (.ref a :: st) h Q) : X G μ d ex Fr pc L (.ref a :: st) h Q := by
  subst hp
  intro l p e R s m args below meth c h0 H locs ls F hR hS hl h1 h2 hb
  exact va_castS F.1.1 F.1.2.1 F.1.2.2.2.2.1 (F.1.2.2.2.2.2.1 _ hw) (F.2.1.1.1.1.1 k _ (cl_at hk)).2 (rp_recv hR F.2.1.1 hk ha) hd (kk l p e R s m args below meth c h0 H locs ls F hR hS hl h1 h2 hb)
theorem x_iret {v : Int32} (hd : decode (mC μ) pc = .ok (.ireturn, 1)) (hr : mR μ = some .int) (kk : Q (.returned (some (.int v))) h) : X G μ d ex Fr pc L ([.int v]) h Q := by
  intro l p e R s m args below meth c h0 H locs ls F hR hS hl h1 h2 hb
  refine W.mono ?_ (W.iret (Qc := fun _ _ o t => o = .returned (some (.int v)) ∧ t.heap = H) (free := gA G) F.1.1 F.1.2.1 (F.1.2.2.1.trans hr) (fun t ht _ => ⟨rfl, ht⟩) hS.2.2 hd F.1.2.2.2.2.2.2)
  intro t ⟨o, b1, b2, ⟨b3, b4⟩, L0, ⟨_, b5, b6⟩, b7⟩
  exact ⟨o, h, L0, b1, b2, by rw [b3]; exact kk, by rw [b4]; exact hR, b5, b6, b7, h1, hb⟩
theorem x_zret {v : Int32} {ty : FieldType} (hd : decode (mC μ) pc = .ok (.ireturn, 1)) (hr : mR μ = some ty) (hn : narrow ty (.int v) = .int v) (kk : Q (.returned (some (.int v))) h) : X G μ d ex Fr pc L ([.int v]) h Q := by
  intro l p e R s m args below meth c h0 H locs ls F hR hS hl h1 h2 hb
  refine W.mono ?_ (W.zret (Qc := fun _ _ o t => o = .returned (some (.int v)) ∧ t.heap = H) (free := gA G) F.1.1 F.1.2.1 (F.1.2.2.1.trans hr) hn (fun t ht _ => ⟨rfl, ht⟩) hS.2.2 hd F.1.2.2.2.2.2.2)
  intro t ⟨o, b1, b2, ⟨b3, b4⟩, L0, ⟨_, b5, b6⟩, b7⟩
  exact ⟨o, h, L0, b1, b2, by rw [b3]; exact kk, by rw [b4]; exact hR, b5, b6, b7, h1, hb⟩
theorem x_lret {v : Int64} (hd : decode (mC μ) pc = .ok (.lreturn, 1)) (hr : mR μ = some .long) (kk : Q (.returned (some (.long v))) h) : X G μ d ex Fr pc L ([.long v]) h Q := by
  intro l p e R s m args below meth c h0 H locs ls F hR hS hl h1 h2 hb
  refine W.mono ?_ (W.lret (Qc := fun _ _ o t => o = .returned (some (.long v)) ∧ t.heap = H) (free := gA G) F.1.1 F.1.2.1 (F.1.2.2.1.trans hr) (fun t ht _ => ⟨rfl, ht⟩) hS.2.2 hd F.1.2.2.2.2.2.2)
  intro t ⟨o, b1, b2, ⟨b3, b4⟩, L0, ⟨_, b5, b6⟩, b7⟩
  exact ⟨o, h, L0, b1, b2, by rw [b3]; exact kk, by rw [b4]; exact hR, b5, b6, b7, h1, hb⟩
theorem x_vret  (hd : decode (mC μ) pc = .ok (.return_, 1)) (hr : mR μ = none) (kk : Q (.returned none) h) : X G μ d ex Fr pc L ([]) h Q := by
  intro l p e R s m args below meth c h0 H locs ls F hR hS hl h1 h2 hb
  refine W.mono ?_ (W.vret (Qc := fun _ _ o t => o = .returned none ∧ t.heap = H) (free := gA G) F.1.1 F.1.2.1 (F.1.2.2.1.trans hr) (fun t ht _ => ⟨rfl, ht⟩) hS.2.2 hd F.1.2.2.2.2.2.2)
  intro t ⟨o, b1, b2, ⟨b3, b4⟩, L0, ⟨_, b5, b6⟩, b7⟩
  exact ⟨o, h, L0, b1, b2, by rw [b3]; exact kk, by rw [b4]; exact hR, b5, b6, b7, h1, hb⟩
theorem x_aret {v : Value} {rt : FieldType} (hd : decode (mC μ) pc = .ok (.areturn, 1)) (hr : mR μ = some rt) (hrt : (∃ n, rt = .object n) ∨ ∃ t, rt = .array t) (hv : v = .null ∨ ∃ a, v = .ref a) (kk : Q (.returned (some v)) h) : X G μ d ex Fr pc L ([v]) h Q := by
  intro l p e R s m args below meth c h0 H locs ls F hR hS hl h1 h2 hb
  refine W.mono ?_ (W.aret (Qc := fun _ _ o t => o = .returned (some v) ∧ t.heap = H) (free := gA G) F.1.1 F.1.2.1 (F.1.2.2.1.trans hr) hrt hv (fun t ht _ => ⟨rfl, ht⟩) hS.2.2 hd F.1.2.2.2.2.2.2)
  intro t ⟨o, b1, b2, ⟨b3, b4⟩, L0, ⟨_, b5, b6⟩, b7⟩
  exact ⟨o, h, L0, b1, b2, by rw [b3]; exact kk, by rw [b4]; exact hR, b5, b6, b7, h1, hb⟩
theorem x_athrow0 {a : Nat} (hd : decode (mC μ) pc = .ok (.athrow, 1)) (kk : XT G μ d ex Fr pc L a h Q) : X G μ d ex Fr pc L (.ref a :: st) h Q := by
  intro l p e R s m args below meth c h0 H locs ls F hR hS hl h1 h2 hb
  intro T hT XS
  obtain ⟨t, a1, b1⟩ := kk l p e R s m args below meth c h0 H locs ls st F hR hS hl h1 h2 hb T hT XS
  refine ⟨t, ?_, b1⟩
  have hexec := F.1.1
  have hdc : decode c.code pc = .ok (.athrow, 1) := by rw [F.1.2.1]; exact hd
  show Steps p.tables e below (T.setTop (F0 m pc ls (.ref a :: st))) t
  jvm_step XS.here [hexec, hdc, athrow.wp_sem]
  exact a1
theorem x_athrow {a : Nat} (hd : decode (mC μ) pc = .ok (.athrow, 1)) (hH : cov (mH μ) pc = false) (kk : Q (.threw a) h) : X G μ d ex Fr pc L (.ref a :: st) h Q := x_athrow0 hd (XT.leave hH kk)
theorem x_objInit {index a : Nat} (hd : decode (mC μ) pc = .ok (.invokespecial index, 3)) (hw : Cond.methodLink (mY μ).cls index Lib.objectInit ∈ lw_all) (hi : Cond.instanceMethod Lib.objectInit ∈ lw_all) (hcd : Cond.code Lib.objectInit ⟨#[0xb1]⟩ 1 none ∈ lw_all) (hst : (st.map fun v => v.category).sum ≤ 29) (hd1 : 1 ≤ d) (hp : pc + 3 = pc') (kk : X G μ d ex Fr pc' L st h Q) : X G μ d ex Fr pc L (.ref a :: st) h Q := by
  subst hp
  intro l p e R s m args below meth c h0 H locs ls F hR hS hl h1 h2 hb
  have r1 := F.2.2.1
  have r2 := F.2.2.2.1
  exact W.objInit F.1.1 F.1.2.1 F.1.2.2.2.2.1 (F.1.2.2.2.2.2.1 _ hw) (F.1.2.2.2.2.2.1 _ hi) (F.1.2.2.2.2.2.1 _ hcd) rfl (hl.1.trans F.1.2.2.2.1.symm) rfl hd (by omega) (by show 2 * 0 + _ + 12 ≤ _; omega) (kk l p e R s m args below meth c h0 H locs ls F hR hS hl h1 h2 hb)
end
