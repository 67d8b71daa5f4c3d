/-! THE WALKER'S BASE: one judgement GJ for a method's frame over a heap predicate P; two heap predicates: CP (the component's memory: ints, references, kinds, size) and TP (the reference: one object and its arrays, at fixed places) -/
abbrev Gm : Type := Program × Launch × Env × Room × State × MethodId × Array Value × List Frame × Method × Code
abbrev gR (g : Gm) : Room := g.2.2.2.1
abbrev gs (g : Gm) : State := g.2.2.2.2.1
abbrev gm (g : Gm) : MethodId := g.2.2.2.2.2.1
abbrev ga (g : Gm) : Array Value := g.2.2.2.2.2.2.1
abbrev gb (g : Gm) : List Frame := g.2.2.2.2.2.2.2.1
abbrev gme (g : Gm) : Method := g.2.2.2.2.2.2.2.2.1
abbrev gc (g : Gm) : Code := g.2.2.2.2.2.2.2.2.2
abbrev gW (g : Gm) (H : Heap) (locs : List Loc) (cu : Nat) (Q : State → Prop) (f : JFrame) : Prop :=
  W g.1 g.2.1 g.2.2.1 (gR g) (gs g) (gm g) (ga g) (gb g) (gme g) (gc g) H locs cu (24 * cu) Q f
def GJ (g : Gm) (nL : Nat) (P : Heap → List Loc → Prop) (cu : Nat) (Q : State → Prop) (pc : Nat) (lc : List (Nat × Value)) (st : List Value) : Prop :=
  ∀ (H : Heap) (locs : List Loc) (ls : Array Slot), P H locs → lv_has ls nL lc → gW g H locs cu Q (F0 (gm g) pc ls st)
/-- the method's own facts -/
def CxH (g : Gm) (cc : ByteArray) (nL : Nat) (own : String) : Prop := CallFix g.1 (gm g) (gc g) cc nL (gs g) (ga g) lw_all own
/-- a reference by its number: 0 is null, a + 1 the cell a -/
def rv (n : Nat) : Value := match n with
  | 0 => .null
  | a + 1 => .ref a
def rq (n : Nat) : Option Nat := match n with
  | 0 => none
  | a + 1 => some a
theorem rv_rf (n : Nat) : rv n = va_rf (rq n) := by cases n <;> rfl
theorem rq_inj {a b : Nat} : rq a = rq b ↔ a = b := by cases a <;> cases b <;> simp [rq]
theorem rv_cat (n : Nat) : (rv n).category = 1 := by cases n <;> rfl
theorem rv_isRef (n : Nat) : (rv n).isRef = true := by cases n <;> rfl
/-- the locals at a place of the list -/
theorem gj_sub {g : Gm} {nL : Nat} {P : Heap → List Loc → Prop} {cu : Nat} {Q : State → Prop} {pc : Nat} {lc lc' : List (Nat × Value)} {st : List Value} (ks : List Nat) (h : lv_pick lc ks = lc') (k : GJ g nL P cu Q pc lc' st) : GJ g nL P cu Q pc lc st :=
  fun H locs ls hP hl => k H locs ls hP (lv_sub hl ks h)
theorem gj_imp {g : Gm} {nL : Nat} {P P' : Heap → List Loc → Prop} {cu : Nat} {Q : State → Prop} {pc : Nat} {lc : List (Nat × Value)} {st : List Value} (h : ∀ H locs, P H locs → P' H locs) (k : GJ g nL P' cu Q pc lc st) : GJ g nL P cu Q pc lc st :=
  fun H locs ls hP hl => k H locs ls (h H locs hP) hl
theorem gj_widen {g : Gm} {nL : Nat} {P : Heap → List Loc → Prop} {cu cu' : Nat} {Q : State → Prop} {pc : Nat} {lc : List (Nat × Value)} {st : List Value} (h : cu ≤ cu') (k : GJ g nL P cu' Q pc lc st) : GJ g nL P cu Q pc lc st :=
  fun H locs ls hP hl => W.widen (k := cu') (n := 24 * cu') h (by omega) (k H locs ls hP hl)
section BASE
variable {g : Gm} {cc : ByteArray} {nL : Nat} {own : String} {P : Heap → List Loc → Prop} {cu : Nat} {Q : State → Prop} {pc : Nat} {lc lc' : List (Nat × Value)} {rest : List Value}
theorem gj_iconst (C : CxH g cc nL own) {n : Int} {v : Int32} (d : decode cc pc = .ok (.iconst n, 1)) (hv : Int32.ofInt n = v) (k : GJ g nL P cu Q (pc + 1) lc (.int v :: rest)) : GJ g nL P cu Q pc lc rest :=
  fun H locs ls hP hl => lv_iconst C.1 C.2.1 d hv (k H locs ls hP hl)
theorem gj_bipush (C : CxH g cc nL own) {n : Int} {v : Int32} (d : decode cc pc = .ok (.bipush n, 2)) (hv : (Int8.ofInt n).toInt32 = v) (k : GJ g nL P cu Q (pc + 2) lc (.int v :: rest)) : GJ g nL P cu Q pc lc rest :=
  fun H locs ls hP hl => lv_bipush C.1 C.2.1 d hv (k H locs ls hP hl)
theorem gj_sipush (C : CxH g cc nL own) {n : Int} {v : Int32} (d : decode cc pc = .ok (.sipush n, 3)) (hv : (Int16.ofInt n).toInt32 = v) (k : GJ g nL P cu Q (pc + 3) lc (.int v :: rest)) : GJ g nL P cu Q pc lc rest :=
  fun H locs ls hP hl => lv_sipush C.1 C.2.1 d hv (k H locs ls hP hl)
theorem gj_lconst (C : CxH g cc nL own) {n : Fin 2} {v : Int64} (d : decode cc pc = .ok (.lconst n, 1)) (hv : Int64.ofNat (n : Nat) = v) (k : GJ g nL P cu Q (pc + 1) lc (.long v :: rest)) : GJ g nL P cu Q pc lc rest :=
  fun H locs ls hP hl => lv_lconst C.1 C.2.1 d hv (k H locs ls hP hl)
theorem gj_ldc (C : CxH g cc nL own) {index : Nat} {v : Int32} (hc : Cond.constant own index v ∈ lw_all) (d : decode cc pc = .ok (.ldc index, 2)) (k : GJ g nL P cu Q (pc + 2) lc (.int v :: rest)) : GJ g nL P cu Q pc lc rest :=
  fun H locs ls hP hl => lv_ldc C.1 C.2.1 C.2.2.2.1 (C.2.2.2.2 _ hc) d (k H locs ls hP hl)
theorem gj_ldcw (C : CxH g cc nL own) {index : Nat} {v : Int32} (hc : Cond.constant own index v ∈ lw_all) (d : decode cc pc = .ok (.ldc_w index, 3)) (k : GJ g nL P cu Q (pc + 3) lc (.int v :: rest)) : GJ g nL P cu Q pc lc rest :=
  fun H locs ls hP hl => lv_ldcw C.1 C.2.1 C.2.2.2.1 (C.2.2.2.2 _ hc) d (k H locs ls hP hl)
theorem gj_ldc2 (C : CxH g cc nL own) {index : Nat} {v : Int64} (hc : Cond.constantLong own index v ∈ lw_all) (d : decode cc pc = .ok (.ldc2_w index, 3)) (k : GJ g nL P cu Q (pc + 3) lc (.long v :: rest)) : GJ g nL P cu Q pc lc rest :=
  fun H locs ls hP hl => lv_ldc2 C.1 C.2.1 C.2.2.2.1 (C.2.2.2.2 _ hc) d (k H locs ls hP hl)
theorem gj_iload_n (C : CxH g cc nL own) {k4 : Fin 4} {x : Int32} (d : decode cc pc = .ok (.iload_n k4, 1)) (q : Nat) (h : lc[q]? = some ((k4 : Nat), .int x)) (k : GJ g nL P cu Q (pc + 1) lc (.int x :: rest)) : GJ g nL P cu Q pc lc rest :=
  fun H locs ls hP hl => lv_iload_n C.1 C.2.1 d rfl (lv_at hl q h) (k H locs ls hP hl)
theorem gj_iload (C : CxH g cc nL own) {i : Nat} {x : Int32} (d : decode cc pc = .ok (.iload i, 2)) (q : Nat) (h : lc[q]? = some (i, .int x)) (k : GJ g nL P cu Q (pc + 2) lc (.int x :: rest)) : GJ g nL P cu Q pc lc rest :=
  fun H locs ls hP hl => lv_iload C.1 C.2.1 d (lv_at hl q h) (k H locs ls hP hl)
theorem gj_lload_n (C : CxH g cc nL own) {k4 : Fin 4} {x : Int64} (d : decode cc pc = .ok (.lload_n k4, 1)) (q : Nat) (h : lc[q]? = some ((k4 : Nat), .long x)) (k : GJ g nL P cu Q (pc + 1) lc (.long x :: rest)) : GJ g nL P cu Q pc lc rest :=
  fun H locs ls hP hl => lv_lload_n C.1 C.2.1 d rfl (lv_at hl q h) (k H locs ls hP hl)
theorem gj_lload (C : CxH g cc nL own) {i : Nat} {x : Int64} (d : decode cc pc = .ok (.lload i, 2)) (q : Nat) (h : lc[q]? = some (i, .long x)) (k : GJ g nL P cu Q (pc + 2) lc (.long x :: rest)) : GJ g nL P cu Q pc lc rest :=
  fun H locs ls hP hl => lv_lload C.1 C.2.1 d (lv_at hl q h) (k H locs ls hP hl)
theorem gj_aload_n (C : CxH g cc nL own) {k4 : Fin 4} {x : Nat} (d : decode cc pc = .ok (.aload_n k4, 1)) (q : Nat) (h : lc[q]? = some ((k4 : Nat), rv x)) (k : GJ g nL P cu Q (pc + 1) lc (rv x :: rest)) : GJ g nL P cu Q pc lc rest := by
  intro H locs ls hP hl
  have h1 := lv_at hl q h
  have h2 := k H locs ls hP hl
  cases x with
  | zero => exact lv_aload_nN C.1 C.2.1 d rfl h1 h2
  | succ x => exact lv_aload_n C.1 C.2.1 d rfl h1 h2
theorem gj_aload (C : CxH g cc nL own) {i x : Nat} (d : decode cc pc = .ok (.aload i, 2)) (q : Nat) (h : lc[q]? = some (i, rv x)) (k : GJ g nL P cu Q (pc + 2) lc (rv x :: rest)) : GJ g nL P cu Q pc lc rest := by
  intro H locs ls hP hl
  have h1 := lv_at hl q h
  have h2 := k H locs ls hP hl
  cases x with
  | zero => exact lv_aloadN C.1 C.2.1 d h1 h2
  | succ x => exact lv_aload C.1 C.2.1 d h1 h2
/-- the locals behind a store of one slot -/
def lst1 (lc : List (Nat × Value)) (i : Nat) (v : Value) : List (Nat × Value) := (i, v) :: lc.filter (fun q => !(q.1 == i) && !(q.1 + 1 == i && q.2.category == 2))
def lst2 (lc : List (Nat × Value)) (i : Nat) (v : Value) : List (Nat × Value) := (i, v) :: lc.filter (fun q => !(q.1 == i) && (!(q.1 == i + 1) && !(q.1 + 1 == i && q.2.category == 2)))
theorem gj_istore_n (C : CxH g cc nL own) {k4 : Fin 4} {x : Int32} (d : decode cc pc = .ok (.istore_n k4, 1)) (hn : (k4 : Nat) < nL) (h : lst1 lc k4 (.int x) = lc') (k : GJ g nL P cu Q (pc + 1) lc' rest) : GJ g nL P cu Q pc lc (.int x :: rest) :=
  fun H locs _ hP hl => lv_istore_n C.1 C.2.1 d rfl hl hn h (fun ls' hl' => k H locs ls' hP hl')
theorem gj_istore (C : CxH g cc nL own) {i : Nat} {x : Int32} (d : decode cc pc = .ok (.istore i, 2)) (hn : i < nL) (h : lst1 lc i (.int x) = lc') (k : GJ g nL P cu Q (pc + 2) lc' rest) : GJ g nL P cu Q pc lc (.int x :: rest) :=
  fun H locs _ hP hl => lv_istore C.1 C.2.1 d hl hn h (fun ls' hl' => k H locs ls' hP hl')
theorem gj_lstore_n (C : CxH g cc nL own) {k4 : Fin 4} {x : Int64} (d : decode cc pc = .ok (.lstore_n k4, 1)) (hn : (k4 : Nat) + 1 < nL) (h : lst2 lc k4 (.long x) = lc') (k : GJ g nL P cu Q (pc + 1) lc' rest) : GJ g nL P cu Q pc lc (.long x :: rest) :=
  fun H locs _ hP hl => lv_lstore_n C.1 C.2.1 d rfl hl hn h (fun ls' hl' => k H locs ls' hP hl')
theorem gj_lstore (C : CxH g cc nL own) {i : Nat} {x : Int64} (d : decode cc pc = .ok (.lstore i, 2)) (hn : i + 1 < nL) (h : lst2 lc i (.long x) = lc') (k : GJ g nL P cu Q (pc + 2) lc' rest) : GJ g nL P cu Q pc lc (.long x :: rest) :=
  fun H locs _ hP hl => lv_lstore C.1 C.2.1 d hl hn h (fun ls' hl' => k H locs ls' hP hl')
theorem gj_astore_n (C : CxH g cc nL own) {k4 : Fin 4} {x : Nat} (d : decode cc pc = .ok (.astore_n k4, 1)) (hn : (k4 : Nat) < nL) (h : lst1 lc k4 (rv x) = lc') (k : GJ g nL P cu Q (pc + 1) lc' rest) : GJ g nL P cu Q pc lc (rv x :: rest) := by
  intro H locs _ hP hl
  cases x with
  | zero => exact lv_astore_nN C.1 C.2.1 d rfl hl hn h (fun ls' hl' => k H locs ls' hP hl')
  | succ x => exact lv_astore_n C.1 C.2.1 d rfl hl hn h (fun ls' hl' => k H locs ls' hP hl')
theorem gj_astore (C : CxH g cc nL own) {i x : Nat} (d : decode cc pc = .ok (.astore i, 2)) (hn : i < nL) (h : lst1 lc i (rv x) = lc') (k : GJ g nL P cu Q (pc + 2) lc' rest) : GJ g nL P cu Q pc lc (rv x :: rest) := by
  intro H locs _ hP hl
  cases x with
  | zero => exact lv_astoreN C.1 C.2.1 d hl hn h (fun ls' hl' => k H locs ls' hP hl')
  | succ x => exact lv_astore C.1 C.2.1 d hl hn h (fun ls' hl' => k H locs ls' hP hl')
theorem gj_iinc (C : CxH g cc nL own) {i : Nat} {n : Int} {x v w : Int32} (d : decode cc pc = .ok (.iinc i n, 3)) (q : Nat) (h : lc[q]? = some (i, .int x)) (hv : Int32.ofInt n = w) (e : x + w = v) (hn : i < nL) (hs : lst1 lc i (.int v) = lc') (k : GJ g nL P cu Q (pc + 3) lc' rest) : GJ g nL P cu Q pc lc rest :=
  fun H locs _ hP hl => lv_iinc C.1 C.2.1 d hl h (by rw [hv]; exact e) hn hs (fun ls' hl' => k H locs ls' hP hl')
end BASE
section BASEB
variable {g : Gm} {cc : ByteArray} {nL : Nat} {own : String} {P : Heap → List Loc → Prop} {cu : Nat} {Q : State → Prop} {pc : Nat} {lc : List (Nat × Value)} {rest : List Value}
theorem gj_iadd (C : CxH g cc nL own) {x y : Int32} (d : decode cc pc = .ok (.iadd, 1)) (k : GJ g nL P cu Q (pc + 1) lc (.int (x + y) :: rest)) : GJ g nL P cu Q pc lc (.int y :: .int x :: rest) :=
  fun H locs ls hP hl => lv_iadd C.1 C.2.1 d (k H locs ls hP hl)
theorem gj_isub (C : CxH g cc nL own) {x y : Int32} (d : decode cc pc = .ok (.isub, 1)) (k : GJ g nL P cu Q (pc + 1) lc (.int (x - y) :: rest)) : GJ g nL P cu Q pc lc (.int y :: .int x :: rest) :=
  fun H locs ls hP hl => lv_isub C.1 C.2.1 d (k H locs ls hP hl)
theorem gj_imul (C : CxH g cc nL own) {x y : Int32} (d : decode cc pc = .ok (.imul, 1)) (k : GJ g nL P cu Q (pc + 1) lc (.int (x * y) :: rest)) : GJ g nL P cu Q pc lc (.int y :: .int x :: rest) :=
  fun H locs ls hP hl => lv_imul C.1 C.2.1 d (k H locs ls hP hl)
theorem gj_iand (C : CxH g cc nL own) {x y : Int32} (d : decode cc pc = .ok (.iand, 1)) (k : GJ g nL P cu Q (pc + 1) lc (.int (x &&& y) :: rest)) : GJ g nL P cu Q pc lc (.int y :: .int x :: rest) :=
  fun H locs ls hP hl => lv_iand C.1 C.2.1 d (k H locs ls hP hl)
theorem gj_ior (C : CxH g cc nL own) {x y : Int32} (d : decode cc pc = .ok (.ior, 1)) (k : GJ g nL P cu Q (pc + 1) lc (.int (x ||| y) :: rest)) : GJ g nL P cu Q pc lc (.int y :: .int x :: rest) :=
  fun H locs ls hP hl => lv_ior C.1 C.2.1 d (k H locs ls hP hl)
theorem gj_ixor (C : CxH g cc nL own) {x y : Int32} (d : decode cc pc = .ok (.ixor, 1)) (k : GJ g nL P cu Q (pc + 1) lc (.int (x ^^^ y) :: rest)) : GJ g nL P cu Q pc lc (.int y :: .int x :: rest) :=
  fun H locs ls hP hl => lv_ixor C.1 C.2.1 d (k H locs ls hP hl)
theorem gj_idiv (C : CxH g cc nL own) {x y : Int32} (d : decode cc pc = .ok (.idiv, 1)) (h : ¬ y = 0) (k : GJ g nL P cu Q (pc + 1) lc (.int (x / y) :: rest)) : GJ g nL P cu Q pc lc (.int y :: .int x :: rest) :=
  fun H locs ls hP hl => lv_idiv C.1 C.2.1 d h (k H locs ls hP hl)
theorem gj_irem (C : CxH g cc nL own) {x y : Int32} (d : decode cc pc = .ok (.irem, 1)) (h : ¬ y = 0) (k : GJ g nL P cu Q (pc + 1) lc (.int (x - x / y * y) :: rest)) : GJ g nL P cu Q pc lc (.int y :: .int x :: rest) :=
  fun H locs ls hP hl => lv_irem C.1 C.2.1 d h (k H locs ls hP hl)
theorem gj_ineg (C : CxH g cc nL own) {x : Int32} (d : decode cc pc = .ok (.ineg, 1)) (k : GJ g nL P cu Q (pc + 1) lc (.int (-x) :: rest)) : GJ g nL P cu Q pc lc (.int x :: rest) :=
  fun H locs ls hP hl => lv_ineg C.1 C.2.1 d (k H locs ls hP hl)
theorem gj_ishl (C : CxH g cc nL own) {x y : Int32} (d : decode cc pc = .ok (.ishl, 1)) (k : GJ g nL P cu Q (pc + 1) lc (.int (x <<< (y &&& 31)) :: rest)) : GJ g nL P cu Q pc lc (.int y :: .int x :: rest) :=
  fun H locs ls hP hl => lv_ishl C.1 C.2.1 d (k H locs ls hP hl)
theorem gj_ishr (C : CxH g cc nL own) {x y : Int32} (d : decode cc pc = .ok (.ishr, 1)) (k : GJ g nL P cu Q (pc + 1) lc (.int (x >>> (y &&& 31)) :: rest)) : GJ g nL P cu Q pc lc (.int y :: .int x :: rest) :=
  fun H locs ls hP hl => lv_ishr C.1 C.2.1 d (k H locs ls hP hl)
theorem gj_iushr (C : CxH g cc nL own) {x y : Int32} (d : decode cc pc = .ok (.iushr, 1)) (k : GJ g nL P cu Q (pc + 1) lc (.int (x.toUInt32 >>> (y.toUInt32 &&& Int32.toUInt32 31)).toInt32 :: rest)) : GJ g nL P cu Q pc lc (.int y :: .int x :: rest) :=
  fun H locs ls hP hl => lv_iushr C.1 C.2.1 d rfl (k H locs ls hP hl)
theorem gj_ladd (C : CxH g cc nL own) {x y : Int64} (d : decode cc pc = .ok (.ladd, 1)) (k : GJ g nL P cu Q (pc + 1) lc (.long (x + y) :: rest)) : GJ g nL P cu Q pc lc (.long y :: .long x :: rest) :=
  fun H locs ls hP hl => lv_ladd C.1 C.2.1 d (k H locs ls hP hl)
theorem gj_lsub (C : CxH g cc nL own) {x y : Int64} (d : decode cc pc = .ok (.lsub, 1)) (k : GJ g nL P cu Q (pc + 1) lc (.long (x - y) :: rest)) : GJ g nL P cu Q pc lc (.long y :: .long x :: rest) :=
  fun H locs ls hP hl => lv_lsub C.1 C.2.1 d (k H locs ls hP hl)
theorem gj_lmul (C : CxH g cc nL own) {x y : Int64} (d : decode cc pc = .ok (.lmul, 1)) (k : GJ g nL P cu Q (pc + 1) lc (.long (x * y) :: rest)) : GJ g nL P cu Q pc lc (.long y :: .long x :: rest) :=
  fun H locs ls hP hl => lv_lmul C.1 C.2.1 d (k H locs ls hP hl)
theorem gj_land (C : CxH g cc nL own) {x y : Int64} (d : decode cc pc = .ok (.land, 1)) (k : GJ g nL P cu Q (pc + 1) lc (.long (x &&& y) :: rest)) : GJ g nL P cu Q pc lc (.long y :: .long x :: rest) :=
  fun H locs ls hP hl => lv_land C.1 C.2.1 d (k H locs ls hP hl)
theorem gj_lor (C : CxH g cc nL own) {x y : Int64} (d : decode cc pc = .ok (.lor, 1)) (k : GJ g nL P cu Q (pc + 1) lc (.long (x ||| y) :: rest)) : GJ g nL P cu Q pc lc (.long y :: .long x :: rest) :=
  fun H locs ls hP hl => lv_lor C.1 C.2.1 d (k H locs ls hP hl)
theorem gj_ldiv (C : CxH g cc nL own) {x y : Int64} (d : decode cc pc = .ok (.ldiv, 1)) (h : ¬ y = 0) (k : GJ g nL P cu Q (pc + 1) lc (.long (x / y) :: rest)) : GJ g nL P cu Q pc lc (.long y :: .long x :: rest) :=
  fun H locs ls hP hl => lv_ldiv C.1 C.2.1 d h (k H locs ls hP hl)
theorem gj_lrem (C : CxH g cc nL own) {x y : Int64} (d : decode cc pc = .ok (.lrem, 1)) (h : ¬ y = 0) (k : GJ g nL P cu Q (pc + 1) lc (.long (x - x / y * y) :: rest)) : GJ g nL P cu Q pc lc (.long y :: .long x :: rest) :=
  fun H locs ls hP hl => lv_lrem C.1 C.2.1 d h (k H locs ls hP hl)
theorem gj_lshl (C : CxH g cc nL own) {x : Int64} {y : Int32} (d : decode cc pc = .ok (.lshl, 1)) (k : GJ g nL P cu Q (pc + 1) lc (.long (x <<< (y.toInt64 &&& 63)) :: rest)) : GJ g nL P cu Q pc lc (.int y :: .long x :: rest) :=
  fun H locs ls hP hl => lv_lshl C.1 C.2.1 d rfl (k H locs ls hP hl)
theorem gj_lcmp (C : CxH g cc nL own) {x y : Int64} (d : decode cc pc = .ok (.lcmp, 1)) (k : GJ g nL P cu Q (pc + 1) lc (.int (lg_cmp x y) :: rest)) : GJ g nL P cu Q pc lc (.long y :: .long x :: rest) :=
  fun H locs ls hP hl => W.lcmp C.1 C.2.1 d (k H locs ls hP hl)
theorem gj_i2l (C : CxH g cc nL own) {x : Int32} (d : decode cc pc = .ok (.i2l, 1)) (k : GJ g nL P cu Q (pc + 1) lc (.long x.toInt64 :: rest)) : GJ g nL P cu Q pc lc (.int x :: rest) :=
  fun H locs ls hP hl => lv_i2l C.1 C.2.1 d rfl (k H locs ls hP hl)
theorem gj_l2i (C : CxH g cc nL own) {x : Int64} (d : decode cc pc = .ok (.l2i, 1)) (k : GJ g nL P cu Q (pc + 1) lc (.int x.toInt32 :: rest)) : GJ g nL P cu Q pc lc (.long x :: rest) :=
  fun H locs ls hP hl => lv_l2i C.1 C.2.1 d rfl (k H locs ls hP hl)
theorem gj_i2b (C : CxH g cc nL own) {x : Int32} (d : decode cc pc = .ok (.i2b, 1)) (k : GJ g nL P cu Q (pc + 1) lc (.int x.toInt8.toInt32 :: rest)) : GJ g nL P cu Q pc lc (.int x :: rest) :=
  fun H locs ls hP hl => lv_i2b C.1 C.2.1 d rfl (k H locs ls hP hl)
theorem gj_i2c (C : CxH g cc nL own) {x : Int32} (d : decode cc pc = .ok (.i2c, 1)) (k : GJ g nL P cu Q (pc + 1) lc (.int (x.toUInt32 % 65536).toInt32 :: rest)) : GJ g nL P cu Q pc lc (.int x :: rest) :=
  fun H locs ls hP hl => lv_i2c C.1 C.2.1 d rfl (k H locs ls hP hl)
theorem gj_dup (C : CxH g cc nL own) {v : Value} (d : decode cc pc = .ok (.dup, 1)) (h : v.category = 1) (k : GJ g nL P cu Q (pc + 1) lc (v :: v :: rest)) : GJ g nL P cu Q pc lc (v :: rest) :=
  fun H locs ls hP hl => lv_dup C.1 C.2.1 d h (k H locs ls hP hl)
theorem gj_pop (C : CxH g cc nL own) {v : Value} (d : decode cc pc = .ok (.pop, 1)) (h : v.category = 1) (k : GJ g nL P cu Q (pc + 1) lc (rest)) : GJ g nL P cu Q pc lc (v :: rest) :=
  fun H locs ls hP hl => lv_pop C.1 C.2.1 d h (k H locs ls hP hl)
theorem gj_dup_x1 (C : CxH g cc nL own) {v w : Value} (d : decode cc pc = .ok (.dup_x1, 1)) (h : v.category = 1) (h2 : w.category = 1) (k : GJ g nL P cu Q (pc + 1) lc (v :: w :: v :: rest)) : GJ g nL P cu Q pc lc (v :: w :: rest) :=
  fun H locs ls hP hl => lv_dup_x1 C.1 C.2.1 d h h2 (k H locs ls hP hl)
theorem gj_dup2_11 (C : CxH g cc nL own) {v w : Value} (d : decode cc pc = .ok (.dup2, 1)) (h : v.category = 1) (h2 : w.category = 1) (k : GJ g nL P cu Q (pc + 1) lc (v :: w :: v :: w :: rest)) : GJ g nL P cu Q pc lc (v :: w :: rest) :=
  fun H locs ls hP hl => lv_dup2_11 C.1 C.2.1 d h h2 (k H locs ls hP hl)
theorem gj_null (C : CxH g cc nL own)  (d : decode cc pc = .ok (.aconst_null, 1)) (k : GJ g nL P cu Q (pc + 1) lc (rv 0 :: rest)) : GJ g nL P cu Q pc lc (rest) :=
  fun H locs ls hP hl => lv_null C.1 C.2.1 d (k H locs ls hP hl)
theorem gj_goto (C : CxH g cc nL own) {off : Int} {tgt : Nat} (d : decode cc pc = .ok (.goto off, 3)) (ht : (pc : Int) + off = (tgt : Int)) (k : GJ g nL P cu Q tgt lc rest) : GJ g nL P cu Q pc lc rest :=
  fun H locs ls hP hl => lv_goto C.1 C.2.1 d ht (k H locs ls hP hl)
theorem gj_if_eq (C : CxH g cc nL own) {x : Int32} {off : Int} {tgt : Nat} (d : decode cc pc = .ok (.ifCond .eq off, 3)) (ht : (pc : Int) + off = (tgt : Int)) (kt : x = 0 → GJ g nL P cu Q tgt lc rest) (kf : ¬ x = 0 → GJ g nL P cu Q (pc + 3) lc rest) : GJ g nL P cu Q pc lc (.int x :: rest) :=
  fun H locs ls hP hl => lv_if_eq C.1 C.2.1 d ht (fun c => kt c H locs ls hP hl) (fun c => kf c H locs ls hP hl)
theorem gj_icmp_eq (C : CxH g cc nL own) {x y : Int32} {off : Int} {tgt : Nat} (d : decode cc pc = .ok (.if_icmp .eq off, 3)) (ht : (pc : Int) + off = (tgt : Int)) (kt : x = y → GJ g nL P cu Q tgt lc rest) (kf : ¬ x = y → GJ g nL P cu Q (pc + 3) lc rest) : GJ g nL P cu Q pc lc (.int y :: .int x :: rest) :=
  fun H locs ls hP hl => lv_icmp_eq C.1 C.2.1 d ht (fun c => kt c H locs ls hP hl) (fun c => kf c H locs ls hP hl)
theorem gj_if_ne (C : CxH g cc nL own) {x : Int32} {off : Int} {tgt : Nat} (d : decode cc pc = .ok (.ifCond .ne off, 3)) (ht : (pc : Int) + off = (tgt : Int)) (kt : ¬ x = 0 → GJ g nL P cu Q tgt lc rest) (kf : x = 0 → GJ g nL P cu Q (pc + 3) lc rest) : GJ g nL P cu Q pc lc (.int x :: rest) :=
  fun H locs ls hP hl => lv_if_ne C.1 C.2.1 d ht (fun c => kt c H locs ls hP hl) (fun c => kf c H locs ls hP hl)
theorem gj_icmp_ne (C : CxH g cc nL own) {x y : Int32} {off : Int} {tgt : Nat} (d : decode cc pc = .ok (.if_icmp .ne off, 3)) (ht : (pc : Int) + off = (tgt : Int)) (kt : ¬ x = y → GJ g nL P cu Q tgt lc rest) (kf : x = y → GJ g nL P cu Q (pc + 3) lc rest) : GJ g nL P cu Q pc lc (.int y :: .int x :: rest) :=
  fun H locs ls hP hl => lv_icmp_ne C.1 C.2.1 d ht (fun c => kt c H locs ls hP hl) (fun c => kf c H locs ls hP hl)
theorem gj_if_lt (C : CxH g cc nL own) {x : Int32} {off : Int} {tgt : Nat} (d : decode cc pc = .ok (.ifCond .lt off, 3)) (ht : (pc : Int) + off = (tgt : Int)) (kt : x < 0 → GJ g nL P cu Q tgt lc rest) (kf : ¬ x < 0 → GJ g nL P cu Q (pc + 3) lc rest) : GJ g nL P cu Q pc lc (.int x :: rest) :=
  fun H locs ls hP hl => lv_if_lt C.1 C.2.1 d ht (fun c => kt c H locs ls hP hl) (fun c => kf c H locs ls hP hl)
theorem gj_icmp_lt (C : CxH g cc nL own) {x y : Int32} {off : Int} {tgt : Nat} (d : decode cc pc = .ok (.if_icmp .lt off, 3)) (ht : (pc : Int) + off = (tgt : Int)) (kt : x < y → GJ g nL P cu Q tgt lc rest) (kf : ¬ x < y → GJ g nL P cu Q (pc + 3) lc rest) : GJ g nL P cu Q pc lc (.int y :: .int x :: rest) :=
  fun H locs ls hP hl => lv_icmp_lt C.1 C.2.1 d ht (fun c => kt c H locs ls hP hl) (fun c => kf c H locs ls hP hl)
theorem gj_if_ge (C : CxH g cc nL own) {x : Int32} {off : Int} {tgt : Nat} (d : decode cc pc = .ok (.ifCond .ge off, 3)) (ht : (pc : Int) + off = (tgt : Int)) (kt : 0 ≤ x → GJ g nL P cu Q tgt lc rest) (kf : ¬ 0 ≤ x → GJ g nL P cu Q (pc + 3) lc rest) : GJ g nL P cu Q pc lc (.int x :: rest) :=
  fun H locs ls hP hl => lv_if_ge C.1 C.2.1 d ht (fun c => kt c H locs ls hP hl) (fun c => kf c H locs ls hP hl)
theorem gj_icmp_ge (C : CxH g cc nL own) {x y : Int32} {off : Int} {tgt : Nat} (d : decode cc pc = .ok (.if_icmp .ge off, 3)) (ht : (pc : Int) + off = (tgt : Int)) (kt : y ≤ x → GJ g nL P cu Q tgt lc rest) (kf : ¬ y ≤ x → GJ g nL P cu Q (pc + 3) lc rest) : GJ g nL P cu Q pc lc (.int y :: .int x :: rest) :=
  fun H locs ls hP hl => lv_icmp_ge C.1 C.2.1 d ht (fun c => kt c H locs ls hP hl) (fun c => kf c H locs ls hP hl)
theorem gj_if_gt (C : CxH g cc nL own) {x : Int32} {off : Int} {tgt : Nat} (d : decode cc pc = .ok (.ifCond .gt off, 3)) (ht : (pc : Int) + off = (tgt : Int)) (kt : 0 < x → GJ g nL P cu Q tgt lc rest) (kf : ¬ 0 < x → GJ g nL P cu Q (pc + 3) lc rest) : GJ g nL P cu Q pc lc (.int x :: rest) :=
  fun H locs ls hP hl => lv_if_gt C.1 C.2.1 d ht (fun c => kt c H locs ls hP hl) (fun c => kf c H locs ls hP hl)
theorem gj_icmp_gt (C : CxH g cc nL own) {x y : Int32} {off : Int} {tgt : Nat} (d : decode cc pc = .ok (.if_icmp .gt off, 3)) (ht : (pc : Int) + off = (tgt : Int)) (kt : y < x → GJ g nL P cu Q tgt lc rest) (kf : ¬ y < x → GJ g nL P cu Q (pc + 3) lc rest) : GJ g nL P cu Q pc lc (.int y :: .int x :: rest) :=
  fun H locs ls hP hl => lv_icmp_gt C.1 C.2.1 d ht (fun c => kt c H locs ls hP hl) (fun c => kf c H locs ls hP hl)
theorem gj_if_le (C : CxH g cc nL own) {x : Int32} {off : Int} {tgt : Nat} (d : decode cc pc = .ok (.ifCond .le off, 3)) (ht : (pc : Int) + off = (tgt : Int)) (kt : x ≤ 0 → GJ g nL P cu Q tgt lc rest) (kf : ¬ x ≤ 0 → GJ g nL P cu Q (pc + 3) lc rest) : GJ g nL P cu Q pc lc (.int x :: rest) :=
  fun H locs ls hP hl => lv_if_le C.1 C.2.1 d ht (fun c => kt c H locs ls hP hl) (fun c => kf c H locs ls hP hl)
theorem gj_icmp_le (C : CxH g cc nL own) {x y : Int32} {off : Int} {tgt : Nat} (d : decode cc pc = .ok (.if_icmp .le off, 3)) (ht : (pc : Int) + off = (tgt : Int)) (kt : x ≤ y → GJ g nL P cu Q tgt lc rest) (kf : ¬ x ≤ y → GJ g nL P cu Q (pc + 3) lc rest) : GJ g nL P cu Q pc lc (.int y :: .int x :: rest) :=
  fun H locs ls hP hl => lv_icmp_le C.1 C.2.1 d ht (fun c => kt c H locs ls hP hl) (fun c => kf c H locs ls hP hl)
theorem gj_ifnull (C : CxH g cc nL own) {x : Nat} {off : Int} {tgt : Nat} (d : decode cc pc = .ok (.ifnull off, 3)) (ht : (pc : Int) + off = (tgt : Int)) (kt : x = 0 → GJ g nL P cu Q tgt lc rest) (kf : ¬ x = 0 → GJ g nL P cu Q (pc + 3) lc rest) : GJ g nL P cu Q pc lc (rv x :: rest) := by
  intro H locs ls hP hl
  cases x with
  | zero => exact lv_ifnullN C.1 C.2.1 d ht (kt rfl H locs ls hP hl)
  | succ x => exact lv_ifnull C.1 C.2.1 d (kf (by omega) H locs ls hP hl)
theorem gj_ifnonnull (C : CxH g cc nL own) {x : Nat} {off : Int} {tgt : Nat} (d : decode cc pc = .ok (.ifnonnull off, 3)) (ht : (pc : Int) + off = (tgt : Int)) (kt : ¬ x = 0 → GJ g nL P cu Q tgt lc rest) (kf : x = 0 → GJ g nL P cu Q (pc + 3) lc rest) : GJ g nL P cu Q pc lc (rv x :: rest) := by
  intro H locs ls hP hl
  cases x with
  | zero => exact lv_ifnonnullN C.1 C.2.1 d (kf rfl H locs ls hP hl)
  | succ x => exact lv_ifnonnull C.1 C.2.1 d ht (kt (by omega) H locs ls hP hl)
theorem gj_acmp_eq (C : CxH g cc nL own) {x y : Nat} {off : Int} {tgt : Nat} (d : decode cc pc = .ok (.if_acmp .eq off, 3)) (ht : (pc : Int) + off = (tgt : Int)) (kt : x = y → GJ g nL P cu Q tgt lc rest) (kf : ¬ x = y → GJ g nL P cu Q (pc + 3) lc rest) : GJ g nL P cu Q pc lc (rv y :: rv x :: rest) := by
  intro H locs ls hP hl
  rw [rv_rf, rv_rf]
  exact lv_acmp_eq C.1 C.2.1 d ht (fun c => kt (rq_inj.mp c) H locs ls hP hl) (fun c => kf (fun z => c (rq_inj.mpr z)) H locs ls hP hl)
theorem gj_acmp_ne (C : CxH g cc nL own) {x y : Nat} {off : Int} {tgt : Nat} (d : decode cc pc = .ok (.if_acmp .ne off, 3)) (ht : (pc : Int) + off = (tgt : Int)) (kt : ¬ x = y → GJ g nL P cu Q tgt lc rest) (kf : x = y → GJ g nL P cu Q (pc + 3) lc rest) : GJ g nL P cu Q pc lc (rv y :: rv x :: rest) := by
  intro H locs ls hP hl
  rw [rv_rf, rv_rf]
  exact lv_acmp_ne C.1 C.2.1 d ht (fun c => kt (fun z => c (rq_inj.mpr z)) H locs ls hP hl) (fun c => kf (rq_inj.mp c) H locs ls hP hl)
theorem gj_tabOut (C : CxH g cc nL own) {dflt lo hi : Int} {offs : Array Int} {len : Nat} {x : Int32} {tgt : Nat} (d : decode cc pc = .ok (.tableswitch dflt lo hi offs, len)) (h : x.toInt < lo ∨ hi < x.toInt) (ht : (pc : Int) + dflt = (tgt : Int)) (k : GJ g nL P cu Q tgt lc rest) : GJ g nL P cu Q pc lc (.int x :: rest) :=
  fun H locs ls hP hl => lv_tableOut C.1 C.2.1 d h ht (k H locs ls hP hl)
theorem gj_tabIn (C : CxH g cc nL own) {dflt lo hi : Int} {offs : Array Int} {len : Nat} {x v : Int32} {off : Int} {tgt : Nat} (d : decode cc pc = .ok (.tableswitch dflt lo hi offs, len)) (e : x = v) (h1 : ¬ v.toInt < lo) (h2 : ¬ hi < v.toInt) (ho : offs[(v.toInt - lo).toNat]? = some off) (ht : (pc : Int) + off = (tgt : Int)) (k : GJ g nL P cu Q tgt lc rest) : GJ g nL P cu Q pc lc (.int x :: rest) := by
  subst e
  exact fun H locs ls hP hl => lv_tableIn C.1 C.2.1 d h1 h2 ho ht (k H locs ls hP hl)
end BASEB
theorem it_t {c A B : Prop} [Decidable c] (h : if c then A else B) (hc : c) : A := by rwa [if_pos hc] at h
theorem it_f {c A B : Prop} [Decidable c] (h : if c then A else B) (hc : ¬ c) : B := by rwa [if_neg hc] at h
theorem it_nt {c A B : Prop} [Decidable c] (h : if ¬ c then A else B) (hc : ¬ c) : A := by rwa [if_pos hc] at h
theorem it_nf {c A B : Prop} [Decidable c] (h : if ¬ c then A else B) (hc : c) : B := by rwa [if_neg (fun z => z hc)] at h
