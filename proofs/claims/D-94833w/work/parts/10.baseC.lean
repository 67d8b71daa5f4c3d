/-! THE COMPONENT's MEMORY: I ints (of fields and elements), R references, K kinds (tag, length), nx the heap's size; a reference is a number: 0 null, a + 1 the cell a. Tags: 1..11 objects of kCl, 20..25 arrays (int, byte, boolean, Object, int[], long: by R, as a Nat), 26 the JDK's own empty Object arrays -/
abbrev MI : Type := Nat → Nat → Int32
abbrev MR : Type := Nat → Nat → Nat
abbrev MK : Type := Nat → Nat × Nat
def u1 {α : Type} (f : Nat → α) (a : Nat) (v : α) : Nat → α := fun b => if b = a then v else f b
def kCl : List vw_C := [(RX1, TX1, 20), (RX2, TX2, 7), (RX6, TX6, 3), (RX7, TX7, 3), (RX4, TX4, 9), (RX8, TX8, 3), (RX9, TX9, 6), (RX10, TX10, 6), (RX5, TX5, 7), (RJ2, TJ2, 3), (RX3, TX3, 69)]
def cty (c : Nat) : Nat → FieldType := match c with
  | 0 => tyX1 | 1 => tyX2 | 2 => tyX6 | 3 => tyX7 | 4 => tyX4 | 5 => tyX8 | 6 => tyX9 | 7 => tyX10 | 8 => tyX5 | 9 => tyJ2 | _ => tyX3
def aty (t : Nat) : FieldType := match t with
  | 20 => .int | 21 => .byte | 22 => .boolean | 23 => .object "java/lang/Object" | 25 => .long | _ => .array .int
def fval (ty : FieldType) (x : Int32) (r : Nat) : Value := match ty with
  | .object _ => rv r
  | .array _ => rv r
  | .long => .long 0
  | _ => .int x
def aval (t : Nat) (x : Int32) (r : Nat) : Value := if t ≤ 22 then .int x else if t = 25 then .long (Int64.ofNat r) else rv r
/-- the world's numbers: the classes, the array classes, where the old heap ends, the reference's region, the old heap, the String constants (object, bytes), the two empty arrays, the two class objects -/
abbrev CD : Type := va_G × (Nat → ClassId) × Nat × Nat × Nat × Heap × (Nat → Nat) × (Nat → Nat) × Nat × Nat × Nat × Nat
abbrev cG (w : CD) : va_G := w.1
abbrev cA (w : CD) : Nat → ClassId := w.2.1
abbrev cz (w : CD) : Nat := w.2.2.1
abbrev ct0 (w : CD) : Nat := w.2.2.2.1
abbrev ct1 (w : CD) : Nat := w.2.2.2.2.1
abbrev cH (w : CD) : Heap := w.2.2.2.2.2.1
abbrev cSK (w : CD) : Nat → Nat := w.2.2.2.2.2.2.1
abbrev cSV (w : CD) : Nat → Nat := w.2.2.2.2.2.2.2.1
abbrev cE0 (w : CD) : Nat := w.2.2.2.2.2.2.2.2.1
abbrev cE1 (w : CD) : Nat := w.2.2.2.2.2.2.2.2.2.1
abbrev cM0 (w : CD) : Nat := w.2.2.2.2.2.2.2.2.2.2.1
abbrev cM1 (w : CD) : Nat := w.2.2.2.2.2.2.2.2.2.2.2
/-- the component's region -/
def Ac (w : CD) : Nat → Prop := fun q => cz w ≤ q ∧ ¬ (ct0 w ≤ q ∧ q < ct1 w)
def Az (w : CD) : Nat → Prop := fun q => cz w ≤ q
def objC (w : CD) (I : MI) (R : MR) (H : Heap) (a c : Nat) (r : vw_C) : Prop := t_OB a ((cG w).1 c) r.2.2 ((cG w).2 c) H (fun k => fval (cty c k) (I (a + 1) k) (R (a + 1) k))
def arrC (w : CD) (I : MI) (R : MR) (H : Heap) (a : Nat) (t : Nat × Nat) : Prop := H[a]? = some (arrV (cA w t.1) t.2 (fun j => aval t.1 (I (a + 1) j) (R (a + 1) j)))
def RepC (w : CD) (I : MI) (R : MR) (K : MK) (nx : Nat) (H : Heap) : Prop :=
  H.size = nx ∧ (K 0).1 = 0 ∧ (cz w ≤ nx ∧ ct1 w ≤ nx) ∧ (∀ q, q < cz w → H[q]? = (cH w)[q]?) ∧
  (∀ a c r, (K (a + 1)).1 = c + 1 → kCl[c]? = some r → Ac w a ∧ objC w I R H a c r) ∧
  (∀ a, 20 ≤ (K (a + 1)).1 → (K (a + 1)).1 ≤ 25 → Ac w a ∧ arrC w I R H a (K (a + 1))) ∧
  (∀ a, (K (a + 1)).1 = 26 → (K (a + 1)).2 = 0 ∧ (a = cE0 w ∨ a = cE1 w))
def CP (w : CD) (I : MI) (R : MR) (K : MK) (nx : Nat) (H0 : Heap) : Heap → List Loc → Prop := fun H locs => RepC w I R K nx H ∧ va_S (Ac w) H0 H locs
theorem kCl_len {c : Nat} {r : vw_C} (h : kCl[c]? = some r) : c < 11 := (List.getElem?_eq_some_iff.mp h).1
theorem repC_succ {w : CD} {I : MI} {R : MR} {K : MK} {nx : Nat} {H : Heap} (h : RepC w I R K nx H) {r : Nat} (hr : (K r).1 ≠ 0) : ∃ a, r = a + 1 := by
  cases r with
  | zero => exact absurd h.2.1 hr
  | succ a => exact ⟨a, rfl⟩
/-- the heap has changed at the cell a alone -/
theorem repC_upd {w : CD} {I I' : MI} {R R' : MR} {K : MK} {nx : Nat} {H H' : Heap} (h : RepC w I R K nx H) {a : Nat} (ha : Ac w a) (z : H'.size = H.size) (oq : ∀ q : Nat, q ≠ a → H'[q]? = H[q]?) (hI : ∀ b, b ≠ a + 1 → I' b = I b) (hR : ∀ b, b ≠ a + 1 → R' b = R b)
    (ho : ∀ c r, (K (a + 1)).1 = c + 1 → kCl[c]? = some r → objC w I' R' H' a c r) (harr : 20 ≤ (K (a + 1)).1 → (K (a + 1)).1 ≤ 25 → arrC w I' R' H' a (K (a + 1))) : RepC w I' R' K nx H' := by
  obtain ⟨h1, h2, h3, h4, h5, h6, h7⟩ := h
  refine ⟨z.trans h1, h2, h3, fun q hq => ?_, fun b c r hb hr => ?_, fun b hb1 hb2 => ?_, h7⟩
  · rw [oq q (by rintro rfl; exact absurd ha.1 (Nat.not_le.mpr hq))]
    exact h4 q hq
  · by_cases e : b = a
    · subst e; exact ⟨ha, ho c r hb hr⟩
    · obtain ⟨g1, g2⟩ := h5 b c r hb hr
      refine ⟨g1, ?_⟩
      unfold objC at g2 ⊢
      rw [hI (b + 1) (by omega), hR (b + 1) (by omega)]
      exact g2.kept (oq b e)
  · by_cases e : b = a
    · subst e; exact ⟨ha, harr hb1 hb2⟩
    · obtain ⟨g1, g2⟩ := h6 b hb1 hb2
      refine ⟨g1, ?_⟩
      unfold arrC at g2 ⊢
      rw [hI (b + 1) (by omega), hR (b + 1) (by omega)]
      exact (oq b e).trans g2
/-- a new cell at the heap's end -/
theorem repC_new {w : CD} {I I' : MI} {R R' : MR} {K : MK} {nx : Nat} {H H' : Heap} {t : Nat × Nat} (h : RepC w I R K nx H) (z : H'.size = nx + 1) (oq : ∀ q : Nat, q < nx → H'[q]? = H[q]?) (hI : ∀ b, b ≠ nx + 1 → I' b = I b) (hR : ∀ b, b ≠ nx + 1 → R' b = R b) (h26 : t.1 ≠ 26)
    (ho : ∀ c r, t.1 = c + 1 → kCl[c]? = some r → objC w I' R' H' nx c r) (harr : 20 ≤ t.1 → t.1 ≤ 25 → arrC w I' R' H' nx t) : RepC w I' R' (u1 K (nx + 1) t) (nx + 1) H' := by
  obtain ⟨h1, h2, h3, h4, h5, h6, h7⟩ := h
  have hAc : Ac w nx := ⟨h3.1, fun q => by omega⟩
  have hold : ∀ b, b ≠ nx → (u1 K (nx + 1) t) (b + 1) = K (b + 1) := fun b hb => if_neg (by omega)
  have hnew : (u1 K (nx + 1) t) (nx + 1) = t := if_pos rfl
  refine ⟨z, ?_, ⟨by omega, by omega⟩, fun q hq => (oq q (by omega)).trans (h4 q hq), fun b c r hb hr => ?_, fun b hb1 hb2 => ?_, fun b hb => ?_⟩
  · show ((if 0 = nx + 1 then t else K 0)).1 = 0
    rw [if_neg (by omega)]; exact h2
  · by_cases e : b = nx
    · subst e
      rw [hnew] at hb
      exact ⟨hAc, ho c r hb hr⟩
    · rw [hold b e] at hb
      obtain ⟨g1, g2⟩ := h5 b c r hb hr
      refine ⟨g1, ?_⟩
      have hlt : b < nx := by
        obtain ⟨cell, q, -⟩ := g2
        rw [← h1]; exact (Array.getElem?_eq_some_iff.mp q).1
      unfold objC at g2 ⊢
      rw [hI (b + 1) (by omega), hR (b + 1) (by omega)]
      exact g2.kept (oq b hlt)
  · by_cases e : b = nx
    · subst e
      rw [hnew] at hb1 hb2 ⊢
      exact ⟨hAc, harr hb1 hb2⟩
    · rw [hold b e] at hb1 hb2 ⊢
      obtain ⟨g1, g2⟩ := h6 b hb1 hb2
      refine ⟨g1, ?_⟩
      have hlt : b < nx := by rw [← h1]; exact (Array.getElem?_eq_some_iff.mp g2).1
      unfold arrC at g2 ⊢
      rw [hI (b + 1) (by omega), hR (b + 1) (by omega)]
      exact (oq b hlt).trans g2
  · by_cases e : b = nx
    · subst e
      rw [hnew] at hb
      exact absurd hb h26
    · rw [hold b e] at hb ⊢
      exact h7 b hb
/-- what the tables say: classes and array classes -/
def WK (w : CD) (U : State) : Prop :=
  (∀ (c : Nat) (q : vw_C), kCl[c]? = some q → u_Kn U q.1 q.2.1 q.2.2 ((cG w).1 c) ((cG w).2 c)) ∧
  (∀ t, 20 ≤ t → t ≤ 25 → ArrOfT U (cA w t) (aty t) ∧ U.vm.findClass ("[" ++ (aty t).toString) = some (cA w t)) ∧
  va_RA U (cA w 23) (.object "java/lang/Object")
theorem WK.moved {w : CD} {u U : State} (hvm : u.vm.Alike U.vm) (h : WK w u) : WK w U :=
  ⟨fun c q hq => u_Kn_moved hvm (h.1 c q hq), fun t h1 h2 => ⟨arrOfT_moved hvm (h.2.1 t h1 h2).1, by rw [hvm.findClass]; exact (h.2.1 t h1 h2).2⟩, h.2.2.moved hvm⟩
section CROWS
variable {g : Gm} {cc : ByteArray} {nL : Nat} {cu : Nat} {Q : State → Prop} {pc : Nat} {lc : List (Nat × Value)} {rest : List Value} {w : CD} {I : MI} {R : MR} {K : MK} {nx : Nat} {H0 : Heap} {own : String}
/-- what a class's name, table and words are -/
def ClOk (c : Nat) (C : String) (T : u_T) (N : Nat) : Prop := kCl[c]? = some (C, T, N) ∧ (∀ w ∈ u_ws C T N, w ∈ lw_all) ∧ (∀ k, k < N → parseFieldDescriptor (T k).2.2.1 = some (cty c k)) ∧ (∀ a, a < N → ∀ b, b < N → a ≠ b → (T a).2.1 ≠ (T b).2.1) ∧ (Cond.instantiable C N ∈ lw_all ∧ Cond.initialized C ∈ lw_all)
theorem gc_get (C : CxH g cc nL own) (hW : WK w (gs g)) {c : Nat} {Cn : String} {T : u_T} {N : Nat} (hc : ClOk c Cn T N) (k : Nat) (hk : k < N) {index : Nat} {ref : String} {r : Nat} {v : Value} (hr : (K r).1 = c + 1)
    (hq : Cond.fieldLink own index ref (T k).2.1 (T k).2.2.1 ∈ lw_all) (hsame : ∀ x, (gs g).fieldFound? (T k).1 (T k).2.1 (T k).2.2.1 = some x → (gs g).fieldFound? ref (T k).2.1 (T k).2.2.1 = some x) (hv : fval (cty c k) (I r k) (R r k) = v) (dg : decode cc pc = .ok (.getfield index, 3))
    (kk : GJ g nL (CP w I R K nx H0) cu Q (pc + 3) lc (v :: rest)) : GJ g nL (CP w I R K nx H0) cu Q pc lc (rv r :: rest) := by
  intro H locs ls hP hl
  have h1 := kk H locs ls hP hl
  obtain ⟨a, rfl⟩ := repC_succ hP.1 (by rw [hr]; omega)
  obtain ⟨-, cell, q1, q2, q3, q4⟩ := hP.1.2.2.2.2.1 a c _ hr hc.1
  obtain ⟨hS, hfc, kC, hkC, hkind⟩ := hW.1 c _ hc.1
  obtain ⟨cf, kf, fi, f, hi, hsl⟩ := hS k hk
  refine W.getf C.1 C.2.1 C.2.2.2.1 (C.2.2.2.2 _ hq) (hsame _ hi) (u_facts hfc hkC (u_lays C.2.2.2.2 hc.2.1 hk) hi).1 q1 (by rw [q3]; exact fun h => by cases h) (v := v) ?_ rfl rfl dg h1
  rw [hsl, q4 k hk, ← hv]
theorem gc_getN (C : CxH g cc nL own) (hW : WK w (gs g)) {c : Nat} {Cn : String} {T : u_T} {N : Nat} (hc : ClOk c Cn T N) (k : Nat) (hk : k < N) {index : Nat} {ref host : String} {r : Nat} {v : Value} (hr : (K r).1 = c + 1)
    (hq : va_Nw (.fieldLinkNest own index ref (T k).2.1 (T k).2.2.1 host) (gs g)) (hsame : ∀ x, (gs g).fieldFound? (T k).1 (T k).2.1 (T k).2.2.1 = some x → (gs g).fieldFound? ref (T k).2.1 (T k).2.2.1 = some x) (hv : fval (cty c k) (I r k) (R r k) = v) (dg : decode cc pc = .ok (.getfield index, 3))
    (kk : GJ g nL (CP w I R K nx H0) cu Q (pc + 3) lc (v :: rest)) : GJ g nL (CP w I R K nx H0) cu Q pc lc (rv r :: rest) := by
  intro H locs ls hP hl
  have h1 := kk H locs ls hP hl
  obtain ⟨a, rfl⟩ := repC_succ hP.1 (by rw [hr]; omega)
  obtain ⟨-, cell, q1, q2, q3, q4⟩ := hP.1.2.2.2.2.1 a c _ hr hc.1
  obtain ⟨hS, hfc, kC, hkC, hkind⟩ := hW.1 c _ hc.1
  obtain ⟨cf, kf, fi, f, hi, hsl⟩ := hS k hk
  refine va_Wgetf C.1 C.2.1 C.2.2.2.1 (va_Nw.use rfl hq) (hsame _ hi) (u_facts hfc hkC (u_lays C.2.2.2.2 hc.2.1 hk) hi).1 q1 (by rw [q3]; exact fun h => by cases h) (v := v) ?_ rfl rfl dg h1
  rw [hsl, q4 k hk, ← hv]
theorem gc_apart (C : CxH g cc nL own) (hW : WK w (gs g)) {c : Nat} {Cn : String} {T : u_T} {N : Nat} (hc : ClOk c Cn T N) : ∀ x y, x < N → y < N → x ≠ y → (cG w).2 c x ≠ (cG w).2 c y := by
  intro x y hx hy hne
  obtain ⟨hS, -⟩ := hW.1 c _ hc.1
  obtain ⟨_, _, _, fa, hia, ea⟩ := hS x hx
  obtain ⟨_, _, _, fb, hib, eb⟩ := hS y hy
  rw [← ea, ← eb]
  refine u_apart (u_lays C.2.2.2.2 hc.2.1 hx) (u_lays C.2.2.2.2 hc.2.1 hy) hia hib ?_
  rw [(State.fieldFound?_type hia (hc.2.2.1 x hx)).1, (State.fieldFound?_type hib (hc.2.2.1 y hy)).1]
  exact hc.2.2.2.1 x hx y hy hne
/-- the object's picture behind a put -/
theorem gc_putc {c : Nat} {Cn : String} {T : u_T} {N : Nat} (hap : ∀ x y, x < N → y < N → x ≠ y → (cG w).2 c x ≠ (cG w).2 c y) {a k : Nat} (hk : k < N) {v : Value} {I' : MI} {R' : MR} {H H' : Heap} {cell : Cell} {f : Nat}
    (hP : RepC w I R K nx H) (hc : kCl[c]? = some (Cn, T, N)) (hr : (K (a + 1)).1 = c + 1) (q2 : cell.cls = (cG w).1 c) (q3 : cell.vm = .none) (q4 : ∀ k, k < N → cell.slots[(cG w).2 c k]? = some (fval (cty c k) (I (a + 1) k) (R (a + 1) k))) (hsl : f = (cG w).2 c k)
    (hI : ∀ b, b ≠ a + 1 → I' b = I b) (hR : ∀ b, b ≠ a + 1 → R' b = R b) (hv : ∀ j, updV (fun k => fval (cty c k) (I (a + 1) k) (R (a + 1) k)) k v j = fval (cty c j) (I' (a + 1) j) (R' (a + 1) j))
    (e1 : H'[a]? = some (cell.setSlot f v)) (e2 : H'.size = H.size) (e3 : ∀ q : Nat, q ≠ a → H'[q]? = H[q]?) : RepC w I' R' K nx H' := by
  subst hsl
  have hA := (hP.2.2.2.2.1 a c _ hr hc).1
  refine repC_upd hP hA e2 e3 hI hR (fun c2 r2 h2 h3 => ?_) (fun h2 => ?_)
  · have : c2 = c := by omega
    subst this
    cases h3.symm.trans hc
    exact t_OB.to (V := updV (fun k => fval (cty c2 k) (I (a + 1) k) (R (a + 1) k)) k v) ⟨_, e1, q2, q3, t_set q4 hap hk v⟩ (fun j _ => hv j)
  · have := kCl_len hc
    omega
theorem gc_put (C : CxH g cc nL own) (hW : WK w (gs g)) {c : Nat} {Cn : String} {T : u_T} {N : Nat} (hc : ClOk c Cn T N) (k : Nat) (hk : k < N) {index : Nat} {ref : String} {r : Nat} {v : Value} {I' : MI} {R' : MR} (hr : (K r).1 = c + 1)
    (hq : Cond.fieldLink own index ref (T k).2.1 (T k).2.2.1 ∈ lw_all) (hsame : ∀ x, (gs g).fieldFound? (T k).1 (T k).2.1 (T k).2.2.1 = some x → (gs g).fieldFound? ref (T k).2.1 (T k).2.2.1 = some x) (hfin : (T k).2.2.2 = false) (hn : narrow (cty c k) v = v) (hfit : fits (cty c k) v = true)
    (hI : ∀ b, b ≠ r → I' b = I b) (hR : ∀ b, b ≠ r → R' b = R b) (hv : ∀ j, updV (fun k => fval (cty c k) (I r k) (R r k)) k v j = fval (cty c j) (I' r j) (R' r j)) (dg : decode cc pc = .ok (.putfield index, 3))
    (kk : GJ g nL (CP w I' R' K nx H0) cu Q (pc + 3) lc rest) : GJ g nL (CP w I R K nx H0) cu Q pc lc (v :: rv r :: rest) := by
  intro H locs ls hP hl
  obtain ⟨hP, hS0⟩ := hP
  obtain ⟨a, rfl⟩ := repC_succ hP (by rw [hr]; omega)
  have hap := gc_apart C hW hc
  obtain ⟨hA, cell, q1, q2, q3, q4⟩ := hP.2.2.2.2.1 a c _ hr hc.1
  obtain ⟨hS, hfc, kC, hkC, hkind⟩ := hW.1 c _ hc.1
  obtain ⟨cf, kf, fi, f, hi, hsl⟩ := hS k hk
  have hlay := C.2.2.2.2 _ (hc.2.1 _ (u_in_lay hk))
  unfold u_lay at hlay
  rw [if_neg (by rw [hfin]; decide)] at hlay
  have hst := (u_facts hfc hkC (u_lays C.2.2.2.2 hc.2.1 hk) hi).1
  have h6 := u_store hfc hkC hkind hlay hi (hc.2.2.1 k hk) hn hfit
  refine W.putK C.1 C.2.1 (f := f) ⟨C.2.2.2.1, C.2.2.2.2 _ hq, ⟨_, _, _, hsame _ hi⟩, hst⟩ (by rw [q2]; exact h6) q1 q3 (by rw [hsl]; exact k2_hasslot (q4 k hk)) rfl rfl dg fun H' e1 e2 e3 => ?_
  exact kk H' _ ls ⟨gc_putc hap hk hP hc.1 hr q2 q3 q4 hsl hI hR hv e1 e2 e3, hS0.put e2 e3 hA⟩ hl
theorem gc_putN (C : CxH g cc nL own) (hW : WK w (gs g)) {c : Nat} {Cn : String} {T : u_T} {N : Nat} (hc : ClOk c Cn T N) (k : Nat) (hk : k < N) {index : Nat} {ref host : String} {r : Nat} {v : Value} {I' : MI} {R' : MR} (hr : (K r).1 = c + 1)
    (hq : va_Nw (.fieldLinkNest own index ref (T k).2.1 (T k).2.2.1 host) (gs g)) (hsame : ∀ x, (gs g).fieldFound? (T k).1 (T k).2.1 (T k).2.2.1 = some x → (gs g).fieldFound? ref (T k).2.1 (T k).2.2.1 = some x) (hfin : (T k).2.2.2 = false) (hn : narrow (cty c k) v = v) (hfit : fits (cty c k) v = true)
    (hI : ∀ b, b ≠ r → I' b = I b) (hR : ∀ b, b ≠ r → R' b = R b) (hv : ∀ j, updV (fun k => fval (cty c k) (I r k) (R r k)) k v j = fval (cty c j) (I' r j) (R' r j)) (dg : decode cc pc = .ok (.putfield index, 3))
    (kk : GJ g nL (CP w I' R' K nx H0) cu Q (pc + 3) lc rest) : GJ g nL (CP w I R K nx H0) cu Q pc lc (v :: rv r :: rest) := by
  intro H locs ls hP hl
  obtain ⟨hP, hS0⟩ := hP
  obtain ⟨a, rfl⟩ := repC_succ hP (by rw [hr]; omega)
  have hap := gc_apart C hW hc
  obtain ⟨hA, cell, q1, q2, q3, q4⟩ := hP.2.2.2.2.1 a c _ hr hc.1
  obtain ⟨hS, hfc, kC, hkC, hkind⟩ := hW.1 c _ hc.1
  obtain ⟨cf, kf, fi, f, hi, hsl⟩ := hS k hk
  have hlay := C.2.2.2.2 _ (hc.2.1 _ (u_in_lay hk))
  unfold u_lay at hlay
  rw [if_neg (by rw [hfin]; decide)] at hlay
  have hst := (u_facts hfc hkC (u_lays C.2.2.2.2 hc.2.1 hk) hi).1
  have h6 := u_store hfc hkC hkind hlay hi (hc.2.2.1 k hk) hn hfit
  refine va_WputK C.1 C.2.1 (f := f) C.2.2.2.1 (va_Nw.use rfl hq) (hsame _ hi) hst (by rw [q2]; exact h6) q1 q3 (by rw [hsl]; exact k2_hasslot (q4 k hk)) rfl rfl dg fun H' e1 e2 e3 => ?_
  exact kk H' _ ls ⟨gc_putc hap hk hP hc.1 hr q2 q3 q4 hsl hI hR hv e1 e2 e3, hS0.put e2 e3 hA⟩ hl
theorem gc_putF (C : CxH g cc nL own) (hW : WK w (gs g)) (hin2 : (gme g).name = "<init>") {c : Nat} {Cn : String} {T : u_T} {N : Nat} (hc : ClOk c Cn T N) (k : Nat) (hk : k < N) {index : Nat} {ref : String} {r : Nat} {v : Value} {I' : MI} {R' : MR} (hr : (K r).1 = c + 1)
    (hq : Cond.fieldLink own index ref (T k).2.1 (T k).2.2.1 ∈ lw_all) (hsame : ∀ x, (gs g).fieldFound? (T k).1 (T k).2.1 (T k).2.2.1 = some x → (gs g).fieldFound? ref (T k).2.1 (T k).2.2.1 = some x) (hfin : (T k).2.2.2 = true) (hdecl : (T k).1 = own) (hn : narrow (cty c k) v = v) (hfit : fits (cty c k) v = true)
    (hI : ∀ b, b ≠ r → I' b = I b) (hR : ∀ b, b ≠ r → R' b = R b) (hv : ∀ j, updV (fun k => fval (cty c k) (I r k) (R r k)) k v j = fval (cty c j) (I' r j) (R' r j)) (dg : decode cc pc = .ok (.putfield index, 3))
    (kk : GJ g nL (CP w I' R' K nx H0) cu Q (pc + 3) lc rest) : GJ g nL (CP w I R K nx H0) cu Q pc lc (v :: rv r :: rest) := by
  intro H locs ls hP hl
  obtain ⟨hP, hS0⟩ := hP
  obtain ⟨a, rfl⟩ := repC_succ hP (by rw [hr]; omega)
  have hap := gc_apart C hW hc
  obtain ⟨hA, cell, q1, q2, q3, q4⟩ := hP.2.2.2.2.1 a c _ hr hc.1
  obtain ⟨hS, hfc, kC, hkC, hkind⟩ := hW.1 c _ hc.1
  obtain ⟨cf, kf, fi, f, hi, hsl⟩ := hS k hk
  have hlay := C.2.2.2.2 _ (hc.2.1 _ (u_in_lay hk))
  unfold u_lay at hlay
  rw [if_pos hfin] at hlay
  have hst := (u_facts hfc hkC (u_lays C.2.2.2.2 hc.2.1 hk) hi).1
  have hcf : (gm g).cls = cf := by
    obtain ⟨_, _, c', _, _, _, -, -, hf', -, -, -, hown2, -⟩ := Cond.laysFinal_spec hlay
    have e1 : c' = cf := by have := hi.symm.trans hf'; simp at this; exact this.1.symm
    rw [hdecl] at hown2
    rw [← e1]; exact Option.some.inj (C.2.2.2.1.symm.trans hown2)
  have h6 := u_fits hfc hkC hkind (Or.inr hlay) hi (hc.2.2.1 k hk) hn hfit
  refine W.putFinK C.1 C.2.1 C.2.2.2.1 (C.2.2.2.2 _ hq) (hsame _ hi) hst hcf hin2 (by rw [q2]; exact h6) q1 q3 (by rw [hsl]; exact k2_hasslot (q4 k hk)) rfl rfl dg fun H' e1 e2 e3 => ?_
  exact kk H' _ ls ⟨gc_putc hap hk hP hc.1 hr q2 q3 q4 hsl hI hR hv e1 e2 e3, hS0.put e2 e3 hA⟩ hl
/-- the pictures behind a put of an int, of a reference -/
theorem fv_int {c k : Nat} {r : Nat} {x : Int32} (h : cty c k = .int) (j : Nat) : updV (fun k => fval (cty c k) (I r k) (R r k)) k (.int x) j = fval (cty c j) (u2 I r k x r j) (R r j) := by
  unfold updV u2
  by_cases e : j = k
  · subst e; rw [if_pos rfl, if_pos ⟨rfl, rfl⟩, h]; rfl
  · rw [if_neg e, if_neg (fun q => e q.2)]
theorem fv_ref {c k : Nat} {r x : Nat} (h : ∀ y, fval (cty c k) y x = rv x) (j : Nat) : updV (fun k => fval (cty c k) (I r k) (R r k)) k (rv x) j = fval (cty c j) (I r j) (u2 R r k x r j) := by
  unfold updV u2
  by_cases e : j = k
  · subst e; rw [if_pos rfl, if_pos ⟨rfl, rfl⟩, h]
  · rw [if_neg e, if_neg (fun q => e q.2)]
theorem u2_off {α : Type} {f : Nat → Nat → α} {a k : Nat} {v : α} {b : Nat} (h : b ≠ a) : u2 f a k v b = f b := by
  funext j
  exact if_neg (fun q => h q.1)
theorem u1_off {α : Type} {f : Nat → α} {a : Nat} {v : α} {b : Nat} (h : b ≠ a) : u1 f a v b = f b := if_neg h
theorem u1_on {α : Type} {f : Nat → α} {a : Nat} {v : α} : u1 f a v a = v := if_pos rfl
theorem nr_ref (ty : FieldType) (h : (∃ n, ty = .object n) ∨ ∃ t, ty = .array t) (x : Nat) : narrow ty (rv x) = rv x ∧ fits ty (rv x) = true := by
  rcases h with ⟨n, rfl⟩ | ⟨t, rfl⟩ <;> cases x <;> exact ⟨rfl, rfl⟩
theorem gc_ld (C : CxH g cc nL own) (hW : WK w (gs g)) {r : Nat} {i : Int32} {t : Nat} (hr : (K r).1 = t) (ht1 : 20 ≤ t) (ht2 : t ≤ 25) (hin : vp_in i (K r).2) {H : Heap} (hP : RepC w I R K nx H) : ∃ a, r = a + 1 ∧ H[a]? = some (arrV (cA w t) (K r).2 (fun j => aval t (I r j) (R r j))) ∧ (gs g).isArrayOf (arrV (cA w t) (K r).2 (fun j => aval t (I r j) (R r j))) (aty t) ∧ ¬ (i < 0 ∨ (arrV (cA w t) (K r).2 (fun j => aval t (I r j) (R r j))).slots.size ≤ i.toNatClampNeg) ∧ (arrV (cA w t) (K r).2 (fun j => aval t (I r j) (R r j))).slots[i.toNatClampNeg]? = some (aval t (I r i.toNatClampNeg) (R r i.toNatClampNeg)) ∧ Ac w a := by
  obtain ⟨a, rfl⟩ := repC_succ hP (by rw [hr]; omega)
  have hlt : i.toNatClampNeg < (K (a + 1)).2 := Nat.not_le.mp fun q => hin (Or.inr q)
  obtain ⟨hA, h⟩ := hP.2.2.2.2.2.1 a (by rw [hr]; exact ht1) (by rw [hr]; exact ht2)
  unfold arrC at h
  rw [hr] at h
  exact ⟨a, rfl, h, (hW.2.1 t ht1 ht2).1 _ _, by rw [arrV_size]; exact hin, by rw [arrV_read _ _ hlt], hA⟩
theorem gc_iald (C : CxH g cc nL own) (hW : WK w (gs g)) {r : Nat} {i : Int32} (hr : (K r).1 = 20) (hin : vp_in i (K r).2) (dg : decode cc pc = .ok (.iaload, 1))
    (kk : GJ g nL (CP w I R K nx H0) cu Q (pc + 1) lc (.int (I r i.toNatClampNeg) :: rest)) : GJ g nL (CP w I R K nx H0) cu Q pc lc (.int i :: rv r :: rest) := by
  intro H locs ls hP hl
  have h1 := kk H locs ls hP hl
  obtain ⟨a, rfl, q1, q2, q3, q4, -⟩ := gc_ld C hW hr (Nat.le_refl _) (by omega) hin hP.1
  exact W.iald C.1 C.2.1 q1 q2 (fun q => by cases q) q3 q4 rfl rfl dg h1
theorem gc_bald (C : CxH g cc nL own) (hW : WK w (gs g)) {r : Nat} {i : Int32} (hr : (K r).1 = 21) (hin : vp_in i (K r).2) (dg : decode cc pc = .ok (.baload, 1))
    (kk : GJ g nL (CP w I R K nx H0) cu Q (pc + 1) lc (.int (I r i.toNatClampNeg) :: rest)) : GJ g nL (CP w I R K nx H0) cu Q pc lc (.int i :: rv r :: rest) := by
  intro H locs ls hP hl
  have h1 := kk H locs ls hP hl
  obtain ⟨a, rfl, q1, q2, q3, q4, -⟩ := gc_ld C hW hr (by omega) (by omega) hin hP.1
  exact W.bald C.1 C.2.1 q1 q2 (fun q => by cases q) q3 q4 rfl rfl dg h1
theorem gc_zald (C : CxH g cc nL own) (hW : WK w (gs g)) {r : Nat} {i : Int32} (hr : (K r).1 = 22) (hin : vp_in i (K r).2) (dg : decode cc pc = .ok (.baload, 1))
    (kk : GJ g nL (CP w I R K nx H0) cu Q (pc + 1) lc (.int (I r i.toNatClampNeg) :: rest)) : GJ g nL (CP w I R K nx H0) cu Q pc lc (.int i :: rv r :: rest) := by
  intro H locs ls hP hl
  have h1 := kk H locs ls hP hl
  obtain ⟨a, rfl, q1, q2, q3, q4, -⟩ := gc_ld C hW hr (by omega) (by omega) hin hP.1
  exact W.zald C.1 C.2.1 q1 q2 (fun q => by cases q) q3 q4 rfl rfl dg h1
theorem gc_aald (C : CxH g cc nL own) (hW : WK w (gs g)) {r : Nat} {i : Int32} {t : Nat} (hr : (K r).1 = t) (ht1 : 23 ≤ t) (ht2 : t ≤ 24) (hin : vp_in i (K r).2) (dg : decode cc pc = .ok (.aaload, 1))
    (kk : GJ g nL (CP w I R K nx H0) cu Q (pc + 1) lc (rv (R r i.toNatClampNeg) :: rest)) : GJ g nL (CP w I R K nx H0) cu Q pc lc (.int i :: rv r :: rest) := by
  intro H locs ls hP hl
  have h1 := kk H locs ls hP hl
  obtain ⟨a, rfl, q1, q2, q3, q4, -⟩ := gc_ld C hW hr (by omega) (by omega) hin hP.1
  have e : aval t (I (a + 1) i.toNatClampNeg) (R (a + 1) i.toNatClampNeg) = rv (R (a + 1) i.toNatClampNeg) := (if_neg (by omega)).trans (if_neg (by omega))
  rw [e] at q4
  exact W.aald C.1 C.2.1 q1 q2 (by rcases (by omega : t = 23 ∨ t = 24) with rfl | rfl <;> rfl) (fun q => by cases q) q3 q4 rfl rfl dg h1
theorem gc_alen (C : CxH g cc nL own) (hW : WK w (gs g)) {r : Nat} (hr : 20 ≤ (K r).1 ∧ (K r).1 ≤ 25) (dg : decode cc pc = .ok (.arraylength, 1))
    (kk : GJ g nL (CP w I R K nx H0) cu Q (pc + 1) lc (.int (nI (K r).2) :: rest)) : GJ g nL (CP w I R K nx H0) cu Q pc lc (rv r :: rest) := by
  intro H locs ls hP hl
  have h1 := kk H locs ls hP hl
  obtain ⟨a, rfl⟩ := repC_succ (r := r) hP.1 (by omega)
  obtain ⟨hA, h⟩ := hP.1.2.2.2.2.2.1 a hr.1 hr.2
  exact W.alen (n := nI (K (a + 1)).2) C.1 C.2.1 h ((hW.2.1 _ hr.1 hr.2).1 _ _) (by rw [arrV_size] <;> rfl) rfl rfl dg h1
/-- the picture behind a store in an array -/
theorem gc_stc {r : Nat} {i : Int32} {t : Nat} (hr : (K r).1 = t) (ht1 : 20 ≤ t) (ht2 : t ≤ 25) {a : Nat} (ha : r = a + 1) {H H1 : Heap} {x : Value} {I' : MI} {R' : MR} (hP : RepC w I R K nx H) (hA : Ac w a) (hI : ∀ b, b ≠ r → I' b = I b) (hR : ∀ b, b ≠ r → R' b = R b) (hv : ∀ j, updV (fun j => aval t (I r j) (R r j)) i.toNatClampNeg x j = aval t (I' r j) (R' r j))
    (e : H1[a]? = some ((arrV (cA w t) (K r).2 (fun j => aval t (I r j) (R r j))).setSlot i.toNatClampNeg x)) (z : H1.size = H.size) (oq : ∀ q : Nat, q ≠ a → H1[q]? = H[q]?) : RepC w I' R' K nx H1 := by
  subst ha
  refine repC_upd hP hA z oq hI hR (fun c r2 h2 h3 => ?_) (fun h2 h3 => ?_)
  · have := kCl_len h3
    omega
  · unfold arrC
    rw [hr, e, arrV_store]
    congr 2
    funext j
    exact hv j
theorem gc_iast (C : CxH g cc nL own) (hW : WK w (gs g)) {r : Nat} {i x : Int32} (hr : (K r).1 = 20) (hin : vp_in i (K r).2) (dg : decode cc pc = .ok (.iastore, 1))
    (kk : GJ g nL (CP w (u2 I r i.toNatClampNeg x) R K nx H0) cu Q (pc + 1) lc rest) : GJ g nL (CP w I R K nx H0) cu Q pc lc (.int x :: .int i :: rv r :: rest) := by
  intro H locs ls hP hl
  obtain ⟨hP, hS0⟩ := hP
  obtain ⟨a, rfl, q1, q2, q3, q4, hA⟩ := gc_ld C hW hr (by omega) (by omega) hin hP
  refine W.iast (a := a) C.1 C.2.1 q1 q2 (fun q => by cases q) q3 rfl rfl dg fun H1 e z oq => ?_
  refine kk H1 _ ls ⟨gc_stc hr (by omega) (by omega) rfl hP hA (fun b hb => u2_off hb) (fun _ _ => rfl) (fun j => ?_) e z oq, hS0.put z oq hA⟩ hl
  unfold updV u2
  by_cases e2 : j = i.toNatClampNeg
  · rw [if_pos e2, if_pos ⟨rfl, e2⟩]; rfl
  · rw [if_neg e2, if_neg (fun q => e2 q.2)]
theorem gc_bast (C : CxH g cc nL own) (hW : WK w (gs g)) {r : Nat} {i x : Int32} (hr : (K r).1 = 21) (hin : vp_in i (K r).2) (dg : decode cc pc = .ok (.bastore, 1))
    (kk : GJ g nL (CP w (u2 I r i.toNatClampNeg x.toInt8.toInt32) R K nx H0) cu Q (pc + 1) lc rest) : GJ g nL (CP w I R K nx H0) cu Q pc lc (.int x :: .int i :: rv r :: rest) := by
  intro H locs ls hP hl
  obtain ⟨hP, hS0⟩ := hP
  obtain ⟨a, rfl, q1, q2, q3, q4, hA⟩ := gc_ld C hW hr (by omega) (by omega) hin hP
  refine W.bast (a := a) C.1 C.2.1 q1 q2 (fun q => by cases q) q3 rfl rfl dg fun H1 e z oq => ?_
  refine kk H1 _ ls ⟨gc_stc hr (by omega) (by omega) rfl hP hA (fun b hb => u2_off hb) (fun _ _ => rfl) (fun j => ?_) e z oq, hS0.put z oq hA⟩ hl
  unfold updV u2
  by_cases e2 : j = i.toNatClampNeg
  · rw [if_pos e2, if_pos ⟨rfl, e2⟩]; rfl
  · rw [if_neg e2, if_neg (fun q => e2 q.2)]
theorem gc_zast (C : CxH g cc nL own) (hW : WK w (gs g)) {r : Nat} {i x : Int32} (hx : x = 0 ∨ x = 1) (hr : (K r).1 = 22) (hin : vp_in i (K r).2) (dg : decode cc pc = .ok (.bastore, 1))
    (kk : GJ g nL (CP w (u2 I r i.toNatClampNeg x) R K nx H0) cu Q (pc + 1) lc rest) : GJ g nL (CP w I R K nx H0) cu Q pc lc (.int x :: .int i :: rv r :: rest) := by
  intro H locs ls hP hl
  obtain ⟨hP, hS0⟩ := hP
  obtain ⟨a, rfl, q1, q2, q3, q4, hA⟩ := gc_ld C hW hr (by omega) (by omega) hin hP
  refine W.zast (a := a) C.1 C.2.1 q1 q2 (fun q => by cases q) q3 rfl rfl dg fun H1 e z oq => ?_
  refine kk H1 _ ls ⟨gc_stc hr (by omega) (by omega) rfl hP hA (fun b hb => u2_off hb) (fun _ _ => rfl) (fun j => ?_) e z oq, hS0.put z oq hA⟩ hl
  unfold updV u2
  by_cases e2 : j = i.toNatClampNeg
  · rw [if_pos e2, if_pos ⟨rfl, e2⟩]; rcases hx with rfl | rfl <;> rfl
  · rw [if_neg e2, if_neg (fun q => e2 q.2)]
end CROWS
section CNEW
variable {g : Gm} {cc : ByteArray} {nL : Nat} {cu : Nat} {Q : State → Prop} {pc : Nat} {lc : List (Nat × Value)} {rest : List Value} {w : CD} {I : MI} {R : MR} {K : MK} {nx : Nat} {H0 : Heap} {own : String}
theorem ac_new {H : Heap} (hP : RepC w I R K nx H) : Ac w nx := ⟨hP.2.2.1.1, fun q => by have := hP.2.2.1.2; omega⟩
theorem va_S.new {A : Nat → Prop} {H0 H H1 : Heap} {locs : List Loc} {n : Nat} (h : va_S A H0 H locs) (hn : H.size = n) (z : H1.size = n + 1) (oq : ∀ q : Nat, q < n → H1[q]? = H[q]?) : va_S A H0 H1 locs :=
  ⟨by rw [z]; have := h.1; omega, fun q h1 h2 => (oq q (by have := h.1; omega)).trans (h.2.1 q h1 h2), h.2.2⟩
theorem gc_new (C : CxH g cc nL own) (hW : WK w (gs g)) {c : Nat} {Cn : String} {T : u_T} {N : Nat} (hc : ClOk c Cn T N) {index : Nat} (hq : Cond.classLink own index Cn ∈ lw_all) {u : Nat} (hu : N ≤ 24 * u) (hu1 : 1 ≤ u) (hcu : cu + u ≤ (gR g).cells ∧ 24 * (cu + u) ≤ (gR g).slots) (hdf : ∀ k, defaultValue (cty c k) = fval (cty c k) 0 0)
    (dg : decode cc pc = .ok (.new index, 3)) (kk : ∀ q, q = nx + 1 → GJ g nL (CP w (u1 I q (fun _ => 0)) (u1 R q (fun _ => 0)) (u1 K q (c + 1, 0)) q H0) (cu + u) Q (pc + 3) lc (rv q :: rest)) : GJ g nL (CP w I R K nx H0) cu Q pc lc rest := by
  intro H locs ls hP hl
  obtain ⟨hP, hS0⟩ := hP
  have hKn := hW.1 c _ hc.1
  refine W.newcK C.1 C.2.1 C.2.2.2.1 (C.2.2.2.2 _ hq) (C.2.2.2.2 _ hc.2.2.2.2.1) (C.2.2.2.2 _ hc.2.2.2.2.2) rfl dg (by omega) (by omega) hKn.2.1 hP.1 fun H1 kC hkC e1 z1 o1 => ?_
  refine W.widen (k := cu + u) (n := 24 * (cu + u)) (by omega) (by omega) ?_
  refine kk _ rfl H1 locs ls ⟨repC_new hP z1 o1 (fun b hb => u1_off hb) (fun b hb => u1_off hb) (by have := kCl_len hc.1; show c + 1 ≠ 26; omega) (fun c2 r2 h2 h3 => ?_) (fun h2 => ?_), hS0.new hP.1 z1 o1⟩ hl
  · have : c2 = c := by simp at h2; omega
    subst this
    cases h3.symm.trans hc.1
    unfold objC
    rw [u1_on, u1_on]
    exact (u_born (cty c2) C.2.2.2.2 hc.2.1 hKn hkC e1 hc.2.2.1).to (fun k _ => hdf k)
  · have := kCl_len hc.1
    simp at h2
    omega
theorem gc_newa (C : CxH g cc nL own) (hW : WK w (gs g)) {at_ : ArrayType} {t : Nat} (ht : 20 ≤ t ∧ t ≤ 22) (hat : newarray.typeOf at_ = aty t) (hq : Cond.arrayClass (aty t) ∈ lw_all) (hcb : componentBytes (aty t) ≤ 8) (hdf : defaultValue (aty t) = .int 0) {n : Int32} {N : Nat} (hn : ¬ n < 0) (hN : n.toNatClampNeg = N) {u : Nat} (hu : N ≤ 24 * u) (hu1 : 1 ≤ u) (hu2 : u ≤ 2000000) (hcu : cu + u ≤ (gR g).cells ∧ 24 * (cu + u) ≤ (gR g).slots)
    (dg : decode cc pc = .ok (.newarray at_, 2)) (kk : ∀ q, q = nx + 1 → GJ g nL (CP w (u1 I q (fun _ => 0)) R (u1 K q (t, N)) q H0) (cu + u) Q (pc + 2) lc (rv q :: rest)) : GJ g nL (CP w I R K nx H0) cu Q pc lc (.int n :: rest) := by
  subst hN
  intro H locs ls hP hl
  obtain ⟨hP, hS0⟩ := hP
  refine va_newaK C.1 C.2.1 (atype := at_) (by rw [hat]; exact C.2.2.2.2 _ hq) rfl dg rfl hn rfl (by rw [hat]; exact Nat.le_trans (Nat.mul_le_mul hu hcb) (by omega)) (by omega) (by omega) hP.1 fun H1 cB e1 z1 o1 hAr hNm => ?_
  have hcb2 : cB = cA w t := by
    rw [hat] at hNm
    exact Option.some.inj (hNm.symm.trans (hW.2.1 t ht.1 (by omega)).2)
  refine W.widen (k := cu + u) (n := 24 * (cu + u)) (by omega) (by omega) ?_
  refine kk _ rfl H1 locs ls ⟨repC_new hP z1 o1 (fun b hb => u1_off hb) (fun _ _ => rfl) (by show t ≠ 26; omega) (fun c2 r2 h2 h3 => ?_) (fun h2 h3 => ?_), hS0.new hP.1 z1 o1⟩ hl
  · have := kCl_len h3
    simp at h2
    omega
  · unfold arrC
    rw [e1, hcb2, hat, hdf, u1_on]
    congr 2
    funext j
    exact (if_pos (by omega)).symm
/-- an array of references -/
theorem gc_newqc {n : Nat} {t : Nat} (ht : 23 ≤ t ∧ t ≤ 24) {H : Heap} (hP : RepC w I R K nx H) {cB : ClassId} (hcB : cB = cA w t) {H1 : Heap} (hH : H1 = H.push ({ cls := cB, slots := Array.replicate n .null, vm := .none } : Cell)) : RepC w I (u1 R (nx + 1) (fun _ => 0)) (u1 K (nx + 1) (t, n)) (nx + 1) H1 ∧ H1.size = nx + 1 ∧ ∀ q : Nat, q < nx → H1[q]? = H[q]? := by
  subst hH
  have z1 : (H.push ({ cls := cB, slots := Array.replicate n .null, vm := .none } : Cell)).size = nx + 1 := by rw [Array.size_push, hP.1]
  have o1 : ∀ q : Nat, q < nx → (H.push ({ cls := cB, slots := Array.replicate n .null, vm := .none } : Cell))[q]? = H[q]? := fun q hq => by rw [Array.getElem?_push, if_neg (by rw [hP.1]; omega)]
  refine ⟨repC_new hP z1 o1 (fun _ _ => rfl) (fun b hb => u1_off hb) (by show t ≠ 26; omega) (fun c2 r2 h2 h3 => ?_) (fun h2 h3 => ?_), z1, o1⟩
  · have := kCl_len h3
    simp at h2
    omega
  · unfold arrC
    have e1 := Array.getElem?_push_size (xs := H) (x := ({ cls := cB, slots := Array.replicate n .null, vm := .none } : Cell))
    rw [hP.1] at e1
    rw [e1, arrV_new, hcB, u1_on]
    congr 2
    funext j
    exact ((if_neg (by omega)).trans (if_neg (by omega))).symm
theorem gc_newO (C : CxH g cc nL own) (hW : WK w (gs g)) (hAO : va_AO "java/lang/Object" (gs g)) {index : Nat} (hq : Cond.classLink own index "java/lang/Object" ∈ lw_all) {n : Int32} {N : Nat} (hn : ¬ n < 0) (hN : n.toNatClampNeg = N) {u : Nat} (hu : N ≤ 24 * u) (hu1 : 1 ≤ u) (hu2 : u ≤ 2000000) (hcu : cu + u ≤ (gR g).cells ∧ 24 * (cu + u) ≤ (gR g).slots)
    (dg : decode cc pc = .ok (.anewarray index, 3)) (kk : ∀ q, q = nx + 1 → GJ g nL (CP w I (u1 R q (fun _ => 0)) (u1 K q (23, N)) q H0) (cu + u) Q (pc + 3) lc (rv q :: rest)) : GJ g nL (CP w I R K nx H0) cu Q pc lc (.int n :: rest) := by
  subst hN
  intro H locs ls hP hl
  obtain ⟨hP, hS0⟩ := hP
  refine W.anew C.1 C.2.1 C.2.2.2.1 (C.2.2.2.2 _ hq) (va_AO.use hAO) rfl dg rfl hn (by omega) (by omega) (by omega) fun cB kA comp f1 f2 f3 f4 => ?_
  obtain ⟨k1, k2, k3⟩ := gc_newqc (n := n.toNatClampNeg) (t := 23) ⟨Nat.le_refl _, by omega⟩ hP (Option.some.inj (f1.symm.trans (hW.2.1 23 (by omega) (by omega)).2)) rfl
  refine W.widen (k := cu + u) (n := 24 * (cu + u)) (by omega) (by omega) ?_
  rw [hP.1]
  exact kk _ rfl _ locs ls ⟨k1, hS0.new hP.1 k2 k3⟩ hl
theorem gc_newA (C : CxH g cc nL own) (hW : WK w (gs g)) (hAO : (Cond.arrayOver (.array .int)).before (ga g) (gs g) = true) {index : Nat} (hq : Cond.classLink own index "[I" ∈ lw_all) {n : Int32} {N : Nat} (hn : ¬ n < 0) (hN : n.toNatClampNeg = N) {u : Nat} (hu : N ≤ 24 * u) (hu1 : 1 ≤ u) (hu2 : u ≤ 2000000) (hcu : cu + u ≤ (gR g).cells ∧ 24 * (cu + u) ≤ (gR g).slots)
    (dg : decode cc pc = .ok (.anewarray index, 3)) (kk : ∀ q, q = nx + 1 → GJ g nL (CP w I (u1 R q (fun _ => 0)) (u1 K q (24, N)) q H0) (cu + u) Q (pc + 3) lc (rv q :: rest)) : GJ g nL (CP w I R K nx H0) cu Q pc lc (.int n :: rest) := by
  subst hN
  intro H locs ls hP hl
  obtain ⟨hP, hS0⟩ := hP
  refine W.anewA (t := .int) C.1 C.2.1 C.2.2.2.1 (C.2.2.2.2 _ hq) hAO rfl dg rfl hn (by omega) (by omega) (by omega) fun cB kA comp f1 f2 f3 f4 => ?_
  obtain ⟨k1, k2, k3⟩ := gc_newqc (n := n.toNatClampNeg) (t := 24) ⟨by omega, by omega⟩ hP (Option.some.inj (f1.symm.trans (hW.2.1 24 (by omega) (by omega)).2)) rfl
  refine W.widen (k := cu + u) (n := 24 * (cu + u)) (by omega) (by omega) ?_
  rw [hP.1]
  exact kk _ rfl _ locs ls ⟨k1, hS0.new hP.1 k2 k3⟩ hl
/-- Object's own constructor -/
theorem gc_objInit (C : CxH g cc nL own) (hR : 1 ≤ (gR g).frames ∧ 20 ≤ (gR g).locals) {index : Nat} (h1 : Cond.methodLink own index Lib.objectInit ∈ lw_all) (h2 : Cond.instanceMethod Lib.objectInit ∈ lw_all) (h3 : Cond.code Lib.objectInit ⟨#[0xb1]⟩ 1 none ∈ lw_all) {r : Nat} (hr : (K r).1 ≠ 0) (hrest : (rest.map fun v => v.category).sum ≤ 8) (dg : decode cc pc = .ok (.invokespecial index, 3))
    (kk : GJ g nL (CP w I R K nx H0) cu Q (pc + 3) lc rest) : GJ g nL (CP w I R K nx H0) cu Q pc lc (rv r :: rest) := by
  intro H locs ls hP hl
  have k := kk H locs ls hP hl
  obtain ⟨a, rfl⟩ := repC_succ (r := r) hP.1 hr
  refine W.objInit C.1 C.2.1 C.2.2.2.1 (C.2.2.2.2 _ h1) (C.2.2.2.2 _ h2) (C.2.2.2.2 _ h3) rfl (by rw [C.2.2.1]; exact hl.1) rfl dg hR.1 (by show 2 * 0 + _ + 12 ≤ _; omega) k
/-- an object's cell, its class -/
theorem gc_recv {s : State} (hW : WK w s) {H : Heap} (hP : RepC w I R K nx H) {a c : Nat} {q : vw_C} (hr : (K (a + 1)).1 = c + 1) (hc : kCl[c]? = some q) : ∃ cell : Cell, H[a]? = some cell ∧ cell.vm.isStatics = false ∧ s.vm.findClass q.1 = some cell.cls := by
  obtain ⟨-, cell, q1, q2, q3, -⟩ := hP.2.2.2.2.1 a c _ hr hc
  exact ⟨cell, q1, by rw [q3]; rfl, by rw [q2]; exact (hW.1 c _ hc).2.1⟩
/-- a reference is stored in an array of Objects: an object of the class c, castable -/
theorem gc_aast (C : CxH g cc nL own) (hW : WK w (gs g)) {r v c : Nat} {i : Int32} {q : vw_C} (hr : (K r).1 = 23) (hin : vp_in i (K r).2) (hv : (K v).1 = c + 1) (hc : kCl[c]? = some q) (hca : va_Nw (.castable q.1 "java/lang/Object") (gs g)) (dg : decode cc pc = .ok (.aastore, 1))
    (kk : GJ g nL (CP w I (u2 R r i.toNatClampNeg v) K nx H0) cu Q (pc + 1) lc rest) : GJ g nL (CP w I R K nx H0) cu Q pc lc (rv v :: .int i :: rv r :: rest) := by
  intro H locs ls hP hl
  obtain ⟨hP, hS0⟩ := hP
  obtain ⟨a, rfl, q1, q2, q3, q4, hA⟩ := gc_ld C hW hr (by omega) (by omega) hin hP
  obtain ⟨b, rfl⟩ := repC_succ (r := v) hP (by omega)
  obtain ⟨cellV, g1, g2, g3⟩ := gc_recv hW hP hv hc
  obtain ⟨kA, comp, k1, k2, k3, -⟩ := hW.2.2
  obtain ⟨kC, hkC, -⟩ := Vm.findClass_spec g3
  obtain ⟨kE, hkE, -⟩ := Vm.findClass_spec k3
  refine W.aast (a := a) C.1 C.2.1 q1 (fun _ h => by cases h) (fun h => by cases h) k1 k2 rfl hkE ⟨fun q => hin (Or.inl q), by show _ < (arrV _ _ _).slots.size; rw [arrV_size]; exact Nat.not_le.mp fun q => hin (Or.inr q)⟩ g1 (fun z h => by rw [h] at g2; cases g2) hkC (vb_asgC hca comp cellV.cls k3 g3) rfl rfl dg fun H1 e z oq => ?_
  refine kk H1 _ ls ⟨gc_stc hr (by omega) (by omega) rfl hP hA (fun _ _ => rfl) (fun b hb => u2_off hb) (fun j => ?_) e z oq, hS0.put z oq hA⟩ hl
  unfold updV u2
  by_cases e2 : j = i.toNatClampNeg
  · rw [if_pos e2, if_pos ⟨rfl, e2⟩]; rfl
  · rw [if_neg e2, if_neg (fun q => e2 q.2)]
/-- null is stored in an array of Objects -/
theorem gc_aastN (C : CxH g cc nL own) (hW : WK w (gs g)) {r : Nat} {i : Int32} (hr : (K r).1 = 23) (hin : vp_in i (K r).2) (dg : decode cc pc = .ok (.aastore, 1))
    (kk : GJ g nL (CP w I (u2 R r i.toNatClampNeg 0) K nx H0) cu Q (pc + 1) lc rest) : GJ g nL (CP w I R K nx H0) cu Q pc lc (rv 0 :: .int i :: rv r :: rest) := by
  intro H locs ls hP hl
  obtain ⟨hP, hS0⟩ := hP
  obtain ⟨a, rfl, q1, q2, q3, q4, hA⟩ := gc_ld C hW hr (by omega) (by omega) hin hP
  refine va_WaastN (a := a) (C := "java/lang/Object") C.1 C.2.1 q1 q2 (fun h => by cases h) q3 rfl rfl dg fun H1 e z oq => ?_
  refine kk H1 _ ls ⟨gc_stc hr (by omega) (by omega) rfl hP hA (fun _ _ => rfl) (fun b hb => u2_off hb) (fun j => ?_) e z oq, hS0.put z oq hA⟩ hl
  unfold updV u2
  by_cases e2 : j = i.toNatClampNeg
  · rw [if_pos e2, if_pos ⟨rfl, e2⟩]; rfl
  · rw [if_neg e2, if_neg (fun q => e2 q.2)]
/-- an int array is stored in an array of int arrays -/
theorem gc_aastA (C : CxH g cc nL own) (hW : WK w (gs g)) (hA24 : ∃ kA : Class, (gs g).vm.classes[cA w 24]? = some kA ∧ kA.kind = .array (cA w 20) (.array .int)) {r v : Nat} {i : Int32} (hr : (K r).1 = 24) (hin : vp_in i (K r).2) (hv : (K v).1 = 20) (dg : decode cc pc = .ok (.aastore, 1))
    (kk : GJ g nL (CP w I (u2 R r i.toNatClampNeg v) K nx H0) cu Q (pc + 1) lc rest) : GJ g nL (CP w I R K nx H0) cu Q pc lc (rv v :: .int i :: rv r :: rest) := by
  intro H locs ls hP hl
  obtain ⟨hP, hS0⟩ := hP
  obtain ⟨a, rfl, q1, q2, q3, q4, hA⟩ := gc_ld C hW hr (by omega) (by omega) hin hP
  obtain ⟨b, rfl⟩ := repC_succ (r := v) hP (by omega)
  have hvc := (hP.2.2.2.2.2.1 b (by omega) (by omega)).2
  unfold arrC at hvc
  rw [hv] at hvc
  obtain ⟨kA, k1, k2⟩ := hA24
  have h20 := (hW.2.1 20 (Nat.le_refl _) (by omega)).2
  obtain ⟨kE, hkE, -⟩ := Vm.findClass_spec h20
  refine W.aast (a := a) C.1 C.2.1 q1 (fun _ h => by cases h) (fun h => by cases h) k1 k2 rfl hkE ⟨fun q => hin (Or.inl q), by show _ < (arrV _ _ _).slots.size; rw [arrV_size]; exact Nat.not_le.mp fun q => hin (Or.inr q)⟩ hvc (fun z h => by cases h) hkE (va_asg _ _) rfl rfl dg fun H1 e z oq => ?_
  refine kk H1 _ ls ⟨gc_stc hr (by omega) (by omega) rfl hP hA (fun _ _ => rfl) (fun b hb => u2_off hb) (fun j => ?_) e z oq, hS0.put z oq hA⟩ hl
  unfold updV u2
  by_cases e2 : j = i.toNatClampNeg
  · rw [if_pos e2, if_pos ⟨rfl, e2⟩]; rfl
  · rw [if_neg e2, if_neg (fun q => e2 q.2)]
theorem gc_cast (C : CxH g cc nL own) (hW : WK w (gs g)) {r c : Nat} {q : vw_C} {index : Nat} (hr : (K r).1 = c + 1) (hc : kCl[c]? = some q) (hq : Cond.classLink own index q.1 ∈ lw_all) (dg : decode cc pc = .ok (.checkcast index, 3))
    (kk : GJ g nL (CP w I R K nx H0) cu Q (pc + 3) lc (rv r :: rest)) : GJ g nL (CP w I R K nx H0) cu Q pc lc (rv r :: rest) := by
  intro H locs ls hP hl
  have k := kk H locs ls hP hl
  obtain ⟨a, rfl⟩ := repC_succ (r := r) hP.1 (by omega)
  exact va_castE C.1 C.2.1 C.2.2.2.1 (C.2.2.2.2 _ hq) (gc_recv hW hP.1 hr hc) dg k
end CNEW
/-- the words that ride in no list but stay as the tables warm -/
def bk : Cond → Bool
  | .fieldLinkNest .. => true
  | .methodLinkNest .. => true
  | .castable .. => true
  | .declares .. => true
  | .publicMethod .. => true
  | .unhidden .. => true
  | .interfaceMethod r _ _ _ => r != "java/lang/invoke/MethodHandle" && r != "java/lang/invoke/VarHandle"
  | _ => false
theorem va_Nw.warmIF {r o n d : String} (hr : r ≠ "java/lang/invoke/MethodHandle" ∧ r ≠ "java/lang/invoke/VarHandle") {s U : State} (hW : s.WarmedH U.vm) (h : va_Nw (.interfaceMethod r o n d) s) : va_Nw (.interfaceMethod r o n d) U := by
  by_cases hro : r = o
  · subst hro
    exact va_tabs rfl (rfl : (s.setVm U.vm).vm = U.vm) (Cond.faceAtom_setVm (args := #[]) hW.alike _ (by simp [Cond.faceAtom, hr.1, hr.2]) h)
  obtain ⟨c, k, m, hc, hk, hi, hf, hn⟩ := Cond.interfaceMethod_spec h
  have hal := hW.alike
  obtain ⟨k0, hk0, hname⟩ := Vm.findClass_spec hc
  cases hk.symm.trans hk0
  have hpoly : ∀ y, signaturePolymorphic k y = false := fun y => by simp [signaturePolymorphic, hname, hr.1, hr.2]
  obtain ⟨ok, hok, hno⟩ := Vm.findClass_spec (findClass_of_methodNamed hn)
  have hnone : k.findMethod n d = none := by
    rcases hfm : k.findMethod n d with _ | i
    · rfl
    · have h3 := hf.symm.trans (State.methodFound?_of_named (m := ⟨c, i⟩) (x := ⟨r, n, d⟩) (by simp [State.methodNamed?, hc, hk, hfm]) hr)
      cases h3
      cases hk.symm.trans hok
      exact absurd (hname.symm.trans hno) hro
  obtain ⟨k', hk', he⟩ := hal.2.2 _ _ hk
  obtain ⟨ok', hok', -⟩ := hal.2.2 _ _ hok
  have hfU : U.methodFound? r n d = some m := State.methodFound?_faceFind (by rw [hal.findClass]; exact hc) hk' (by rw [he]; exact hi) (by rw [he]; exact hpoly) (by rw [he]; exact hnone) (by rw [hal.faceFind]; exact State.faceFind_of_found hc hk hi hpoly hnone hf) hok'
  have hnU : U.methodNamed? ⟨o, n, d⟩ = some m := Eq.trans (State.methodNamed?_setVm (s := s) hal _) hn
  have hcU : U.vm.findClass r = some c := by rw [hal.findClass]; exact hc
  have hiU : k'.isInterface = true := by rw [he]; exact hi
  simp [va_Nw, Cond.before, Cond.holds, Cond.value, hcU, hfU, hnU, hk', hiU]
theorem va_Nw.warmB {w : Cond} (hb : bk w = true) {s U : State} (hW : s.WarmedH U.vm) (h : va_Nw w s) : va_Nw w U := by
  cases w <;> first
    | exact va_Nw.warmF hW h
    | exact va_Nw.warmM hW h
    | exact va_Nw.warmC hW h
    | exact va_tabs rfl (rfl : (s.setVm U.vm).vm = U.vm) (Cond.faceAtom_setVm (args := #[]) hW.alike _ rfl h)
    | exact va_Nw.warmIF (by simpa [bk] using hb) hW h
    | cases hb
theorem bk_tab {w : Cond} (hb : bk w = true) : w.onTables = true := by
  cases w <;> first | rfl | cases hb
theorem va_Nw.useB {w : Cond} (hb : bk w = true) {A : Array Value} {U : State} (h : va_Nw w U) : w.before A U = true := va_tabs (bk_tab hb) rfl h
/-- the String constants, by their places -/
def stx : Nat → String := fun i => match i with
  | 0 => "out" | 1 => "asleep" | 2 => "cross" | 3 => "calm" | 4 => "left" | 5 => "right" | 6 => "at" | 7 => "none" | 8 => "both" | 9 => "room" | 10 => "lodger" | 11 => "finder" | 12 => "may" | _ => "law"
def six : Nat → Nat := fun i => match i with
  | 0 => 95 | 1 => 97 | 2 => 99 | 3 => 101 | 4 => 117 | 5 => 119 | 6 => 143 | 7 => 156 | 8 => 158 | 9 => 163 | 10 => 167 | 11 => 171 | 12 => 178 | _ => 181
def sby : List (List Int32) := [[111, 117, 116], [97, 115, 108, 101, 101, 112], [99, 114, 111, 115, 115], [99, 97, 108, 109], [108, 101, 102, 116], [114, 105, 103, 104, 116], [97, 116], [110, 111, 110, 101], [98, 111, 116, 104], [114, 111, 111, 109], [108, 111, 100, 103, 101, 114], [102, 105, 110, 100, 101, 114], [109, 97, 121], [108, 97, 119]]
def sln : List Nat := [3, 6, 5, 4, 4, 5, 2, 4, 4, 4, 6, 6, 3, 3]
/-- a constant's reference, its bytes' reference -/
def sr (w : CD) (i : Nat) : Nat := cSK w i + 1
def sb (w : CD) (i : Nat) : Nat := cSV w i + 1
/-- what the old heap holds -/
def WS (w : CD) (U : State) : Prop :=
  vk_S 14 sln sby (cSK w) (cSV w) (Az w) U (cH w) ∧ (∀ i, i < 14 → vk_R RX4 (six i) (stx i) (cSK w i) U) ∧
  va_Z RJ2 "DEFAULTCAPACITY_EMPTY_ELEMENTDATA" "[Ljava/lang/Object;" (.ref (cE0 w)) (Az w) U (cH w) ∧ va_Z RJ2 "EMPTY_ELEMENTDATA" "[Ljava/lang/Object;" (.ref (cE1 w)) (Az w) U (cH w) ∧
  vx_Zq "java/lang/Throwable" "UNASSIGNED_STACK" "[Ljava/lang/StackTraceElement;" (Az w) U (cH w) ∧ vx_Zq "java/lang/Throwable" "SUPPRESSED_SENTINEL" "Ljava/util/List;" (Az w) U (cH w) ∧
  va_Z "java/lang/String" "COMPACT_STRINGS" "Z" (.int 1) (Az w) U (cH w) ∧ va_Zq "jdk/internal/util/Preconditions" "SIOOBE_FORMATTER" "Ljava/util/function/BiFunction;" (Az w) U (cH w) ∧
  (∀ a, a = cE0 w ∨ a = cE1 w → va_T (.object "java/lang/Object") a 0 (fun _ => .null) (Az w) U (cH w) ∧ va_O "[Ljava/lang/Object;" a (Az w) U (cH w)) ∧
  va_Nc "java/lang/IllegalArgumentException" "java/util/NoSuchElementException" U
theorem WS.warm {w : CD} {s U : State} (hW : s.WarmedH U.vm) (h : WS w s) : WS w U := by
  obtain ⟨h1, h2, h3, h4, h5, h6, h7, h8, h9, h10⟩ := h
  exact ⟨h1.moved hW.alike, fun i hi => (h2 i hi).warm hW, h3.moved hW.alike, h4.moved hW.alike, h5.moved hW.alike, h6.moved hW.alike, h7.moved hW.alike, h8.moved hW.alike, fun a ha => ⟨(h9 a ha).1.moved hW.alike, (h9 a ha).2.moved hW.alike⟩, h10.moved hW.alike⟩
theorem WS.same {w : CD} {s U : State} (hv : U.vm = s.vm) (h : WS w s) : WS w U := by
  have hA : s.vm.Alike U.vm := by rw [hv]; exact Vm.Alike.refl _
  obtain ⟨h1, h2, h3, h4, h5, h6, h7, h8, h9, h10⟩ := h
  exact ⟨h1.moved hA, fun i hi => (h2 i hi).same hv, h3.moved hA, h4.moved hA, h5.moved hA, h6.moved hA, h7.moved hA, h8.moved hA, fun a ha => ⟨(h9 a ha).1.moved hA, (h9 a ha).2.moved hA⟩, h10.moved hA⟩
/-- the whole world of a C method -/
def WC (w : CD) (U : State) : Prop :=
  WK w U ∧ (∀ x ∈ lw_tbl, bk x = true → va_Nw x U) ∧ va_AO "java/lang/Object" U ∧ (Cond.arrayOver (.array .int)).before #[] U = true ∧
  (∃ kA : Class, U.vm.classes[cA w 24]? = some kA ∧ kA.kind = .array (cA w 20) (.array .int)) ∧ va_Mi RJ2 (cM0 w) U ∧ va_Mi "[Ljava/lang/Object;" (cM1 w) U ∧ WS w U
theorem WC.warm {w : CD} {s U : State} (hW : s.WarmedH U.vm) (h : WC w s) : WC w U := by
  obtain ⟨h1, h2, h3, h4, ⟨kA, h5, h6⟩, h7, h8, h9⟩ := h
  obtain ⟨k', hk', he⟩ := hW.alike.2.2 _ _ h5
  exact ⟨h1.moved hW.alike, fun x hx hb => (h2 x hx hb).warmB hb hW, h3.moved hW.alike, over_moved hW.alike h4, ⟨k', hk', by rw [he]; exact h6⟩, h7.moved hW.alike, h8.moved hW.alike, h9.warm hW⟩
theorem WC.same {w : CD} {s U : State} (hv : U.vm = s.vm) (h : WC w s) : WC w U := by
  have hA : s.vm.Alike U.vm := by rw [hv]; exact Vm.Alike.refl _
  obtain ⟨h1, h2, h3, h4, ⟨kA, h5, h6⟩, h7, h8, h9⟩ := h
  exact ⟨h1.moved hA, fun x hx hb => va_Nw.same (bk_tab hb) hv.symm (h2 x hx hb), h3.moved hA, over_moved hA h4, ⟨kA, by rw [hv]; exact h5, h6⟩, h7.moved hA, h8.moved hA, h9.same hv⟩
theorem cA_z {w : CD} (q : Nat) (h : Ac w q) : Az w q := h.1
section CST
variable {g : Gm} {cc : ByteArray} {nL : Nat} {cu : Nat} {Q : State → Prop} {pc : Nat} {lc : List (Nat × Value)} {rest : List Value} {w : CD} {I : MI} {R : MR} {K : MK} {nx : Nat} {H0 : Heap} {own : String}
theorem repC_old {H : Heap} (hP : RepC w I R K nx H) (a : Nat) (_ : a < (cH w).size) (h : ¬ Az w a) : H[a]? = (cH w)[a]? := hP.2.2.2.1 a (Nat.not_le.mp h)
theorem gc_gets (C : CxH g cc nL own) {Cn n dsc ref : String} {v : Value} {index : Nat} (hZ : va_Z Cn n dsc v (Az w) (gs g) (cH w)) (hq : Cond.fieldLink own index ref n dsc ∈ lw_all) (hsame : ∀ x, (gs g).fieldFound? Cn n dsc = some x → (gs g).fieldFound? ref n dsc = some x) (dg : decode cc pc = .ok (.getstatic index, 3))
    (kk : GJ g nL (CP w I R K nx H0) cu Q (pc + 3) lc (v :: rest)) : GJ g nL (CP w I R K nx H0) cu Q pc lc rest := by
  intro H locs ls hP hl
  have k := kk H locs ls hP hl
  obtain ⟨cf, kf, fi, f, a, cell, h1, h2, h3, h4, h5, h6, h7, h8⟩ := hZ.kept (repC_old hP.1)
  exact W.gets C.1 C.2.1 C.2.2.2.1 (C.2.2.2.2 _ hq) (hsame _ h1) h2 h3 h4 h5 (fun e => by rw [e] at h6; cases h6) h7 rfl dg k
theorem gc_getsq (C : CxH g cc nL own) {Cn n dsc ref : String} {index : Nat} (hZ : va_Zq Cn n dsc (Az w) (gs g) (cH w)) (hq : Cond.fieldLink own index ref n dsc ∈ lw_all) (hsame : ∀ x, (gs g).fieldFound? Cn n dsc = some x → (gs g).fieldFound? ref n dsc = some x) (dg : decode cc pc = .ok (.getstatic index, 3))
    (kk : ∀ q : Nat, GJ g nL (CP w I R K nx H0) cu Q (pc + 3) lc (rv q :: rest)) : GJ g nL (CP w I R K nx H0) cu Q pc lc rest := by
  rcases hZ with h | ⟨t, h⟩
  · exact gc_gets C h hq hsame dg (kk 0)
  · exact gc_gets C h hq hsame dg (kk (t + 1))
theorem gc_ldcS (C : CxH g cc nL RX4) (hW : WC w (gs g)) (i : Nat) (hi : i < 14) {index : Nat} (hx : six i = index) (dg : decode cc pc = .ok (.ldc index, 2)) (kk : GJ g nL (CP w I R K nx H0) cu Q (pc + 2) lc (rv (sr w i) :: rest)) : GJ g nL (CP w I R K nx H0) cu Q pc lc rest := by
  subst hx
  intro H locs ls hP hl
  exact va_ldcS C.1 C.2.1 C.2.2.2.1 (hW.2.2.2.2.2.2.2.2.1 i hi) dg (kk H locs ls hP hl)
theorem gs_get (C : CxH g cc nL "java/lang/String") {i : Nat} {n dsc : String} {v : Value} {index : Nat} (hO : va_OF "java/lang/String" n dsc v (cSK w i) (Az w) (gs g) (cH w)) (hq : Cond.fieldLink "java/lang/String" index "java/lang/String" n dsc ∈ lw_all) (dg : decode cc pc = .ok (.getfield index, 3))
    (kk : GJ g nL (CP w I R K nx H0) cu Q (pc + 3) lc (v :: rest)) : GJ g nL (CP w I R K nx H0) cu Q pc lc (rv (sr w i) :: rest) := by
  intro H locs ls hP hl
  have k := kk H locs ls hP hl
  obtain ⟨cf, kf, fi, f, cell, h1, h2, h3, h4, h5, h6⟩ := hO.kept (repC_old hP.1)
  exact W.getf C.1 C.2.1 C.2.2.2.1 (C.2.2.2.2 _ hq) h1 h2 h3 h4 (v := v) h5 rfl rfl dg k
theorem gs_value (C : CxH g cc nL "java/lang/String") (hW : WC w (gs g)) {i : Nat} (hi : i < 14) (dg : decode cc pc = .ok (.getfield 9, 3)) (kk : GJ g nL (CP w I R K nx H0) cu Q (pc + 3) lc (rv (sb w i) :: rest)) : GJ g nL (CP w I R K nx H0) cu Q pc lc (rv (sr w i) :: rest) :=
  gs_get C (hW.2.2.2.2.2.2.2.1.1 i hi).2.2.1 q1807 dg kk
theorem gs_coder (C : CxH g cc nL "java/lang/String") (hW : WC w (gs g)) {i : Nat} (hi : i < 14) (dg : decode cc pc = .ok (.getfield 15, 3)) (kk : GJ g nL (CP w I R K nx H0) cu Q (pc + 3) lc (.int 0 :: rest)) : GJ g nL (CP w I R K nx H0) cu Q pc lc (rv (sr w i) :: rest) :=
  gs_get C (hW.2.2.2.2.2.2.2.1.1 i hi).2.1 q1808 dg kk
theorem gs_alen (C : CxH g cc nL own) (hW : WC w (gs g)) {i : Nat} (hi : i < 14) (dg : decode cc pc = .ok (.arraylength, 1)) (kk : GJ g nL (CP w I R K nx H0) cu Q (pc + 1) lc (.int (nI (sln.getD i 0)) :: rest)) : GJ g nL (CP w I R K nx H0) cu Q pc lc (rv (sb w i) :: rest) := by
  intro H locs ls hP hl
  have k := kk H locs ls hP hl
  obtain ⟨cell, h1, h2, h3, h4, h5, h6, h7⟩ := (hW.2.2.2.2.2.2.2.1.1 i hi).2.2.2.kept (repC_old hP.1)
  exact W.alen (n := nI (sln.getD i 0)) C.1 C.2.1 h1 h2 h5 rfl rfl dg k
theorem gs_bald (C : CxH g cc nL own) (hW : WC w (gs g)) {i : Nat} {j : Int32} (hi : i < 14) (hin : vp_in j (sln.getD i 0)) (dg : decode cc pc = .ok (.baload, 1)) (kk : GJ g nL (CP w I R K nx H0) cu Q (pc + 1) lc (.int ((sby.getD i []).getD j.toNatClampNeg 0) :: rest)) : GJ g nL (CP w I R K nx H0) cu Q pc lc (.int j :: rv (sb w i) :: rest) := by
  intro H locs ls hP hl
  have k := kk H locs ls hP hl
  obtain ⟨cell, h1, h2, h3, h4, h5, h6, h7⟩ := (hW.2.2.2.2.2.2.2.1.1 i hi).2.2.2.kept (repC_old hP.1)
  have hlt : j.toNatClampNeg < sln.getD i 0 := Nat.not_le.mp fun q => hin (Or.inr q)
  exact W.bald C.1 C.2.1 h1 h2 h3 (fun q => hin (q.elim Or.inl (fun z => Or.inr (Nat.le_trans h4 z)))) (h6 _ hlt) rfl rfl dg k
theorem gc_alenE (C : CxH g cc nL own) (hW : WC w (gs g)) {r : Nat} (hr : (K r).1 = 26) (dg : decode cc pc = .ok (.arraylength, 1)) (kk : GJ g nL (CP w I R K nx H0) cu Q (pc + 1) lc (.int (nI (K r).2) :: rest)) : GJ g nL (CP w I R K nx H0) cu Q pc lc (rv r :: rest) := by
  intro H locs ls hP hl
  have k := kk H locs ls hP hl
  obtain ⟨a, rfl⟩ := repC_succ (r := r) hP.1 (by rw [hr]; decide)
  obtain ⟨e0, he⟩ := hP.1.2.2.2.2.2.2 a hr
  obtain ⟨cell, h1, h2, h3, h4, h5, h6, h7⟩ := (hW.2.2.2.2.2.2.2.2.2.2.2.2.2.2.2.1 a he).1.kept (repC_old hP.1)
  refine W.alen (n := nI (K (a + 1)).2) C.1 C.2.1 h1 h2 (by rw [e0]; exact h5) rfl rfl dg k
/-- arraylength, of any array of Objects -/
theorem gc_alenQ (C : CxH g cc nL own) (hW : WC w (gs g)) {r : Nat} (hr : (20 ≤ (K r).1 ∧ (K r).1 ≤ 25) ∨ (K r).1 = 26) (dg : decode cc pc = .ok (.arraylength, 1)) (kk : GJ g nL (CP w I R K nx H0) cu Q (pc + 1) lc (.int (nI (K r).2) :: rest)) : GJ g nL (CP w I R K nx H0) cu Q pc lc (rv r :: rest) :=
  hr.elim (fun h => gc_alen C hW.1 h dg kk) (fun h => gc_alenE C hW h dg kk)
theorem gc_ldcM (C : CxH g cc nL own) {Cn : String} {mi index : Nat} (hM : va_Mi Cn mi (gs g)) (hq : Cond.classLink own index Cn ∈ lw_all) (dg : decode cc pc = .ok (.ldc index, 2)) (kk : GJ g nL (CP w I R K nx H0) cu Q (pc + 2) lc (rv (mi + 1) :: rest)) : GJ g nL (CP w I R K nx H0) cu Q pc lc rest :=
  fun H locs ls hP hl => va_ldcM C.1 C.2.1 C.2.2.2.1 (C.2.2.2.2 _ hq) hM dg (kk H locs ls hP hl)
end CST
