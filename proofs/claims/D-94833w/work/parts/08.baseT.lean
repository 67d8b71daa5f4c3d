/-! THE REFERENCE's MEMORY: J 0 k is its int field at slot k, J k the array that its field at slot k holds (k > 0), lw its one long; the arrays lie behind the object, by rank -/
abbrev TD : Type := ClassId × (Nat → Nat) × ClassId
def tTab : List Nat := [0, 0, 0, 0, 0, 1, 2, 3, 4, 5, 6, 7, 8, 0, 0, 0, 9, 0, 0, 0, 0, 0, 0, 0, 0, 0, 0, 0, 0, 10, 11, 12, 13, 14, 15, 16, 0, 17, 18, 19, 0, 0, 20, 21, 22, 0, 23, 24, 25, 26, 27, 28, 0, 29, 30, 31, 0, 32, 33, 0, 0, 34, 0, 0, 35, 36, 37, 38, 39]
def tLen : List Nat := [0, 0, 0, 0, 0, 8, 8, 6, 12, 3, 4, 144, 700, 0, 0, 0, 3, 0, 0, 0, 0, 0, 0, 0, 0, 0, 0, 0, 0, 8, 8, 6, 12, 3, 4, 144, 0, 36, 144, 72, 0, 0, 8, 6, 24000, 0, 8, 8, 48, 6, 6, 6, 0, 3, 3, 8, 0, 6, 6, 0, 0, 256, 0, 0, 3, 36, 8, 144, 72]
def trk (k : Nat) : Nat := tTab.getD k 0
def tln (k : Nat) : Nat := tLen.getD k 0
/-- the number of the reference to the array of the field at slot k -/
def ta (t k : Nat) : Nat := t + trk k + 1
def u2 {α : Type} (f : Nat → Nat → α) (a k : Nat) (v : α) : Nat → Nat → α := fun b j => if b = a ∧ j = k then v else f b j
def tv (t : Nat) (J : Nat → Nat → Int32) (lw : Int64) (k : Nat) : Value := if trk k ≠ 0 then .ref (t + trk k) else if k = 23 then .long lw else .int (J 0 k)
def RepT (d : TD) (t : Nat) (J : Nat → Nat → Int32) (lw : Int64) (H : Heap) : Prop :=
  t_OB t d.1 69 d.2.1 H (tv t J lw) ∧ ∀ k, trk k ≠ 0 → H[t + trk k]? = some (arrV d.2.2 (tln k) (fun j => .int (J k j)))
/-- what the tables say of the reference's class and of int arrays -/
def WT (d : TD) (U : State) : Prop := u_Kn U RX3 TX3 69 d.1 d.2.1 ∧ ArrOfT U d.2.2 .int
theorem WT.moved {d : TD} {u U : State} (hvm : u.vm.Alike U.vm) (h : WT d u) : WT d U := ⟨u_Kn_moved hvm h.1, arrOfT_moved hvm h.2⟩
def At_ (t : Nat) : Nat → Prop := fun q => t ≤ q ∧ q < t + 40
def TP (d : TD) (t : Nat) (J : Nat → Nat → Int32) (lw : Int64) (H0 : Heap) : Heap → List Loc → Prop := fun H locs => RepT d t J lw H ∧ H.size = H0.size ∧ va_S (At_ t) H0 H locs
theorem trk_le : ∀ k, k < 69 → trk k ≤ 39 := by decide +kernel
theorem trk_lt {k : Nat} (h : trk k ≠ 0) : k < 69 := by
  rcases Nat.lt_or_ge k 69 with q | q
  · exact q
  · exact absurd (by unfold trk; rw [List.getD_eq_getElem?_getD, List.getElem?_eq_none (by show 69 ≤ k; exact q)]; rfl) h
theorem trk_inj0 : ∀ a, a < 69 → ∀ b, b < 69 → trk a ≠ 0 → trk a = trk b → a = b := by decide +kernel
theorem trk_inj {a b : Nat} (h : trk a ≠ 0) (e : trk a = trk b) : a = b := trk_inj0 a (trk_lt h) b (trk_lt (by rw [← e]; exact h)) h e
theorem trk_0 : trk 0 = 0 := by decide
theorem trk_23 : trk 23 = 0 := by decide
theorem at_obj (t : Nat) : At_ t t := ⟨Nat.le_refl _, by omega⟩
theorem at_arr {t k : Nat} (h : trk k ≠ 0) : At_ t (t + trk k) := ⟨Nat.le_add_right _ _, by have := trk_le k (trk_lt h); omega⟩
section TROWS
variable {g : Gm} {cc : ByteArray} {nL : Nat} {cu : Nat} {Q : State → Prop} {pc : Nat} {lc : List (Nat × Value)} {rest : List Value} {d : TD} {t : Nat} {J : Nat → Nat → Int32} {lw : Int64} {H0 : Heap} {own : String}
/-- a field of the reference, any -/
theorem gt_get (C : CxH g cc nL RX3) (hW : WT d (gs g)) (k : Nat) (hk : k < 69) {index : Nat} {v : Value} (hq : Cond.fieldLink RX3 index (TX3 k).1 (TX3 k).2.1 (TX3 k).2.2.1 ∈ lw_all) (hv : tv t J lw k = v) (dg : decode cc pc = .ok (.getfield index, 3))
    (kk : GJ g nL (TP d t J lw H0) cu Q (pc + 3) lc (v :: rest)) : GJ g nL (TP d t J lw H0) cu Q pc lc (rv (t + 1) :: rest) := by
  intro H locs ls hP hl
  have h1 := kk H locs ls hP hl
  obtain ⟨⟨⟨cell, q1, q2, q3, q4⟩, -⟩, -⟩ := hP
  obtain ⟨hS, hfc, kC, hkC, hkind⟩ := hW.1
  obtain ⟨cf, kf, fi, f, hi, hsl⟩ := hS k hk
  refine W.getf C.1 C.2.1 C.2.2.2.1 (C.2.2.2.2 _ hq) hi (u_facts hfc hkC (u_lays C.2.2.2.2 in_X3 hk) hi).1 q1 (by rw [q3]; exact fun h => by cases h) (v := v) ?_ rfl rfl dg h1
  rw [hsl, q4 k hk, hv]
theorem gt_apart (C : CxH g cc nL RX3) (hW : WT d (gs g)) : ∀ x y, x < 69 → y < 69 → x ≠ y → d.2.1 x ≠ d.2.1 y := by
  intro x y hx hy hne
  obtain ⟨hS, -⟩ := hW.1
  obtain ⟨_, _, _, fa, hia, ea⟩ := hS x hx
  obtain ⟨_, _, _, fb, hib, eb⟩ := hS y hy
  rw [← ea, ← eb]
  refine u_apart (u_lays C.2.2.2.2 in_X3 hx) (u_lays C.2.2.2.2 in_X3 hy) hia hib ?_
  rw [(State.fieldFound?_type hia (tyX3_ok x hx)).1, (State.fieldFound?_type hib (tyX3_ok y hy)).1]
  exact nmX3 x hx y hy hne
/-- a put in the reference's object: J' and lw' are the new picture -/
theorem gt_putk (C : CxH g cc nL RX3) (hW : WT d (gs g)) (k : Nat) (hk : k < 69) {index : Nat} {v : Value} {ty : FieldType} {J' : Nat → Nat → Int32} {lw' : Int64} (hq : Cond.fieldLink RX3 index (TX3 k).1 (TX3 k).2.1 (TX3 k).2.2.1 ∈ lw_all) (hfin : (TX3 k).2.2.2 = false) (hty : tyX3 k = ty) (hn : narrow ty v = v) (hfit : fits ty v = true)
    (hv : ∀ j, j < 69 → updV (tv t J lw) k v j = tv t J' lw' j) (hr : ∀ j, trk j ≠ 0 → ∀ i, J' j i = J j i) (dg : decode cc pc = .ok (.putfield index, 3))
    (kk : GJ g nL (TP d t J' lw' H0) cu Q (pc + 3) lc rest) : GJ g nL (TP d t J lw H0) cu Q pc lc (v :: rv (t + 1) :: rest) := by
  subst hty
  intro H locs ls hP hl
  obtain ⟨⟨⟨cell, q1, q2, q3, q4⟩, hA⟩, hz, hS0⟩ := hP
  have hap := gt_apart C hW
  obtain ⟨hS, hfc, kC, hkC, hkind⟩ := hW.1
  obtain ⟨cf, kf, fi, f, hi, hsl⟩ := hS k hk
  have hlay := C.2.2.2.2 _ (in_X3 _ (u_in_lay hk))
  unfold u_lay at hlay
  rw [if_neg (by rw [hfin]; decide)] at hlay
  have hst := (u_facts hfc hkC (u_lays C.2.2.2.2 in_X3 hk) hi).1
  have h6 := u_store hfc hkC hkind hlay hi (tyX3_ok k hk) hn hfit
  refine W.putK C.1 C.2.1 (f := f) ⟨C.2.2.2.1, C.2.2.2.2 _ hq, ⟨_, _, _, hi⟩, hst⟩ (by rw [q2]; exact h6) q1 q3 (by rw [hsl]; exact k2_hasslot (q4 k hk)) rfl rfl dg fun H' e1 e2 e3 => ?_
  rw [hsl] at e1 ⊢
  refine kk H' _ ls ⟨⟨t_OB.to (V := updV (tv t J lw) k v) ⟨_, e1, q2, q3, t_set q4 hap hk v⟩ hv, fun j hj => ?_⟩, e2.trans hz, hS0.put e2 e3 (at_obj t)⟩ hl
  rw [e3 (t + trk j) (show (t + trk j : Nat) ≠ t from by have := Nat.pos_of_ne_zero hj; omega), hA j hj]
  congr 2
  funext i
  rw [hr j hj i]
theorem gt_puti (C : CxH g cc nL RX3) (hW : WT d (gs g)) (k : Nat) (hk : k < 69) (h0 : trk k = 0) (h23 : k ≠ 23) {index : Nat} {x : Int32} (hq : Cond.fieldLink RX3 index (TX3 k).1 (TX3 k).2.1 (TX3 k).2.2.1 ∈ lw_all) (hfin : (TX3 k).2.2.2 = false) (hty : tyX3 k = .int) (dg : decode cc pc = .ok (.putfield index, 3))
    (kk : GJ g nL (TP d t (u2 J 0 k x) lw H0) cu Q (pc + 3) lc rest) : GJ g nL (TP d t J lw H0) cu Q pc lc (.int x :: rv (t + 1) :: rest) := by
  refine gt_putk C hW k hk hq hfin hty rfl rfl (fun j hj => ?_) (fun j hj i => ?_) dg kk
  · unfold updV tv u2
    by_cases e : j = k
    · subst e; simp [h0, h23]
    · rw [if_neg e, if_neg (fun (q : 0 = 0 ∧ j = k) => e q.2)]
  · unfold u2
    rw [if_neg (by rintro ⟨rfl, -⟩; exact hj trk_0)]
theorem gt_putz (C : CxH g cc nL RX3) (hW : WT d (gs g)) (k : Nat) (hk : k < 69) (h0 : trk k = 0) (h23 : k ≠ 23) {index : Nat} {x : Int32} (hx : x = 0 ∨ x = 1) (hq : Cond.fieldLink RX3 index (TX3 k).1 (TX3 k).2.1 (TX3 k).2.2.1 ∈ lw_all) (hfin : (TX3 k).2.2.2 = false) (hty : tyX3 k = .boolean) (dg : decode cc pc = .ok (.putfield index, 3))
    (kk : GJ g nL (TP d t (u2 J 0 k x) lw H0) cu Q (pc + 3) lc rest) : GJ g nL (TP d t J lw H0) cu Q pc lc (.int x :: rv (t + 1) :: rest) := by
  refine gt_putk C hW k hk hq hfin hty (by rcases hx with rfl | rfl <;> rfl) (by rcases hx with rfl | rfl <;> rfl) (fun j hj => ?_) (fun j hj i => ?_) dg kk
  · unfold updV tv u2
    by_cases e : j = k
    · subst e; simp [h0, h23]
    · rw [if_neg e, if_neg (fun (q : 0 = 0 ∧ j = k) => e q.2)]
  · unfold u2
    rw [if_neg (by rintro ⟨rfl, -⟩; exact hj trk_0)]
theorem gt_iald (C : CxH g cc nL own) (hW : WT d (gs g)) {k : Nat} (hk : trk k ≠ 0) {i : Int32} (hin : vp_in i (tln k)) (dg : decode cc pc = .ok (.iaload, 1))
    (kk : GJ g nL (TP d t J lw H0) cu Q (pc + 1) lc (.int (J k i.toNatClampNeg) :: rest)) : GJ g nL (TP d t J lw H0) cu Q pc lc (.int i :: rv (ta t k) :: rest) := by
  intro H locs ls hP hl
  have h1 := kk H locs ls hP hl
  have hlt : i.toNatClampNeg < tln k := Nat.not_le.mp fun q => hin (Or.inr q)
  exact W.iald (v := .int (J k i.toNatClampNeg)) C.1 C.2.1 (hP.1.2 k hk) (hW.2 (tln k) (fun j => .int (J k j))) (fun q => by cases q) (by show ¬ (i < 0 ∨ (arrV _ _ _).slots.size ≤ _); rw [arrV_size]; exact hin) (by show (arrV _ _ _).slots[_]? = _; rw [arrV_read _ _ hlt]) rfl rfl dg h1
theorem gt_alen (C : CxH g cc nL own) (hW : WT d (gs g)) {k : Nat} (hk : trk k ≠ 0) (dg : decode cc pc = .ok (.arraylength, 1))
    (kk : GJ g nL (TP d t J lw H0) cu Q (pc + 1) lc (.int (nI (tln k)) :: rest)) : GJ g nL (TP d t J lw H0) cu Q pc lc (rv (ta t k) :: rest) := by
  intro H locs ls hP hl
  have h1 := kk H locs ls hP hl
  exact W.alen (n := nI (tln k)) C.1 C.2.1 (hP.1.2 k hk) (hW.2 (tln k) (fun j => .int (J k j))) (by rw [arrV_size] <;> rfl) rfl rfl dg h1
theorem gt_iast (C : CxH g cc nL own) (hW : WT d (gs g)) {k : Nat} (hk : trk k ≠ 0) {i x : Int32} (hin : vp_in i (tln k)) (dg : decode cc pc = .ok (.iastore, 1))
    (kk : GJ g nL (TP d t (u2 J k i.toNatClampNeg x) lw H0) cu Q (pc + 1) lc rest) : GJ g nL (TP d t J lw H0) cu Q pc lc (.int x :: .int i :: rv (ta t k) :: rest) := by
  intro H locs ls hP hl
  obtain ⟨⟨hO, hA⟩, hz, hS0⟩ := hP
  refine W.iast (a := t + trk k) C.1 C.2.1 (hA k hk) (hW.2 (tln k) (fun j => .int (J k j))) (fun q => by cases q) (by show ¬ (i < 0 ∨ (arrV _ _ _).slots.size ≤ _); rw [arrV_size]; exact hin) rfl rfl dg fun H1 e z oq => ?_
  have hne0 : k ≠ 0 := by rintro rfl; exact hk trk_0
  refine kk H1 _ ls ⟨⟨t_OB.to (hO.kept (oq t (show (t : Nat) ≠ t + trk k from by have := Nat.pos_of_ne_zero hk; omega))) (fun j hj => ?_), fun j hj => ?_⟩, z.trans hz, hS0.put z oq (at_arr hk)⟩ hl
  · unfold tv u2
    rw [if_neg (fun (q : 0 = k ∧ _) => hne0 q.1.symm)]
  · by_cases hjk : j = k
    · subst hjk
      rw [e, arrV_store]
      congr 2
      funext q
      by_cases hq : q = i.toNatClampNeg
      · subst hq; simp [updV, u2]
      · simp [updV, u2, hq]
    · rw [oq (t + trk j) (fun (q : (t + trk j : Nat) = t + trk k) => hjk (trk_inj hj (by omega))), hA j hj]
      congr 2
      funext q
      simp [u2, hjk]

theorem tg7 (C : CxH g cc nL RX3) (hW : WT d (gs g)) (dg : decode cc pc = .ok (.getfield 7, 3)) (kk : GJ g nL (TP d t J lw H0) cu Q (pc + 3) lc (rv (ta t 5) :: rest)) : GJ g nL (TP d t J lw H0) cu Q pc lc (rv (t + 1) :: rest) := gt_get C hW 5 (by decide) q1202 rfl dg kk
theorem tg13 (C : CxH g cc nL RX3) (hW : WT d (gs g)) (dg : decode cc pc = .ok (.getfield 13, 3)) (kk : GJ g nL (TP d t J lw H0) cu Q (pc + 3) lc (rv (ta t 6) :: rest)) : GJ g nL (TP d t J lw H0) cu Q pc lc (rv (t + 1) :: rest) := gt_get C hW 6 (by decide) q1203 rfl dg kk
theorem tg16 (C : CxH g cc nL RX3) (hW : WT d (gs g)) (dg : decode cc pc = .ok (.getfield 16, 3)) (kk : GJ g nL (TP d t J lw H0) cu Q (pc + 3) lc (rv (ta t 7) :: rest)) : GJ g nL (TP d t J lw H0) cu Q pc lc (rv (t + 1) :: rest) := gt_get C hW 7 (by decide) q1204 rfl dg kk
theorem tg19 (C : CxH g cc nL RX3) (hW : WT d (gs g)) (dg : decode cc pc = .ok (.getfield 19, 3)) (kk : GJ g nL (TP d t J lw H0) cu Q (pc + 3) lc (rv (ta t 8) :: rest)) : GJ g nL (TP d t J lw H0) cu Q pc lc (rv (t + 1) :: rest) := gt_get C hW 8 (by decide) q1205 rfl dg kk
theorem tg22 (C : CxH g cc nL RX3) (hW : WT d (gs g)) (dg : decode cc pc = .ok (.getfield 22, 3)) (kk : GJ g nL (TP d t J lw H0) cu Q (pc + 3) lc (rv (ta t 9) :: rest)) : GJ g nL (TP d t J lw H0) cu Q pc lc (rv (t + 1) :: rest) := gt_get C hW 9 (by decide) q1206 rfl dg kk
theorem tg25 (C : CxH g cc nL RX3) (hW : WT d (gs g)) (dg : decode cc pc = .ok (.getfield 25, 3)) (kk : GJ g nL (TP d t J lw H0) cu Q (pc + 3) lc (rv (ta t 10) :: rest)) : GJ g nL (TP d t J lw H0) cu Q pc lc (rv (t + 1) :: rest) := gt_get C hW 10 (by decide) q1207 rfl dg kk
theorem tg28 (C : CxH g cc nL RX3) (hW : WT d (gs g)) (dg : decode cc pc = .ok (.getfield 28, 3)) (kk : GJ g nL (TP d t J lw H0) cu Q (pc + 3) lc (rv (ta t 11) :: rest)) : GJ g nL (TP d t J lw H0) cu Q pc lc (rv (t + 1) :: rest) := gt_get C hW 11 (by decide) q1208 rfl dg kk
theorem tg31 (C : CxH g cc nL RX3) (hW : WT d (gs g)) (dg : decode cc pc = .ok (.getfield 31, 3)) (kk : GJ g nL (TP d t J lw H0) cu Q (pc + 3) lc (rv (ta t 12) :: rest)) : GJ g nL (TP d t J lw H0) cu Q pc lc (rv (t + 1) :: rest) := gt_get C hW 12 (by decide) q1209 rfl dg kk
theorem tg34 (C : CxH g cc nL RX3) (hW : WT d (gs g)) (dg : decode cc pc = .ok (.getfield 34, 3)) (kk : GJ g nL (TP d t J lw H0) cu Q (pc + 3) lc (.int (J 0 15) :: rest)) : GJ g nL (TP d t J lw H0) cu Q pc lc (rv (t + 1) :: rest) := gt_get C hW 15 (by decide) q1212 rfl dg kk
theorem tp34 (C : CxH g cc nL RX3) (hW : WT d (gs g)) {x : Int32} (dg : decode cc pc = .ok (.putfield 34, 3)) (kk : GJ g nL (TP d t (u2 J 0 15 x) lw H0) cu Q (pc + 3) lc rest) : GJ g nL (TP d t J lw H0) cu Q pc lc (.int x :: rv (t + 1) :: rest) := gt_puti C hW 15 (by decide) rfl (by decide) q1212 rfl rfl dg kk
theorem tg38 (C : CxH g cc nL RX3) (hW : WT d (gs g)) (dg : decode cc pc = .ok (.getfield 38, 3)) (kk : GJ g nL (TP d t J lw H0) cu Q (pc + 3) lc (rv (ta t 16) :: rest)) : GJ g nL (TP d t J lw H0) cu Q pc lc (rv (t + 1) :: rest) := gt_get C hW 16 (by decide) q1213 rfl dg kk
theorem tg41 (C : CxH g cc nL RX3) (hW : WT d (gs g)) (dg : decode cc pc = .ok (.getfield 41, 3)) (kk : GJ g nL (TP d t J lw H0) cu Q (pc + 3) lc (rv (ta t 29) :: rest)) : GJ g nL (TP d t J lw H0) cu Q pc lc (rv (t + 1) :: rest) := gt_get C hW 29 (by decide) q1226 rfl dg kk
theorem tg44 (C : CxH g cc nL RX3) (hW : WT d (gs g)) (dg : decode cc pc = .ok (.getfield 44, 3)) (kk : GJ g nL (TP d t J lw H0) cu Q (pc + 3) lc (rv (ta t 30) :: rest)) : GJ g nL (TP d t J lw H0) cu Q pc lc (rv (t + 1) :: rest) := gt_get C hW 30 (by decide) q1227 rfl dg kk
theorem tg47 (C : CxH g cc nL RX3) (hW : WT d (gs g)) (dg : decode cc pc = .ok (.getfield 47, 3)) (kk : GJ g nL (TP d t J lw H0) cu Q (pc + 3) lc (rv (ta t 31) :: rest)) : GJ g nL (TP d t J lw H0) cu Q pc lc (rv (t + 1) :: rest) := gt_get C hW 31 (by decide) q1228 rfl dg kk
theorem tg50 (C : CxH g cc nL RX3) (hW : WT d (gs g)) (dg : decode cc pc = .ok (.getfield 50, 3)) (kk : GJ g nL (TP d t J lw H0) cu Q (pc + 3) lc (rv (ta t 32) :: rest)) : GJ g nL (TP d t J lw H0) cu Q pc lc (rv (t + 1) :: rest) := gt_get C hW 32 (by decide) q1229 rfl dg kk
theorem tg53 (C : CxH g cc nL RX3) (hW : WT d (gs g)) (dg : decode cc pc = .ok (.getfield 53, 3)) (kk : GJ g nL (TP d t J lw H0) cu Q (pc + 3) lc (rv (ta t 33) :: rest)) : GJ g nL (TP d t J lw H0) cu Q pc lc (rv (t + 1) :: rest) := gt_get C hW 33 (by decide) q1230 rfl dg kk
theorem tg56 (C : CxH g cc nL RX3) (hW : WT d (gs g)) (dg : decode cc pc = .ok (.getfield 56, 3)) (kk : GJ g nL (TP d t J lw H0) cu Q (pc + 3) lc (rv (ta t 34) :: rest)) : GJ g nL (TP d t J lw H0) cu Q pc lc (rv (t + 1) :: rest) := gt_get C hW 34 (by decide) q1231 rfl dg kk
theorem tg59 (C : CxH g cc nL RX3) (hW : WT d (gs g)) (dg : decode cc pc = .ok (.getfield 59, 3)) (kk : GJ g nL (TP d t J lw H0) cu Q (pc + 3) lc (rv (ta t 35) :: rest)) : GJ g nL (TP d t J lw H0) cu Q pc lc (rv (t + 1) :: rest) := gt_get C hW 35 (by decide) q1232 rfl dg kk
theorem tg62 (C : CxH g cc nL RX3) (hW : WT d (gs g)) (dg : decode cc pc = .ok (.getfield 62, 3)) (kk : GJ g nL (TP d t J lw H0) cu Q (pc + 3) lc (rv (ta t 37) :: rest)) : GJ g nL (TP d t J lw H0) cu Q pc lc (rv (t + 1) :: rest) := gt_get C hW 37 (by decide) q1234 rfl dg kk
theorem tg65 (C : CxH g cc nL RX3) (hW : WT d (gs g)) (dg : decode cc pc = .ok (.getfield 65, 3)) (kk : GJ g nL (TP d t J lw H0) cu Q (pc + 3) lc (rv (ta t 38) :: rest)) : GJ g nL (TP d t J lw H0) cu Q pc lc (rv (t + 1) :: rest) := gt_get C hW 38 (by decide) q1235 rfl dg kk
theorem tg68 (C : CxH g cc nL RX3) (hW : WT d (gs g)) (dg : decode cc pc = .ok (.getfield 68, 3)) (kk : GJ g nL (TP d t J lw H0) cu Q (pc + 3) lc (rv (ta t 39) :: rest)) : GJ g nL (TP d t J lw H0) cu Q pc lc (rv (t + 1) :: rest) := gt_get C hW 39 (by decide) q1236 rfl dg kk
theorem tg71 (C : CxH g cc nL RX3) (hW : WT d (gs g)) (dg : decode cc pc = .ok (.getfield 71, 3)) (kk : GJ g nL (TP d t J lw H0) cu Q (pc + 3) lc (.int (J 0 40) :: rest)) : GJ g nL (TP d t J lw H0) cu Q pc lc (rv (t + 1) :: rest) := gt_get C hW 40 (by decide) q1237 rfl dg kk
theorem tp71 (C : CxH g cc nL RX3) (hW : WT d (gs g)) {x : Int32} (dg : decode cc pc = .ok (.putfield 71, 3)) (kk : GJ g nL (TP d t (u2 J 0 40 x) lw H0) cu Q (pc + 3) lc rest) : GJ g nL (TP d t J lw H0) cu Q pc lc (.int x :: rv (t + 1) :: rest) := gt_puti C hW 40 (by decide) rfl (by decide) q1237 rfl rfl dg kk
theorem tg74 (C : CxH g cc nL RX3) (hW : WT d (gs g)) (dg : decode cc pc = .ok (.getfield 74, 3)) (kk : GJ g nL (TP d t J lw H0) cu Q (pc + 3) lc (rv (ta t 42) :: rest)) : GJ g nL (TP d t J lw H0) cu Q pc lc (rv (t + 1) :: rest) := gt_get C hW 42 (by decide) q1239 rfl dg kk
theorem tg77 (C : CxH g cc nL RX3) (hW : WT d (gs g)) (dg : decode cc pc = .ok (.getfield 77, 3)) (kk : GJ g nL (TP d t J lw H0) cu Q (pc + 3) lc (rv (ta t 43) :: rest)) : GJ g nL (TP d t J lw H0) cu Q pc lc (rv (t + 1) :: rest) := gt_get C hW 43 (by decide) q1240 rfl dg kk
theorem tg80 (C : CxH g cc nL RX3) (hW : WT d (gs g)) (dg : decode cc pc = .ok (.getfield 80, 3)) (kk : GJ g nL (TP d t J lw H0) cu Q (pc + 3) lc (rv (ta t 44) :: rest)) : GJ g nL (TP d t J lw H0) cu Q pc lc (rv (t + 1) :: rest) := gt_get C hW 44 (by decide) q1241 rfl dg kk
theorem tg83 (C : CxH g cc nL RX3) (hW : WT d (gs g)) (dg : decode cc pc = .ok (.getfield 83, 3)) (kk : GJ g nL (TP d t J lw H0) cu Q (pc + 3) lc (rv (ta t 46) :: rest)) : GJ g nL (TP d t J lw H0) cu Q pc lc (rv (t + 1) :: rest) := gt_get C hW 46 (by decide) q1243 rfl dg kk
theorem tg86 (C : CxH g cc nL RX3) (hW : WT d (gs g)) (dg : decode cc pc = .ok (.getfield 86, 3)) (kk : GJ g nL (TP d t J lw H0) cu Q (pc + 3) lc (rv (ta t 47) :: rest)) : GJ g nL (TP d t J lw H0) cu Q pc lc (rv (t + 1) :: rest) := gt_get C hW 47 (by decide) q1244 rfl dg kk
theorem tg89 (C : CxH g cc nL RX3) (hW : WT d (gs g)) (dg : decode cc pc = .ok (.getfield 89, 3)) (kk : GJ g nL (TP d t J lw H0) cu Q (pc + 3) lc (rv (ta t 48) :: rest)) : GJ g nL (TP d t J lw H0) cu Q pc lc (rv (t + 1) :: rest) := gt_get C hW 48 (by decide) q1245 rfl dg kk
theorem tg92 (C : CxH g cc nL RX3) (hW : WT d (gs g)) (dg : decode cc pc = .ok (.getfield 92, 3)) (kk : GJ g nL (TP d t J lw H0) cu Q (pc + 3) lc (rv (ta t 49) :: rest)) : GJ g nL (TP d t J lw H0) cu Q pc lc (rv (t + 1) :: rest) := gt_get C hW 49 (by decide) q1246 rfl dg kk
theorem tg95 (C : CxH g cc nL RX3) (hW : WT d (gs g)) (dg : decode cc pc = .ok (.getfield 95, 3)) (kk : GJ g nL (TP d t J lw H0) cu Q (pc + 3) lc (rv (ta t 50) :: rest)) : GJ g nL (TP d t J lw H0) cu Q pc lc (rv (t + 1) :: rest) := gt_get C hW 50 (by decide) q1247 rfl dg kk
theorem tg98 (C : CxH g cc nL RX3) (hW : WT d (gs g)) (dg : decode cc pc = .ok (.getfield 98, 3)) (kk : GJ g nL (TP d t J lw H0) cu Q (pc + 3) lc (rv (ta t 51) :: rest)) : GJ g nL (TP d t J lw H0) cu Q pc lc (rv (t + 1) :: rest) := gt_get C hW 51 (by decide) q1248 rfl dg kk
theorem tg101 (C : CxH g cc nL RX3) (hW : WT d (gs g)) (dg : decode cc pc = .ok (.getfield 101, 3)) (kk : GJ g nL (TP d t J lw H0) cu Q (pc + 3) lc (rv (ta t 53) :: rest)) : GJ g nL (TP d t J lw H0) cu Q pc lc (rv (t + 1) :: rest) := gt_get C hW 53 (by decide) q1250 rfl dg kk
theorem tg104 (C : CxH g cc nL RX3) (hW : WT d (gs g)) (dg : decode cc pc = .ok (.getfield 104, 3)) (kk : GJ g nL (TP d t J lw H0) cu Q (pc + 3) lc (rv (ta t 54) :: rest)) : GJ g nL (TP d t J lw H0) cu Q pc lc (rv (t + 1) :: rest) := gt_get C hW 54 (by decide) q1251 rfl dg kk
theorem tg107 (C : CxH g cc nL RX3) (hW : WT d (gs g)) (dg : decode cc pc = .ok (.getfield 107, 3)) (kk : GJ g nL (TP d t J lw H0) cu Q (pc + 3) lc (rv (ta t 55) :: rest)) : GJ g nL (TP d t J lw H0) cu Q pc lc (rv (t + 1) :: rest) := gt_get C hW 55 (by decide) q1252 rfl dg kk
theorem tg110 (C : CxH g cc nL RX3) (hW : WT d (gs g)) (dg : decode cc pc = .ok (.getfield 110, 3)) (kk : GJ g nL (TP d t J lw H0) cu Q (pc + 3) lc (rv (ta t 57) :: rest)) : GJ g nL (TP d t J lw H0) cu Q pc lc (rv (t + 1) :: rest) := gt_get C hW 57 (by decide) q1254 rfl dg kk
theorem tg113 (C : CxH g cc nL RX3) (hW : WT d (gs g)) (dg : decode cc pc = .ok (.getfield 113, 3)) (kk : GJ g nL (TP d t J lw H0) cu Q (pc + 3) lc (rv (ta t 58) :: rest)) : GJ g nL (TP d t J lw H0) cu Q pc lc (rv (t + 1) :: rest) := gt_get C hW 58 (by decide) q1255 rfl dg kk
theorem tg116 (C : CxH g cc nL RX3) (hW : WT d (gs g)) (dg : decode cc pc = .ok (.getfield 116, 3)) (kk : GJ g nL (TP d t J lw H0) cu Q (pc + 3) lc (rv (ta t 61) :: rest)) : GJ g nL (TP d t J lw H0) cu Q pc lc (rv (t + 1) :: rest) := gt_get C hW 61 (by decide) q1258 rfl dg kk
theorem tg119 (C : CxH g cc nL RX3) (hW : WT d (gs g)) (dg : decode cc pc = .ok (.getfield 119, 3)) (kk : GJ g nL (TP d t J lw H0) cu Q (pc + 3) lc (rv (ta t 64) :: rest)) : GJ g nL (TP d t J lw H0) cu Q pc lc (rv (t + 1) :: rest) := gt_get C hW 64 (by decide) q1261 rfl dg kk
theorem tg122 (C : CxH g cc nL RX3) (hW : WT d (gs g)) (dg : decode cc pc = .ok (.getfield 122, 3)) (kk : GJ g nL (TP d t J lw H0) cu Q (pc + 3) lc (rv (ta t 65) :: rest)) : GJ g nL (TP d t J lw H0) cu Q pc lc (rv (t + 1) :: rest) := gt_get C hW 65 (by decide) q1262 rfl dg kk
theorem tg125 (C : CxH g cc nL RX3) (hW : WT d (gs g)) (dg : decode cc pc = .ok (.getfield 125, 3)) (kk : GJ g nL (TP d t J lw H0) cu Q (pc + 3) lc (rv (ta t 66) :: rest)) : GJ g nL (TP d t J lw H0) cu Q pc lc (rv (t + 1) :: rest) := gt_get C hW 66 (by decide) q1263 rfl dg kk
theorem tg128 (C : CxH g cc nL RX3) (hW : WT d (gs g)) (dg : decode cc pc = .ok (.getfield 128, 3)) (kk : GJ g nL (TP d t J lw H0) cu Q (pc + 3) lc (rv (ta t 67) :: rest)) : GJ g nL (TP d t J lw H0) cu Q pc lc (rv (t + 1) :: rest) := gt_get C hW 67 (by decide) q1264 rfl dg kk
theorem tg131 (C : CxH g cc nL RX3) (hW : WT d (gs g)) (dg : decode cc pc = .ok (.getfield 131, 3)) (kk : GJ g nL (TP d t J lw H0) cu Q (pc + 3) lc (rv (ta t 68) :: rest)) : GJ g nL (TP d t J lw H0) cu Q pc lc (rv (t + 1) :: rest) := gt_get C hW 68 (by decide) q1265 rfl dg kk
theorem tg134 (C : CxH g cc nL RX3) (hW : WT d (gs g)) (dg : decode cc pc = .ok (.getfield 134, 3)) (kk : GJ g nL (TP d t J lw H0) cu Q (pc + 3) lc (.int (J 0 0) :: rest)) : GJ g nL (TP d t J lw H0) cu Q pc lc (rv (t + 1) :: rest) := gt_get C hW 0 (by decide) q1197 rfl dg kk
theorem tp134 (C : CxH g cc nL RX3) (hW : WT d (gs g)) {x : Int32} (dg : decode cc pc = .ok (.putfield 134, 3)) (kk : GJ g nL (TP d t (u2 J 0 0 x) lw H0) cu Q (pc + 3) lc rest) : GJ g nL (TP d t J lw H0) cu Q pc lc (.int x :: rv (t + 1) :: rest) := gt_puti C hW 0 (by decide) rfl (by decide) q1197 rfl rfl dg kk
theorem tg137 (C : CxH g cc nL RX3) (hW : WT d (gs g)) (dg : decode cc pc = .ok (.getfield 137, 3)) (kk : GJ g nL (TP d t J lw H0) cu Q (pc + 3) lc (.int (J 0 13) :: rest)) : GJ g nL (TP d t J lw H0) cu Q pc lc (rv (t + 1) :: rest) := gt_get C hW 13 (by decide) q1210 rfl dg kk
theorem tp137 (C : CxH g cc nL RX3) (hW : WT d (gs g)) {x : Int32} (dg : decode cc pc = .ok (.putfield 137, 3)) (kk : GJ g nL (TP d t (u2 J 0 13 x) lw H0) cu Q (pc + 3) lc rest) : GJ g nL (TP d t J lw H0) cu Q pc lc (.int x :: rv (t + 1) :: rest) := gt_puti C hW 13 (by decide) rfl (by decide) q1210 rfl rfl dg kk
theorem tg144 (C : CxH g cc nL RX3) (hW : WT d (gs g)) (dg : decode cc pc = .ok (.getfield 144, 3)) (kk : GJ g nL (TP d t J lw H0) cu Q (pc + 3) lc (.int (J 0 17) :: rest)) : GJ g nL (TP d t J lw H0) cu Q pc lc (rv (t + 1) :: rest) := gt_get C hW 17 (by decide) q1214 rfl dg kk
theorem tp144 (C : CxH g cc nL RX3) (hW : WT d (gs g)) {x : Int32} (dg : decode cc pc = .ok (.putfield 144, 3)) (kk : GJ g nL (TP d t (u2 J 0 17 x) lw H0) cu Q (pc + 3) lc rest) : GJ g nL (TP d t J lw H0) cu Q pc lc (.int x :: rv (t + 1) :: rest) := gt_puti C hW 17 (by decide) rfl (by decide) q1214 rfl rfl dg kk
theorem tg147 (C : CxH g cc nL RX3) (hW : WT d (gs g)) (dg : decode cc pc = .ok (.getfield 147, 3)) (kk : GJ g nL (TP d t J lw H0) cu Q (pc + 3) lc (.int (J 0 18) :: rest)) : GJ g nL (TP d t J lw H0) cu Q pc lc (rv (t + 1) :: rest) := gt_get C hW 18 (by decide) q1215 rfl dg kk
theorem tp147 (C : CxH g cc nL RX3) (hW : WT d (gs g)) {x : Int32} (dg : decode cc pc = .ok (.putfield 147, 3)) (kk : GJ g nL (TP d t (u2 J 0 18 x) lw H0) cu Q (pc + 3) lc rest) : GJ g nL (TP d t J lw H0) cu Q pc lc (.int x :: rv (t + 1) :: rest) := gt_puti C hW 18 (by decide) rfl (by decide) q1215 rfl rfl dg kk
theorem tg154 (C : CxH g cc nL RX3) (hW : WT d (gs g)) (dg : decode cc pc = .ok (.getfield 154, 3)) (kk : GJ g nL (TP d t J lw H0) cu Q (pc + 3) lc (.int (J 0 20) :: rest)) : GJ g nL (TP d t J lw H0) cu Q pc lc (rv (t + 1) :: rest) := gt_get C hW 20 (by decide) q1217 rfl dg kk
theorem tp154 (C : CxH g cc nL RX3) (hW : WT d (gs g)) {x : Int32} (dg : decode cc pc = .ok (.putfield 154, 3)) (kk : GJ g nL (TP d t (u2 J 0 20 x) lw H0) cu Q (pc + 3) lc rest) : GJ g nL (TP d t J lw H0) cu Q pc lc (.int x :: rv (t + 1) :: rest) := gt_puti C hW 20 (by decide) rfl (by decide) q1217 rfl rfl dg kk
theorem tg157 (C : CxH g cc nL RX3) (hW : WT d (gs g)) (dg : decode cc pc = .ok (.getfield 157, 3)) (kk : GJ g nL (TP d t J lw H0) cu Q (pc + 3) lc (.long lw :: rest)) : GJ g nL (TP d t J lw H0) cu Q pc lc (rv (t + 1) :: rest) := gt_get C hW 23 (by decide) q1220 rfl dg kk
theorem tp157 (C : CxH g cc nL RX3) (hW : WT d (gs g)) {x : Int64} (dg : decode cc pc = .ok (.putfield 157, 3)) (kk : GJ g nL (TP d t J x H0) cu Q (pc + 3) lc rest) : GJ g nL (TP d t J lw H0) cu Q pc lc (.long x :: rv (t + 1) :: rest) := by
  refine gt_putk C hW 23 (by decide) q1220 rfl rfl rfl rfl (fun j hj => ?_) (fun j hj i => rfl) dg kk
  unfold updV tv
  by_cases e : j = 23
  · subst e; simp [trk_23]
  · simp [e]
theorem tg161 (C : CxH g cc nL RX3) (hW : WT d (gs g)) (dg : decode cc pc = .ok (.getfield 161, 3)) (kk : GJ g nL (TP d t J lw H0) cu Q (pc + 3) lc (.int (J 0 22) :: rest)) : GJ g nL (TP d t J lw H0) cu Q pc lc (rv (t + 1) :: rest) := gt_get C hW 22 (by decide) q1219 rfl dg kk
theorem tp161 (C : CxH g cc nL RX3) (hW : WT d (gs g)) {x : Int32} (dg : decode cc pc = .ok (.putfield 161, 3)) (kk : GJ g nL (TP d t (u2 J 0 22 x) lw H0) cu Q (pc + 3) lc rest) : GJ g nL (TP d t J lw H0) cu Q pc lc (.int x :: rv (t + 1) :: rest) := gt_puti C hW 22 (by decide) rfl (by decide) q1219 rfl rfl dg kk
theorem tg164 (C : CxH g cc nL RX3) (hW : WT d (gs g)) (dg : decode cc pc = .ok (.getfield 164, 3)) (kk : GJ g nL (TP d t J lw H0) cu Q (pc + 3) lc (.int (J 0 19) :: rest)) : GJ g nL (TP d t J lw H0) cu Q pc lc (rv (t + 1) :: rest) := gt_get C hW 19 (by decide) q1216 rfl dg kk
theorem tp164 (C : CxH g cc nL RX3) (hW : WT d (gs g)) {x : Int32} (dg : decode cc pc = .ok (.putfield 164, 3)) (kk : GJ g nL (TP d t (u2 J 0 19 x) lw H0) cu Q (pc + 3) lc rest) : GJ g nL (TP d t J lw H0) cu Q pc lc (.int x :: rv (t + 1) :: rest) := gt_puti C hW 19 (by decide) rfl (by decide) q1216 rfl rfl dg kk
theorem tg174 (C : CxH g cc nL RX3) (hW : WT d (gs g)) (dg : decode cc pc = .ok (.getfield 174, 3)) (kk : GJ g nL (TP d t J lw H0) cu Q (pc + 3) lc (.int (J 0 21) :: rest)) : GJ g nL (TP d t J lw H0) cu Q pc lc (rv (t + 1) :: rest) := gt_get C hW 21 (by decide) q1218 rfl dg kk
theorem tp174 (C : CxH g cc nL RX3) (hW : WT d (gs g)) {x : Int32} (dg : decode cc pc = .ok (.putfield 174, 3)) (kk : GJ g nL (TP d t (u2 J 0 21 x) lw H0) cu Q (pc + 3) lc rest) : GJ g nL (TP d t J lw H0) cu Q pc lc (.int x :: rv (t + 1) :: rest) := gt_puti C hW 21 (by decide) rfl (by decide) q1218 rfl rfl dg kk
theorem tg187 (C : CxH g cc nL RX3) (hW : WT d (gs g)) (dg : decode cc pc = .ok (.getfield 187, 3)) (kk : GJ g nL (TP d t J lw H0) cu Q (pc + 3) lc (.int (J 0 14) :: rest)) : GJ g nL (TP d t J lw H0) cu Q pc lc (rv (t + 1) :: rest) := gt_get C hW 14 (by decide) q1211 rfl dg kk
theorem tp187 (C : CxH g cc nL RX3) (hW : WT d (gs g)) {x : Int32} (dg : decode cc pc = .ok (.putfield 187, 3)) (kk : GJ g nL (TP d t (u2 J 0 14 x) lw H0) cu Q (pc + 3) lc rest) : GJ g nL (TP d t J lw H0) cu Q pc lc (.int x :: rv (t + 1) :: rest) := gt_puti C hW 14 (by decide) rfl (by decide) q1211 rfl rfl dg kk
theorem tg206 (C : CxH g cc nL RX3) (hW : WT d (gs g)) (dg : decode cc pc = .ok (.getfield 206, 3)) (kk : GJ g nL (TP d t J lw H0) cu Q (pc + 3) lc (.int (J 0 25) :: rest)) : GJ g nL (TP d t J lw H0) cu Q pc lc (rv (t + 1) :: rest) := gt_get C hW 25 (by decide) q1222 rfl dg kk
theorem tp206 (C : CxH g cc nL RX3) (hW : WT d (gs g)) {x : Int32} (dg : decode cc pc = .ok (.putfield 206, 3)) (kk : GJ g nL (TP d t (u2 J 0 25 x) lw H0) cu Q (pc + 3) lc rest) : GJ g nL (TP d t J lw H0) cu Q pc lc (.int x :: rv (t + 1) :: rest) := gt_puti C hW 25 (by decide) rfl (by decide) q1222 rfl rfl dg kk
theorem tg209 (C : CxH g cc nL RX3) (hW : WT d (gs g)) (dg : decode cc pc = .ok (.getfield 209, 3)) (kk : GJ g nL (TP d t J lw H0) cu Q (pc + 3) lc (.int (J 0 24) :: rest)) : GJ g nL (TP d t J lw H0) cu Q pc lc (rv (t + 1) :: rest) := gt_get C hW 24 (by decide) q1221 rfl dg kk
theorem tp209 (C : CxH g cc nL RX3) (hW : WT d (gs g)) {x : Int32} (dg : decode cc pc = .ok (.putfield 209, 3)) (kk : GJ g nL (TP d t (u2 J 0 24 x) lw H0) cu Q (pc + 3) lc rest) : GJ g nL (TP d t J lw H0) cu Q pc lc (.int x :: rv (t + 1) :: rest) := gt_puti C hW 24 (by decide) rfl (by decide) q1221 rfl rfl dg kk
theorem tg212 (C : CxH g cc nL RX3) (hW : WT d (gs g)) (dg : decode cc pc = .ok (.getfield 212, 3)) (kk : GJ g nL (TP d t J lw H0) cu Q (pc + 3) lc (.int (J 0 27) :: rest)) : GJ g nL (TP d t J lw H0) cu Q pc lc (rv (t + 1) :: rest) := gt_get C hW 27 (by decide) q1224 rfl dg kk
theorem tp212 (C : CxH g cc nL RX3) (hW : WT d (gs g)) {x : Int32} (dg : decode cc pc = .ok (.putfield 212, 3)) (kk : GJ g nL (TP d t (u2 J 0 27 x) lw H0) cu Q (pc + 3) lc rest) : GJ g nL (TP d t J lw H0) cu Q pc lc (.int x :: rv (t + 1) :: rest) := gt_puti C hW 27 (by decide) rfl (by decide) q1224 rfl rfl dg kk
theorem tg232 (C : CxH g cc nL RX3) (hW : WT d (gs g)) (dg : decode cc pc = .ok (.getfield 232, 3)) (kk : GJ g nL (TP d t J lw H0) cu Q (pc + 3) lc (.int (J 0 26) :: rest)) : GJ g nL (TP d t J lw H0) cu Q pc lc (rv (t + 1) :: rest) := gt_get C hW 26 (by decide) q1223 rfl dg kk
theorem tp232 (C : CxH g cc nL RX3) (hW : WT d (gs g)) {x : Int32} (dg : decode cc pc = .ok (.putfield 232, 3)) (kk : GJ g nL (TP d t (u2 J 0 26 x) lw H0) cu Q (pc + 3) lc rest) : GJ g nL (TP d t J lw H0) cu Q pc lc (.int x :: rv (t + 1) :: rest) := gt_puti C hW 26 (by decide) rfl (by decide) q1223 rfl rfl dg kk
theorem tg238 (C : CxH g cc nL RX3) (hW : WT d (gs g)) (dg : decode cc pc = .ok (.getfield 238, 3)) (kk : GJ g nL (TP d t J lw H0) cu Q (pc + 3) lc (.int (J 0 28) :: rest)) : GJ g nL (TP d t J lw H0) cu Q pc lc (rv (t + 1) :: rest) := gt_get C hW 28 (by decide) q1225 rfl dg kk
theorem tp238 (C : CxH g cc nL RX3) (hW : WT d (gs g)) {x : Int32} (dg : decode cc pc = .ok (.putfield 238, 3)) (kk : GJ g nL (TP d t (u2 J 0 28 x) lw H0) cu Q (pc + 3) lc rest) : GJ g nL (TP d t J lw H0) cu Q pc lc (.int x :: rv (t + 1) :: rest) := gt_puti C hW 28 (by decide) rfl (by decide) q1225 rfl rfl dg kk
theorem tg248 (C : CxH g cc nL RX3) (hW : WT d (gs g)) (dg : decode cc pc = .ok (.getfield 248, 3)) (kk : GJ g nL (TP d t J lw H0) cu Q (pc + 3) lc (.int (J 0 1) :: rest)) : GJ g nL (TP d t J lw H0) cu Q pc lc (rv (t + 1) :: rest) := gt_get C hW 1 (by decide) q1198 rfl dg kk
theorem tp248 (C : CxH g cc nL RX3) (hW : WT d (gs g)) {x : Int32} (dg : decode cc pc = .ok (.putfield 248, 3)) (kk : GJ g nL (TP d t (u2 J 0 1 x) lw H0) cu Q (pc + 3) lc rest) : GJ g nL (TP d t J lw H0) cu Q pc lc (.int x :: rv (t + 1) :: rest) := gt_puti C hW 1 (by decide) rfl (by decide) q1198 rfl rfl dg kk
theorem tg251 (C : CxH g cc nL RX3) (hW : WT d (gs g)) (dg : decode cc pc = .ok (.getfield 251, 3)) (kk : GJ g nL (TP d t J lw H0) cu Q (pc + 3) lc (.int (J 0 2) :: rest)) : GJ g nL (TP d t J lw H0) cu Q pc lc (rv (t + 1) :: rest) := gt_get C hW 2 (by decide) q1199 rfl dg kk
theorem tp251 (C : CxH g cc nL RX3) (hW : WT d (gs g)) {x : Int32} (dg : decode cc pc = .ok (.putfield 251, 3)) (kk : GJ g nL (TP d t (u2 J 0 2 x) lw H0) cu Q (pc + 3) lc rest) : GJ g nL (TP d t J lw H0) cu Q pc lc (.int x :: rv (t + 1) :: rest) := gt_puti C hW 2 (by decide) rfl (by decide) q1199 rfl rfl dg kk
theorem tg254 (C : CxH g cc nL RX3) (hW : WT d (gs g)) (dg : decode cc pc = .ok (.getfield 254, 3)) (kk : GJ g nL (TP d t J lw H0) cu Q (pc + 3) lc (.int (J 0 3) :: rest)) : GJ g nL (TP d t J lw H0) cu Q pc lc (rv (t + 1) :: rest) := gt_get C hW 3 (by decide) q1200 rfl dg kk
theorem tp254 (C : CxH g cc nL RX3) (hW : WT d (gs g)) {x : Int32} (dg : decode cc pc = .ok (.putfield 254, 3)) (kk : GJ g nL (TP d t (u2 J 0 3 x) lw H0) cu Q (pc + 3) lc rest) : GJ g nL (TP d t J lw H0) cu Q pc lc (.int x :: rv (t + 1) :: rest) := gt_puti C hW 3 (by decide) rfl (by decide) q1200 rfl rfl dg kk
theorem tg257 (C : CxH g cc nL RX3) (hW : WT d (gs g)) (dg : decode cc pc = .ok (.getfield 257, 3)) (kk : GJ g nL (TP d t J lw H0) cu Q (pc + 3) lc (.int (J 0 4) :: rest)) : GJ g nL (TP d t J lw H0) cu Q pc lc (rv (t + 1) :: rest) := gt_get C hW 4 (by decide) q1201 rfl dg kk
theorem tp257 (C : CxH g cc nL RX3) (hW : WT d (gs g)) {x : Int32} (dg : decode cc pc = .ok (.putfield 257, 3)) (kk : GJ g nL (TP d t (u2 J 0 4 x) lw H0) cu Q (pc + 3) lc rest) : GJ g nL (TP d t J lw H0) cu Q pc lc (.int x :: rv (t + 1) :: rest) := gt_puti C hW 4 (by decide) rfl (by decide) q1201 rfl rfl dg kk
theorem tg264 (C : CxH g cc nL RX3) (hW : WT d (gs g)) (dg : decode cc pc = .ok (.getfield 264, 3)) (kk : GJ g nL (TP d t J lw H0) cu Q (pc + 3) lc (.int (J 0 36) :: rest)) : GJ g nL (TP d t J lw H0) cu Q pc lc (rv (t + 1) :: rest) := gt_get C hW 36 (by decide) q1233 rfl dg kk
theorem tp264 (C : CxH g cc nL RX3) (hW : WT d (gs g)) {x : Int32} (dg : decode cc pc = .ok (.putfield 264, 3)) (kk : GJ g nL (TP d t (u2 J 0 36 x) lw H0) cu Q (pc + 3) lc rest) : GJ g nL (TP d t J lw H0) cu Q pc lc (.int x :: rv (t + 1) :: rest) := gt_puti C hW 36 (by decide) rfl (by decide) q1233 rfl rfl dg kk
theorem tg267 (C : CxH g cc nL RX3) (hW : WT d (gs g)) (dg : decode cc pc = .ok (.getfield 267, 3)) (kk : GJ g nL (TP d t J lw H0) cu Q (pc + 3) lc (.int (J 0 41) :: rest)) : GJ g nL (TP d t J lw H0) cu Q pc lc (rv (t + 1) :: rest) := gt_get C hW 41 (by decide) q1238 rfl dg kk
theorem tp267 (C : CxH g cc nL RX3) (hW : WT d (gs g)) {x : Int32} (dg : decode cc pc = .ok (.putfield 267, 3)) (kk : GJ g nL (TP d t (u2 J 0 41 x) lw H0) cu Q (pc + 3) lc rest) : GJ g nL (TP d t J lw H0) cu Q pc lc (.int x :: rv (t + 1) :: rest) := gt_puti C hW 41 (by decide) rfl (by decide) q1238 rfl rfl dg kk
theorem tg270 (C : CxH g cc nL RX3) (hW : WT d (gs g)) (dg : decode cc pc = .ok (.getfield 270, 3)) (kk : GJ g nL (TP d t J lw H0) cu Q (pc + 3) lc (.int (J 0 52) :: rest)) : GJ g nL (TP d t J lw H0) cu Q pc lc (rv (t + 1) :: rest) := gt_get C hW 52 (by decide) q1249 rfl dg kk
theorem tp270 (C : CxH g cc nL RX3) (hW : WT d (gs g)) {x : Int32} (dg : decode cc pc = .ok (.putfield 270, 3)) (kk : GJ g nL (TP d t (u2 J 0 52 x) lw H0) cu Q (pc + 3) lc rest) : GJ g nL (TP d t J lw H0) cu Q pc lc (.int x :: rv (t + 1) :: rest) := gt_puti C hW 52 (by decide) rfl (by decide) q1249 rfl rfl dg kk
theorem tg273 (C : CxH g cc nL RX3) (hW : WT d (gs g)) (dg : decode cc pc = .ok (.getfield 273, 3)) (kk : GJ g nL (TP d t J lw H0) cu Q (pc + 3) lc (.int (J 0 56) :: rest)) : GJ g nL (TP d t J lw H0) cu Q pc lc (rv (t + 1) :: rest) := gt_get C hW 56 (by decide) q1253 rfl dg kk
theorem tp273 (C : CxH g cc nL RX3) (hW : WT d (gs g)) {x : Int32} (hx : x = 0 ∨ x = 1) (dg : decode cc pc = .ok (.putfield 273, 3)) (kk : GJ g nL (TP d t (u2 J 0 56 x) lw H0) cu Q (pc + 3) lc rest) : GJ g nL (TP d t J lw H0) cu Q pc lc (.int x :: rv (t + 1) :: rest) := gt_putz C hW 56 (by decide) rfl (by decide) hx q1253 rfl rfl dg kk
theorem tg277 (C : CxH g cc nL RX3) (hW : WT d (gs g)) (dg : decode cc pc = .ok (.getfield 277, 3)) (kk : GJ g nL (TP d t J lw H0) cu Q (pc + 3) lc (.int (J 0 63) :: rest)) : GJ g nL (TP d t J lw H0) cu Q pc lc (rv (t + 1) :: rest) := gt_get C hW 63 (by decide) q1260 rfl dg kk
theorem tp277 (C : CxH g cc nL RX3) (hW : WT d (gs g)) {x : Int32} (hx : x = 0 ∨ x = 1) (dg : decode cc pc = .ok (.putfield 277, 3)) (kk : GJ g nL (TP d t (u2 J 0 63 x) lw H0) cu Q (pc + 3) lc rest) : GJ g nL (TP d t J lw H0) cu Q pc lc (.int x :: rv (t + 1) :: rest) := gt_putz C hW 63 (by decide) rfl (by decide) hx q1260 rfl rfl dg kk
theorem tg331 (C : CxH g cc nL RX3) (hW : WT d (gs g)) (dg : decode cc pc = .ok (.getfield 331, 3)) (kk : GJ g nL (TP d t J lw H0) cu Q (pc + 3) lc (.int (J 0 45) :: rest)) : GJ g nL (TP d t J lw H0) cu Q pc lc (rv (t + 1) :: rest) := gt_get C hW 45 (by decide) q1242 rfl dg kk
theorem tp331 (C : CxH g cc nL RX3) (hW : WT d (gs g)) {x : Int32} (dg : decode cc pc = .ok (.putfield 331, 3)) (kk : GJ g nL (TP d t (u2 J 0 45 x) lw H0) cu Q (pc + 3) lc rest) : GJ g nL (TP d t J lw H0) cu Q pc lc (.int x :: rv (t + 1) :: rest) := gt_puti C hW 45 (by decide) rfl (by decide) q1242 rfl rfl dg kk
theorem tg389 (C : CxH g cc nL RX3) (hW : WT d (gs g)) (dg : decode cc pc = .ok (.getfield 389, 3)) (kk : GJ g nL (TP d t J lw H0) cu Q (pc + 3) lc (.int (J 0 59) :: rest)) : GJ g nL (TP d t J lw H0) cu Q pc lc (rv (t + 1) :: rest) := gt_get C hW 59 (by decide) q1256 rfl dg kk
theorem tp389 (C : CxH g cc nL RX3) (hW : WT d (gs g)) {x : Int32} (dg : decode cc pc = .ok (.putfield 389, 3)) (kk : GJ g nL (TP d t (u2 J 0 59 x) lw H0) cu Q (pc + 3) lc rest) : GJ g nL (TP d t J lw H0) cu Q pc lc (.int x :: rv (t + 1) :: rest) := gt_puti C hW 59 (by decide) rfl (by decide) q1256 rfl rfl dg kk
theorem tg392 (C : CxH g cc nL RX3) (hW : WT d (gs g)) (dg : decode cc pc = .ok (.getfield 392, 3)) (kk : GJ g nL (TP d t J lw H0) cu Q (pc + 3) lc (.int (J 0 60) :: rest)) : GJ g nL (TP d t J lw H0) cu Q pc lc (rv (t + 1) :: rest) := gt_get C hW 60 (by decide) q1257 rfl dg kk
theorem tp392 (C : CxH g cc nL RX3) (hW : WT d (gs g)) {x : Int32} (dg : decode cc pc = .ok (.putfield 392, 3)) (kk : GJ g nL (TP d t (u2 J 0 60 x) lw H0) cu Q (pc + 3) lc rest) : GJ g nL (TP d t J lw H0) cu Q pc lc (.int x :: rv (t + 1) :: rest) := gt_puti C hW 60 (by decide) rfl (by decide) q1257 rfl rfl dg kk
theorem tg407 (C : CxH g cc nL RX3) (hW : WT d (gs g)) (dg : decode cc pc = .ok (.getfield 407, 3)) (kk : GJ g nL (TP d t J lw H0) cu Q (pc + 3) lc (.int (J 0 62) :: rest)) : GJ g nL (TP d t J lw H0) cu Q pc lc (rv (t + 1) :: rest) := gt_get C hW 62 (by decide) q1259 rfl dg kk
theorem tp407 (C : CxH g cc nL RX3) (hW : WT d (gs g)) {x : Int32} (dg : decode cc pc = .ok (.putfield 407, 3)) (kk : GJ g nL (TP d t (u2 J 0 62 x) lw H0) cu Q (pc + 3) lc rest) : GJ g nL (TP d t J lw H0) cu Q pc lc (.int x :: rv (t + 1) :: rest) := gt_puti C hW 62 (by decide) rfl (by decide) q1259 rfl rfl dg kk
end TROWS
/-! T contracts -/
def QT (post : Option Value → (Nat → Nat → Int32) → Int64 → Prop) (d : TD) (t : Nat) : Array Value → State → Outcome → State → Prop := fun _ st oc tt =>
  (∃ v J lw, oc = .returned v ∧ post v J lw ∧ RepT d t J lw tt.heap) ∧ tt.heap.size = st.heap.size ∧ va_F (At_ t) st tt
abbrev tRm (fr lo : Nat) : Room := { frames := fr, cells := 0, slots := 0, locals := lo }
def PT (av : List Value) (d : TD) (t : Nat) (J : Nat → Nat → Int32) (lw : Int64) : Array Value → State → Prop := va_Pc av (fun U => RepT d t J lw U.heap ∧ WT d U)
def MetT (l : Launch) (y : MethodName) (cc : ByteArray) (nL : Nat) (ret : Option FieldType) (fr lo : Nat) (av : List Value) (d : TD) (t : Nat) (J : Nat → Nat → Int32) (lw : Int64) (post : Option Value → (Nat → Nat → Int32) → Int64 → Prop) : Prop :=
  Met l y (ws_ y cc nL ret) (tRm fr lo) (PT av d t J lw) (QT post d t) 0 0 (At_ t)
def TQ (g : Gm) (d : TD) (t : Nat) (post : Option Value → (Nat → Nat → Int32) → Int64 → Prop) : State → Prop := MQ (gb g) (QT post d t) (ga g) (gs g) 0 0 (At_ t)
/-- what a T method's body may use -/
def BdT (g : Gm) (d : TD) (cc : ByteArray) (nL : Nat) (ret : Option FieldType) (fr lo : Nat) : Prop := CxH g cc nL RX3 ∧ WT d (gs g) ∧ (gme g).sig.returnType = ret ∧ (gme g).locks = false ∧ fr ≤ (gR g).frames ∧ lo ≤ (gR g).locals
/-- answers: an int, a boolean, a long, nothing -/
def ansI (Φ : Int32 → (Nat → Nat → Int32) → Int64 → Prop) : Option Value → (Nat → Nat → Int32) → Int64 → Prop := fun v J lw => ∃ r, v = some (.int r) ∧ Φ r J lw
def ansZ (Φ : Int32 → (Nat → Nat → Int32) → Int64 → Prop) : Option Value → (Nat → Nat → Int32) → Int64 → Prop := fun v J lw => ∃ r, v = some (.int r) ∧ (r = 0 ∨ r = 1) ∧ Φ r J lw
def ansL (Φ : Int64 → (Nat → Nat → Int32) → Int64 → Prop) : Option Value → (Nat → Nat → Int32) → Int64 → Prop := fun v J lw => ∃ r, v = some (.long r) ∧ Φ r J lw
def ansV (Φ : (Nat → Nat → Int32) → Int64 → Prop) : Option Value → (Nat → Nat → Int32) → Int64 → Prop := fun v J lw => v = none ∧ Φ J lw
theorem mt_of {l : Launch} {y : MethodName} {cc : ByteArray} {nL : Nat} {ret : Option FieldType} {fr lo : Nat} {av : List Value} {d : TD} {t : Nat} {J : Nat → Nat → Int32} {lw : Int64} {post : Option Value → (Nat → Nat → Int32) → Int64 → Prop}
    (hy : plainName y.cls = true) (hc : y.cls = RX3) (hlen : (lg_sl av).length ≤ nL)
    (body : ∀ g : Gm, g.2.1 = l → BdT g d cc nL ret fr lo → GJ g nL (TP d t J lw (gs g).heap) 0 (TQ g d t post) 0 (lv_args 0 av) []) : MetT l y cc nL ret fr lo av d t J lw post := by
  refine Met.ofW (cc := cc) (maxL := nL) (ret := ret) hy rfl ?_
  intro p e s m args below meth c s₁ B hml hv
  obtain ⟨rfl, hP, hK⟩ := hv
  have hts := atoms_spec (ws := ws_ y cc nL ret) B.pre
  have hts : ∀ w ∈ lw_all, w.before _ s = true := fun w h => hts w (List.mem_cons_of_mem _ h)
  have hown : s.vm.findClass RX3 = some m.cls := by rw [← hc]; exact findClass_of_methodNamed B.named
  have h := body (p, l, e, (headSpec (ws_ y cc nL ret) (tRm fr lo)).room, s, m, av.toArray, below, meth, c) rfl ⟨⟨B.exec, B.bytes, hml, hown, hts⟩, hK, B.returns, B.notSynchronized, Nat.le_refl _, Nat.le_refl _⟩
  rw [lg_entry_eq]
  exact h s.heap [] _ ⟨hP, rfl, va_S.rf⟩ (lv_entry av hlen)
section TEND
variable {g : Gm} {cc : ByteArray} {nL : Nat} {own : String} {pc : Nat} {lc : List (Nat × Value)} {d : TD} {t : Nat} {J : Nat → Nat → Int32} {lw : Int64} {fr lo : Nat}
theorem gt_q {post : Option Value → (Nat → Nat → Int32) → Int64 → Prop} {v : Option Value} {H : Heap} {locs : List Loc} {s tt : State} (h : post v J lw) (hP : TP d t J lw s.heap H locs) (ht : tt.heap = H) (a : Array Value) : QT post d t a s (.returned v) tt :=
  ⟨⟨v, J, lw, rfl, h, by rw [ht]; exact hP.1⟩, by rw [ht]; exact hP.2.1, va_S.F hP.2.2 ht⟩
theorem gt_iret (B : BdT g d cc nL (some .int) fr lo) {Φ : Int32 → (Nat → Nat → Int32) → Int64 → Prop} {v : Int32} (hw : Φ v J lw) (dg : decode cc pc = .ok (.ireturn, 1)) : GJ g nL (TP d t J lw (gs g).heap) 0 (TQ g d t (ansI Φ)) pc lc [.int v] :=
  fun _ _ _ hP _ => W.iret B.1.1 B.1.2.1 B.2.2.1 (fun _ ht _ => gt_q ⟨v, rfl, hw⟩ hP ht _) hP.2.2.2.2 dg B.2.2.2.1
theorem gt_zret (B : BdT g d cc nL (some .boolean) fr lo) {Φ : Int32 → (Nat → Nat → Int32) → Int64 → Prop} {v : Int32} (hv : v = 0 ∨ v = 1) (hw : Φ v J lw) (dg : decode cc pc = .ok (.ireturn, 1)) : GJ g nL (TP d t J lw (gs g).heap) 0 (TQ g d t (ansZ Φ)) pc lc [.int v] :=
  fun _ _ _ hP _ => W.zret B.1.1 B.1.2.1 B.2.2.1 (by rcases hv with rfl | rfl <;> rfl) (fun _ ht _ => gt_q ⟨v, rfl, hv, hw⟩ hP ht _) hP.2.2.2.2 dg B.2.2.2.1
theorem gt_lret (B : BdT g d cc nL (some .long) fr lo) {Φ : Int64 → (Nat → Nat → Int32) → Int64 → Prop} {v : Int64} (hw : Φ v J lw) (dg : decode cc pc = .ok (.lreturn, 1)) : GJ g nL (TP d t J lw (gs g).heap) 0 (TQ g d t (ansL Φ)) pc lc [.long v] :=
  fun _ _ _ hP _ => W.lret B.1.1 B.1.2.1 B.2.2.1 (fun _ ht _ => gt_q ⟨v, rfl, hw⟩ hP ht _) hP.2.2.2.2 dg B.2.2.2.1
theorem gt_vret (B : BdT g d cc nL none fr lo) {Φ : (Nat → Nat → Int32) → Int64 → Prop} (hw : Φ J lw) (dg : decode cc pc = .ok (.return_, 1)) : GJ g nL (TP d t J lw (gs g).heap) 0 (TQ g d t (ansV Φ)) pc lc [] :=
  fun _ _ _ hP _ => W.vret B.1.1 B.1.2.1 B.2.2.1 (fun _ ht _ => gt_q ⟨rfl, hw⟩ hP ht _) hP.2.2.2.2 dg B.2.2.2.1
variable {cu : Nat} {Q : State → Prop} {rest : List Value} {H0 : Heap} {y : MethodName} {bytes : ByteArray} {maxL index n : Nat} {ret : Option FieldType} {fr2 lo2 : Nat} {As : List Value} {post : Option Value → (Nat → Nat → Int32) → Int64 → Prop}
theorem gt_pre {s : State} {H : Heap} {locs : List Loc} {H1 : Heap} (hW : WT d s) (hP : TP d t J lw H1 H locs) {av : List Value} : PreS s H (PT av d t J lw) av :=
  ⟨fun _ U _ _ q => ⟨q.1, q.2.1, q.2.2.moved (U := U.calling _ _ _) (Vm.Alike.refl U.vm)⟩, fun _ hU hWm => ⟨rfl, by rw [hU]; exact hP.1, hW.moved hWm.alike⟩⟩
theorem gt_after {s : State} {m : MethodId} {args : Array Value} {p : Program} {l : Launch} {e : Env} {R : Room} {below : List Frame} {meth : Method} {c : Code} {H : Heap} {locs : List Loc} {slots : Nat} {ls : Array Slot} {st0 : List Value} {a : Array Value} (hP : TP d t J lw H0 H locs)
    (hr : va_Run p l e R s m args below meth c H locs cu slots 0 0 (F0 m pc ls st0) rest (QT post d t a) (At_ t))
    (kk : ∀ (v : Option Value) J' lw' (H1 : Heap) (locs1 : List Loc), post v J' lw' → TP d t J' lw' H0 H1 locs1 → W p l e R s m args below meth c H1 locs1 cu slots Q (F0 m (pc + 3) ls (v.toList ++ rest))) : W p l e R s m args below meth c H locs cu slots Q (F0 m pc ls st0) := by
  intro T hT X
  obtain ⟨v, st₀, tt, T', L, h0, X', hL, e1, e2, ⟨⟨v', J', lw', hv, hp, hR⟩, hz, hF⟩, st⟩ := hr T hT X
  cases hv
  obtain ⟨-, -, k3⟩ := vx_keep (A1 := At_ t) (A0 := At_ t) (H0 := H0) (free := At_ t) h0 e1 hP.2.2 (fun _ _ q => q) (fun _ q => q) hL hF
  obtain ⟨t2, a1, b1⟩ := kk v J' lw' T'.heap (locs ++ L) hp ⟨by rw [e1]; exact hR, by rw [e1, hz, h0]; exact hP.2.1, k3⟩ T' rfl X'
  exact ⟨t2, st t2 a1, b1⟩
theorem gt_callV (B : BdT g d cc nL ret fr lo) {ret2 : Option FieldType} (hM : MetT g.2.1 y bytes maxL ret2 fr2 lo2 (.ref t :: As) d t J lw post) (hG : GoodIn lw_all (wsV RX3 index RX3 y (ws_ y bytes maxL ret2)))
    (hd : y.cls = RX3 ∧ y.cls ≠ "java/lang/invoke/MethodHandle" ∧ y.cls ≠ "java/lang/invoke/VarHandle" ∧ (parseMethodDescriptor y.desc).map (fun d => d.parameters.length) = some n) (hn : As.length = n)
    (hf : fr2 + 1 ≤ fr) (hlo : 8 + (maxL + 11) + lo2 ≤ lo) (hcu : cu ≤ (gR g).cells ∧ 24 * cu ≤ (gR g).slots) {stk : List Value} (hstk : stk = As.reverse ++ .ref t :: rest) (hrest : (rest.map fun v => v.category).sum ≤ 8) (dg : decode cc pc = .ok (.invokevirtual index, 3))
    (k : ∀ (v : Option Value) J' lw', post v J' lw' → GJ g nL (TP d t J' lw' H0) cu Q (pc + 3) lc (v.toList ++ rest)) : GJ g nL (TP d t J lw H0) cu Q pc lc stk := by
  subst hstk
  intro H locs ls hP hl
  have hR : (tRm fr2 lo2).frames + 1 ≤ (gR g).frames ∧ 8 + (maxL + 11) + (tRm fr2 lo2).locals ≤ (gR g).locals := ⟨Nat.le_trans hf B.2.2.2.2.1, Nat.le_trans hlo B.2.2.2.2.2⟩
  have hcell : ∃ cellB : Cell, H[t]? = some cellB ∧ cellB.vm.isStatics = false ∧ (gs g).vm.findClass RX3 = some cellB.cls := by
    obtain ⟨cell, q1, q2, q3, -⟩ := hP.1.1
    exact ⟨cell, q1, by rw [q3]; rfl, by rw [q2]; exact B.2.1.1.2.1⟩
  refine gt_after hP (va_runV (As := As) (rest := rest) B.1 hM (cwV n B.1.2.2.2.2 hG rfl rfl rfl hd hR) ⟨(gt_pre B.2.1 hP (av := .ref t :: As)).1, hcell, (gt_pre B.2.1 hP (av := .ref t :: As)).2⟩ rfl hn hl.1 rfl (lv_room hrest) dg ⟨hcu.1, hcu.2⟩) (fun v J' lw' H1 locs1 hp hP' => k v J' lw' hp H1 locs1 ls hP' hl)
theorem gt_callS (B : BdT g d cc nL ret fr lo) {ret2 : Option FieldType} (hM : MetT g.2.1 y bytes maxL ret2 fr2 lo2 As d t J lw post) (hG : GoodIn lw_all (va_wsS RX3 index y (ws_ y bytes maxL ret2)))
    (hd : y.cls ≠ "java/lang/invoke/MethodHandle" ∧ y.cls ≠ "java/lang/invoke/VarHandle" ∧ (parseMethodDescriptor y.desc).map (fun d => d.parameters.length) = some n) (hn : As.length = n)
    (hf : fr2 + 1 ≤ fr) (hlo : 8 + (maxL + 11) + lo2 ≤ lo) (hcu : cu ≤ (gR g).cells ∧ 24 * cu ≤ (gR g).slots) {stk : List Value} (hstk : stk = As.reverse ++ rest) (hrest : (rest.map fun v => v.category).sum ≤ 8) (dg : decode cc pc = .ok (.invokestatic index, 3))
    (k : ∀ (v : Option Value) J' lw', post v J' lw' → GJ g nL (TP d t J' lw' H0) cu Q (pc + 3) lc (v.toList ++ rest)) : GJ g nL (TP d t J lw H0) cu Q pc lc stk := by
  subst hstk
  intro H locs ls hP hl
  have hR : (tRm fr2 lo2).frames + 1 ≤ (gR g).frames ∧ 8 + (maxL + 11) + (tRm fr2 lo2).locals ≤ (gR g).locals := ⟨Nat.le_trans hf B.2.2.2.2.1, Nat.le_trans hlo B.2.2.2.2.2⟩
  refine gt_after hP (va_runS (As := As) (rest := rest) B.1 hM (va_cwS n B.1.2.2.2.2 hG rfl rfl rfl hd hR) (gt_pre B.2.1 hP) rfl hn hl.1 rfl (lv_room hrest) dg ⟨hcu.1, hcu.2⟩) (fun v J' lw' H1 locs1 hp hP' => k v J' lw' hp H1 locs1 ls hP' hl)
end TEND
